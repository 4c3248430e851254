/-! THE COMPONENT: new cells change nothing; places asked for -/
section Cq
variable {o q5 : Nat} {U : (Nat → Nat) × Nat × Int32 × Int32} {N : Nt} {R X : Rw} {P : Nat × (Nat → Rw)} {I : Bool × Rw} {tb : Nat} {la fa : Nat → Nat} {ka : Nat} {kb : Nat → Nat} {h u : Hp} {Q : Int32 → Hp → Prop} {V : Unit → Hp → Prop} {m : Nat} {a b c : Int32}
theorem CoD.ext (H : CoD o q5 U N R P I tb la fa ka kb h) (e : ∀ a, a < h.2 → u.1 a = h.1 a) (z : h.2 ≤ u.2) : CoD o q5 U N R P I tb la fa ka kb u := by
  obtain ⟨hN, ⟨r0, t0, ar, ng, cl, ⟨q1, q2⟩, sz⟩, hn, hz, h1, h2, h3, h4, ⟨k1, k4, k5, k6⟩, hk2, hk3⟩ := H
  have bk : ∀ c, c + 39 ≤ h.2 → ∀ a, c ≤ a → a < c + 39 → u.1 a = h.1 a := fun c hc a _ ha => e a (by omega)
  refine ⟨hN, ⟨by rw [e _ (by omega)]; exact r0, by rw [e _ (by omega)]; exact t0, by rw [e _ (by omega), e _ (by omega), e _ (by omega)]; exact ar, by rw [e _ (by omega)]; exact ng, by rw [e _ (by omega)]; exact cl, ⟨q1, by rw [e _ (by omega)]; exact q2⟩, by omega⟩, hn.kept hz fun a q => e a q.1, ?_, h1.kept (bk _ (by omega)), CG.kept h2 (bk _ (by omega)), CG.kept h3 (bk _ (by omega)), fun q => (h4 q).kept (bk _ (by omega)), ⟨by rw [e _ (by omega)]; exact k1, k4, fun i hi => ?_, k6⟩, hk2, fun i hi => (hk3 i hi).kept (bk _ (k5 i (by omega)).2.2)⟩
  · obtain ⟨z0, z1, z2, z3, z4⟩ := hz
    have cv : ∀ a, co_z o ka kb h a → co_z o ka kb u a := fun a q => ⟨by have := q.1; omega, q.2⟩
    exact ⟨cv _ z0, cv _ z1, cv _ z2, fun l hl => cv _ (z3 l hl), fun f hf => ⟨cv _ (z4 f hf).1, cv _ (z4 f hf).2⟩⟩
  · obtain ⟨q1, q2, q3⟩ := k5 i hi
    exact ⟨CG.kept q1 (bk _ q3), q2, by omega⟩
theorem CoD.root (H : CoD o q5 U N R P I tb la fa ka kb h) : ∃ F, h.1 o = some (.inr (0, F)) ∧ md_rf o tb F ∧ F 1 = .int (nI U.2.1) ∧ F 2 = .int U.2.2.1 ∧ F 3 = .int U.2.2.2 ∧ F 15 = .int (nI P.1) ∧ F 16 = .int (md_bi I.1) := by
  obtain ⟨F, r1, r2, r3, r4, r5, r6, r7, r8, r9⟩ := H.2.1.1
  exact ⟨F, r1, r2, r3, r4, r5, r7, r8⟩
theorem CoD.size (H : CoD o q5 U N R P I tb la fa ka kb h) : o + 128 ≤ h.2 := H.2.1.2.2.2.2.2.2
/-- one number within bounds, in an array of its own -/
theorem co_are {x y w : Int32} {e : Nat} (he : h.1 e = some (.inl (0, 1, .inl (upd (fun _ => 0) 0 a)))) (kk : Q (if a < x ∨ y < a then 0 else 1) h) : wp (fx_X1_areIn x y e) Q h := by
  unfold fx_X1_areIn
  refine wp_bd (w_al he ?_)
  refine wp_forB (J := fun i w v => w = (if i = 0 then 1 else if a < x ∨ y < a then 0 else 1) ∧ v = h) 1 (by decide) ⟨rfl, rfl⟩ rfl ?_ ?_
  · rintro i g w v hi ⟨rfl, rfl⟩ hk
    have e0 : i = 0 := by omega
    subst e0
    rw [fx_X1_areIn_L13]
    unfold fx_X1_areIn_J47 fx_X1_areIn_J48
    refine wp_ifF (nI_ge (a := 0) (b := 1) (by decide) (by decide)) (wp_bd (w_ld he (j := 0) rfl (by decide) (by decide) ?_))
    rw [upd_eq, if_pos rfl]
    refine wp_ifF (by decide) (wp_if (fun h1 => hk _ _ ⟨?_, rfl⟩) (fun h1 => wp_if (fun h2 => hk _ _ ⟨?_, rfl⟩) (fun h2 => hk _ _ ⟨?_, rfl⟩)))
    · rw [if_neg (by decide), if_pos (Or.inl h1)]
    · rw [if_neg (by decide), if_pos (Or.inr h2)]
    · rw [if_neg (by decide), if_neg (by rintro (q | q); exact h1 q; exact h2 q)]
  · rintro g w v ⟨rfl, rfl⟩
    rw [fx_X1_areIn_L13]
    refine wp_ifT (Int32.le_refl _) ?_
    rw [if_neg (show ¬ (1 : Nat) = 0 by decide)]
    refine wp_rz ?_ kk
    split
    · exact Or.inl rfl
    · exact Or.inr rfl
theorem md_op_are {n : Nat} (hn : n < 2 ^ 31) : (if a < 0 ∨ nI n - 1 < a then (0 : Int32) else 1) = if md_op a n = none then 0 else 1 := by
  rcases md_op_c a hn with ⟨e1, e2⟩ | ⟨l, hl, rfl, e1⟩
  · rw [if_pos e1]
    refine if_pos ?_
    by_cases h0 : a < 0
    · exact Or.inl h0
    · refine Or.inr ?_
      rcases e2 with e2 | e2
      · exact absurd e2 h0
      · obtain ⟨j, hj, rfl⟩ := nI_of h0
        have := (nI_leI hn hj).mp e2
        rcases Nat.eq_zero_or_pos n with q | q
        · subst q
          exact Int32.lt_of_lt_of_le (show nI 0 - 1 < 0 by decide) (nI_pos' hj)
        · obtain ⟨k, rfl⟩ : ∃ k, n = k + 1 := ⟨n - 1, by omega⟩
          rw [nI_pred]
          exact nI_lt (by omega) hj
  · have e2 : ¬ md_op (nI l) n = none := by rw [e1]; exact fun q => nomatch q
    rw [if_neg e2]
    obtain ⟨k, rfl⟩ : ∃ k, n = k + 1 := ⟨n - 1, by omega⟩
    rw [nI_pred]
    exact if_neg (by rintro (q | q); exact nI_pos (by omega) q; exact nI_nlt (by omega) (by omega) q)
theorem co_place {C S k n : Nat} {fx : Nat → Int32 → gM Int32} (hfx : ∀ o a, fx o a = gw_b0 (gw_gr 0 4 o) fun x1 => gw_b0 (gw_gi 1 (k + 2) x1) fun x4 => gw_bc (gw_na 0 (1 : Int32)) fun x7 => gw_b0 (gw_st x7 (0 : Int32) a) fun _ => gw_b0 (fx_X1_areIn (0 : Int32) (x4 - (1 : Int32)) x7) fun x13 => gw_rz x13) (hk : k < 9) (hn : N.1 k = n) (hn2 : n ≤ 10) (hC : 1 ≤ C) (hS : 1 ≤ S) (H : CoD o q5 U N R P I tb la fa ka kb h)
    (k0 : ∀ u, CoD o q5 U N R P I tb la fa ka kb u → md_op a n = none → Q 0 u) (k1 : ∀ u l, CoD o q5 U N R P I tb la fa ka kb u → l < n → a = nI l → md_op a n = some l → Q 1 u) : wg (gw_on 0 o (fx o a)) C S Q h := by
  obtain ⟨F, r1, r2, -⟩ := H.root
  obtain ⟨FN, n1, n2, n3, n4⟩ := H.2.2.1.1
  refine g_on r1 ?_
  rw [hfx]
  refine wg_b0 (w_gr r1 r2.2.1 ?_)
  refine wg_b0 (w_gi n1 (n4 k hk) ?_)
  rw [hn]
  refine wg_bc 1 1 hC hS (g_na (n := 1) rfl (by decide) (Nat.le_refl _) (Nat.le_refl _) ?_)
  refine wg_b0 (w_st gp_eq (j := 0) rfl (by decide) (by decide) ?_)
  generalize hv : gw_set (gw_push h (.inl (0, 1, .inl fun _ => 0))) h.2 (.inl (0, 1, .inl (upd (fun _ => 0) 0 a))) = v
  have he : v.1 h.2 = some (.inl (0, 1, .inl (upd (fun _ => 0) 0 a))) := by rw [← hv]; exact gs_eq
  have Hv : CoD o q5 U N R P I tb la fa ka kb v := H.ext (fun a ha => by rw [← hv, gs_ne (by omega), gp_ne (by omega)]) (by rw [← hv]; exact Nat.le_succ _)
  refine wg_b0 (co_are (w := 0) he ?_)
  rw [md_op_are (by omega)]
  rcases md_op_c a (n := n) (by omega) with ⟨e1, e2⟩ | ⟨l, hl, ea, e1⟩
  · rw [if_pos e1]
    exact wg_rz (Or.inl rfl) (k0 v Hv e1)
  · rw [if_neg (by rw [e1]; exact fun q => nomatch q)]
    exact wg_rz (Or.inr rfl) (k1 v l Hv hl ea e1)
theorem co_isLink {C S : Nat} (hC : 1 ≤ C) (hS : 1 ≤ S) (H : CoD o q5 U N R P I tb la fa ka kb h) (k0 : ∀ u, CoD o q5 U N R P I tb la fa ka kb u → md_op a (md_nl N) = none → Q 0 u) (k1 : ∀ u l, CoD o q5 U N R P I tb la fa ka kb u → l < md_nl N → a = nI l → md_op a (md_nl N) = some l → Q 1 u) : wg (gw_on 0 o (fx_X1_isLink o a)) C S Q h :=
  co_place (k := 0) (fx := fx_X1_isLink) (fun _ _ => rfl) (by decide) rfl H.1.nl hC hS H k0 k1
theorem co_isFlow {C S : Nat} (hC : 1 ≤ C) (hS : 1 ≤ S) (H : CoD o q5 U N R P I tb la fa ka kb h) (k0 : ∀ u, CoD o q5 U N R P I tb la fa ka kb u → md_op a (md_nf N) = none → Q 0 u) (k1 : ∀ u f, CoD o q5 U N R P I tb la fa ka kb u → f < md_nf N → a = nI f → md_op a (md_nf N) = some f → Q 1 u) : wg (gw_on 0 o (fx_X1_isFlow o a)) C S Q h :=
  co_place (k := 1) (fx := fx_X1_isFlow) (fun _ _ => rfl) (by decide) rfl (Nat.le_trans H.1.nf (by decide)) hC hS H k0 k1
/-! ticks -/
theorem co_tick (hI : md_iv N m R) (hm : m ≤ 20000) (H : CoD o q5 U N R P I tb la fa ka kb h) (kk : ∀ u, CoD o q5 U N (md_tk N R) P I tb la fa ka kb u → V () u) : wg (gw_on 0 o (fx_X1_ticks o (o + 10))) 20 30 V h := by
  obtain ⟨F0, R0, rd, gv, co, ns, e1, HT, r1⟩ := H.tk (Or.inl rfl) H.2.2.2.2.1
  refine tk_ticks hI hm e1 HT fun u rd gv co ns HT2 hco hns => kk u ((H.back (R0 := R0) (Or.inl rfl) HT2 r1 ⟨nI ns.1, fun F hF => ?_⟩).1 rfl)
  obtain ⟨F', g1, g2, -⟩ := HT2.2.2.2.1
  rw [hF] at g1
  obtain rfl : F = F' := by cases g1; rfl
  exact g2 (by omega)
theorem co_trial (hI : md_iv N m X) (hm : m ≤ 20000) (H : CoD o q5 U N R P I tb la fa ka kb h) (HX : CQ (o + 88) tb N X h) (kk : ∀ (u : Hp) (co : Nat → Int32), CoD o q5 U N R P I tb la fa ka kb u → CQ (o + 88) tb N (md_tk N X) u → u.1 (o + 7) = some (.inl (0, 80, .inl co)) → (∀ l f, l < md_nl N → f < md_nf N → co (8 * l + f) = md_tc N X l f) → V () u) : wg (gw_on 0 o (fx_X1_ticks o (o + 88))) 20 30 V h := by
  obtain ⟨F0, R0, rd, gv, co, ns, e1, HT, r1⟩ := H.tk (Or.inr rfl) HX
  refine tk_ticks hI hm e1 HT fun u rd gv co ns HT2 hco hns => ?_
  have h9 : ∀ F, u.1 o = some (.inr (0, F)) → F 9 = .int (nI ns.1) := fun F hF => by
    obtain ⟨F', g1, g2, -⟩ := HT2.2.2.2.1
    rw [hF] at g1
    obtain rfl : F = F' := by cases g1; rfl
    exact g2 (by omega)
  obtain ⟨q1, q2⟩ := (H.back (R0 := R0) (Or.inr rfl) HT2 r1 ⟨nI ns.1, h9⟩).2 rfl
  exact kk u co q1 q2 HT2.2.2.2.2.1.2.2 hco
end Cq
