/-! THE COMPONENT: a row is laid by -/
section Cf
variable {o q5 : Nat} {U : (Nat → Nat) × Nat × Int32 × Int32} {N : Nt} {R X : Rw} {P : Nat × (Nat → Rw)} {I : Bool × Rw} {tb : Nat} {la fa : Nat → Nat} {ka : Nat} {kb : Nat → Nat} {h u : Hp} {Q : Int32 → Hp → Prop} {V : Unit → Hp → Prop} {m : Nat} {a b c x : Int32}
theorem CoD.past {p : Nat} {P1 P2 : Nat → Rw} (H : CoD o q5 U N R (p, P1) I tb la fa ka kb h) (e : ∀ i, i < p → P2 i = P1 i) : CoD o q5 U N R (p, P2) I tb la fa ka kb h := by
  obtain ⟨c1, c2, c3, c4, c5, c6, c7, c8, c9, c10, c11⟩ := H
  exact ⟨c1, c2, c3, c4, c5, c6, c7, c8, c9, c10, fun i hi => by show CQ (kb i) tb N (P2 i) h; rw [e i hi]; exact c11 i hi⟩
theorem co_77 (h7 : ∀ f, f < md_nf N → R.2.1 f 7 = 0 ∨ R.2.1 f 7 = 1) (H : CoD o q5 U N R P I tb la fa ka kb h) (hp : P.1 < ka) (kk : ∀ u, CoD o q5 U N R (P.1 + 1, va_up P.2 P.1 R) I tb la fa ka kb u → V () u) : wg (fx_X1_canUndo_J77 o) 0 0 V h := by
  unfold fx_X1_canUndo_J77
  have hks := H.2.2.2.2.2.2.2.2
  have h20 := hks.1.2.1
  obtain ⟨g, g1, g2, g3⟩ := hks.1.1
  obtain ⟨F, r1, r2, r3, r4, r5, r6, r7⟩ := H.root
  have hb := (hks.1.2.2.1 P.1 hp).2.1
  refine wg_b0 (w_gr r1 r2.2.2.2.2.2.2.2.2.2.2 ?_)
  refine wg_b0 (w_gi r1 r6 ?_)
  refine wg_b0 (w_lr (j := P.1) g1 rfl (by omega) (by decide) (g2 _ hp) ?_)
  refine wg_b0 (w_gr r1 r2.2.2.2.2.2.2.2.1 ?_)
  have ne : ∀ i, i < P.1 → kb i ≠ kb P.1 := fun i hi => by have := hks.1.2.2.2 i P.1 (by omega) hp (by omega); omega
  refine wg_b0 (co_like H (Or.inr (Or.inr (Or.inr ⟨P.1, hp, rfl⟩))) (Or.inl rfl) (by omega) H.2.2.2.2.1 h7 ne fun u Hu hX hk => ?_)
  rw [if_neg (by omega), if_neg (by omega)] at Hu
  obtain ⟨F, r1, r2, r3, r4, r5, r6, r7⟩ := Hu.root
  refine wg_b0 (w_gi r1 r6 ?_)
  rw [show nI P.1 + (1 : Int32) = nI (P.1 + 1) from nI_1 _]
  refine wg_b0 (w_pv r1 (wg_rc (kk _ ?_)))
  refine Hu.num (p := P.1 + 1) (i := I.1) (Y := I.2) r1 (by omega) (fun i hi => ?_) Hu.2.2.2.2.2.2.2.1 (fun k q _ => updV_ne q) updV_eq (by rw [updV_ne (by decide)]; exact r7)
  unfold va_up
  by_cases e : i = P.1
  · rw [if_pos e, e]
    exact hX
  · rw [if_neg e]
    exact Hu.2.2.2.2.2.2.2.2.2.2 i (by show i < P.1; omega)
theorem co_49 (h7 : ∀ f, f < md_nf N → R.2.1 f 7 = 0 ∨ R.2.1 f 7 = 1) (H : CoD o q5 U N R P I tb la fa ka kb h) (hp : P.1 < 20) (kk : ∀ u ka kb, CoD o q5 U N R (P.1 + 1, va_up P.2 P.1 R) I tb la fa ka kb u → V () u) : wg (fx_X1_canUndo_J49 o) 39 334 V h := by
  unfold fx_X1_canUndo_J49
  have hks := H.2.2.2.2.2.2.2.2
  have h20 := hks.1.2.1
  have hpk := hks.2.1
  obtain ⟨g, g1, g2, g3⟩ := hks.1.1
  obtain ⟨F, r1, r2, r3, r4, r5, r6, r7⟩ := H.root
  refine wg_b0 (w_gr r1 r2.2.2.2.2.2.2.2.2.2.2 ?_)
  refine wg_b0 (w_gi r1 r6 ?_)
  refine wg_b0 (w_lq (j := P.1) g1 rfl (by omega) (by decide) ?_)
  rcases Nat.lt_or_ge P.1 ka with hc | hc
  · rw [g2 _ hc]
    exact (co_77 h7 H hc fun u Hu => kk u ka kb Hu).mono (by decide) (by decide) fun a u q => q
  · have e : P.1 = ka := by omega
    rw [g3 _ (by omega) (by omega)]
    refine wg_b0 (w_gr r1 r2.2.2.2.2.2.2.2.2.2.2 ?_)
    refine wg_b0 (w_gi r1 r6 ?_)
    refine wg_bc 1 4 (by decide) (by decide) (g_nw (by decide) (by decide) ?_)
    have sz := H.size
    refine wg_bc 38 330 (by decide) (by decide) (st_init (b := h.2) gp_eq rfl fun u hS hu2 hu => ?_)
    have lo : ∀ a, a < h.2 → u.1 a = h.1 a := fun a ha => by rw [hu a ha, gp_ne (by omega)]
    obtain ⟨FS, s1, s2, s3⟩ := hS.1
    refine wg_b0 (w_sr (j := P.1) ((lo _ (by omega)).trans g1) s1 rfl (by omega) (by decide) ?_)
    generalize hv : gw_set u (o + 127) (.inl (8, 20, .inr (.inr (.inr (.inr (va_up g P.1 (some h.2))))))) = v
    have lv : ∀ a, a < h.2 → a ≠ o + 127 → v.1 a = h.1 a := fun a q1 q2 => by rw [← hv, gs_ne q2, lo a q1]
    have kv : v.1 (o + 127) = some (.inl (8, 20, .inr (.inr (.inr (.inr (va_up g P.1 (some h.2))))))) := by rw [← hv]; exact gs_eq
    have nv : v.2 = h.2 + 39 := by rw [← hv]; exact hu2
    have bk : ∀ c, co_bk o ka kb c → ∀ a, c ≤ a → a < c + 39 → v.1 a = h.1 a := fun c hc a q1 q2 => by
      obtain ⟨i1, i2, i3, i6, i4, i5⟩ := H.in hc
      exact lv a (by omega) (by omega)
    have nS : SB h.2 v := CG.kept hS fun a q1 q2 => by rw [← hv]; exact gs_ne (by omega)
    have kn : ∀ i, i < ka → va_up kb ka h.2 i = kb i := fun i hi => by unfold va_up; rw [if_neg (by omega)]
    have kl : va_up kb ka h.2 ka = h.2 := by unfold va_up; rw [if_pos rfl]
    have Hv : CoD o q5 U N R P I tb la fa (ka + 1) (va_up kb ka h.2) v := by
      have hb : ∀ c, co_bk o ka kb c → SB c h := fun c hc => (H.in hc).2.2.2.1
      obtain ⟨hN, ⟨r0, t0, ar, ng, cl, ⟨q1, q2⟩, sz⟩, hn, hz, h1, h2, h3, h4, ⟨k1, k4, k5, k6⟩, hk2, hk3⟩ := H
      have cvz : ∀ a, co_z o ka kb h a → co_z o (ka + 1) (va_up kb ka h.2) v a := fun a q => ⟨by have := q.1; omega, q.2.1, fun i hi => by
        rcases Nat.lt_or_ge i ka with hq | hq
        · rw [kn i hq]
          exact q.2.2 i hq
        · rw [show i = ka by omega, kl]
          have := q.1
          omega⟩
      refine ⟨hN, ⟨by rw [lv _ (by omega) (by omega)]; exact r0, by rw [lv _ (by omega) (by omega)]; exact t0, by rw [lv _ (by omega) (by omega), lv _ (by omega) (by omega), lv _ (by omega) (by omega)]; exact ar, by rw [lv _ (by omega) (by omega)]; exact ng, by rw [lv _ (by omega) (by omega)]; exact cl, ⟨q1, by rw [lv _ (by omega) (by omega)]; exact q2⟩, by omega⟩, hn.kept hz fun a q => lv a q.1 (by have := q.2.1; omega), ?_, h1.kept (bk _ (Or.inl rfl)), CG.kept h2 (bk _ (Or.inr (Or.inl rfl))), CG.kept h3 (bk _ (Or.inr (Or.inr (Or.inl rfl)))), fun q => (h4 q).kept (bk _ (Or.inr (Or.inl rfl))), ⟨⟨_, kv, fun i hi => ?_, fun i hi1 hi2 => ?_⟩, by omega, fun i hi => ?_, fun i j hi hj hne => ?_⟩, by omega, fun i hi => ?_⟩
      · obtain ⟨z0, z1, z2, z3, z4⟩ := hz
        exact ⟨cvz _ z0, cvz _ z1, cvz _ z2, fun l hl => cvz _ (z3 l hl), fun f hf => ⟨cvz _ (z4 f hf).1, cvz _ (z4 f hf).2⟩⟩
      · rcases Nat.lt_or_ge i ka with hq | hq
        · rw [kn i hq]
          unfold va_up
          rw [if_neg (by omega)]
          exact g2 i hq
        · rw [show i = ka by omega, kl]
          unfold va_up
          rw [if_pos (by omega)]
      · unfold va_up
        rw [if_neg (by omega)]
        exact g3 i (by omega) hi2
      · rcases Nat.lt_or_ge i ka with hq | hq
        · rw [kn i hq]
          obtain ⟨z1, z2, z3⟩ := k5 i hq
          exact ⟨CG.kept z1 (bk _ (Or.inr (Or.inr (Or.inr ⟨i, hq, rfl⟩)))), z2, by omega⟩
        · rw [show i = ka by omega, kl]
          exact ⟨nS, by omega, by omega⟩
      · rcases Nat.lt_or_ge i ka with hq | hq <;> rcases Nat.lt_or_ge j ka with hr | hr
        · rw [kn i hq, kn j hr]
          exact k6 i j hq hr hne
        · rw [kn i hq, show j = ka by omega, kl]
          have := (k5 i hq).2.2
          omega
        · rw [kn j hr, show i = ka by omega, kl]
          have := (k5 j hr).2.2
          omega
        · omega
      · rw [kn i (by omega)]
        exact (hk3 i hi).kept (bk _ (Or.inr (Or.inr (Or.inr ⟨i, by omega, rfl⟩))))
    exact (co_77 h7 Hv (by omega) fun u Hu => kk u _ _ Hu).mono (by decide) (by decide) fun a u q => q
theorem w_cq {g : Nat → Option Nat} {e : Nat} (h1 : h.1 e = some (.inl (8, 20, .inr (.inr (.inr (.inr g)))))) (h2 : ∀ i, i < 20 → ∃ y F, g i = some y ∧ h.1 y = some (.inr (2, F))) (kk : V () (gw_set h e (.inl (8, 20, .inr (.inr (.inr (.inr (va_cpy g g 1 0 19)))))))) : wp (gw_cq 8 2 e (1 : Int32) e (0 : Int32) (19 : Int32)) V h := by
  refine ⟨(), _, ?_, kk⟩
  unfold gw_cq
  rw [ar_of h1]
  dsimp only
  rw [show (1 : Int32).toNatClampNeg = 1 by decide, show (0 : Int32).toNatClampNeg = 0 by decide, show (19 : Int32).toNatClampNeg = 19 by decide]
  refine if_neg ?_
  rintro (q | q)
  · exact absurd q (by decide)
  · rw [List.any_eq_true] at q
    obtain ⟨i, hi, hq⟩ := q
    rw [List.mem_range] at hi
    obtain ⟨y, F, e1, e2⟩ := h2 (1 + i) (by omega)
    rw [e1] at hq
    dsimp only at hq
    rw [ob_of e2] at hq
    exact nomatch hq
theorem co_can (h7 : ∀ f, f < md_nf N → R.2.1 f 7 = 0 ∨ R.2.1 f 7 = 1) (H : CoD o q5 U N R P I tb la fa ka kb h) (kk : ∀ u ka kb, CoD o q5 U N R (md_rm P R) I tb la fa ka kb u → V () u) : wg (gw_on 0 o (fx_X1_canUndo o)) 39 334 V h := by
  have hks := H.2.2.2.2.2.2.2.2
  have h20 := hks.1.2.1
  have hpk := hks.2.1
  obtain ⟨g, g1, g2, g3⟩ := hks.1.1
  obtain ⟨F, r1, r2, r3, r4, r5, r6, r7⟩ := H.root
  refine g_on r1 ?_
  unfold fx_X1_canUndo
  refine wg_b0 (w_gi r1 r6 ?_)
  by_cases e : P.1 = 20
  · have eka : ka = 20 := by omega
    subst eka
    refine wg_ifT (by rw [e]; decide) ?_
    refine wg_b0 (w_gr r1 r2.2.2.2.2.2.2.2.2.2.2 ?_)
    refine wg_b0 (w_lr (j := 0) g1 rfl (by decide) (by decide) (g2 0 (by decide)) ?_)
    refine wg_b0 (w_gr r1 r2.2.2.2.2.2.2.2.2.2.2 ?_)
    refine wg_b0 (w_gr r1 r2.2.2.2.2.2.2.2.2.2.2 ?_)
    refine wg_b0 (w_cq g1 (fun i hi => ?_) ?_)
    · obtain ⟨F, z1, -⟩ := (hks.1.2.2.1 i hi).1.1
      exact ⟨_, F, g2 i hi, z1⟩
    have hb0 := (hks.1.2.2.1 0 (by decide)).2.1
    refine wg_b0 (w_gr (F := F) (by rw [gs_ne (by omega)]; exact r1) r2.2.2.2.2.2.2.2.2.2.2 ?_)
    obtain ⟨FS, z1, -⟩ := (hks.1.2.2.1 0 (by decide)).1.1
    refine wg_b0 (w_sr (j := 19) gs_eq (F := FS) (by rw [gs_ne (by omega)]; exact z1) rfl (by decide) (by decide) ?_)
    generalize hv : gw_set (gw_set h (o + 127) (.inl (8, 20, .inr (.inr (.inr (.inr (va_cpy g g 1 0 19))))))) (o + 127) (.inl (8, 20, .inr (.inr (.inr (.inr (va_up (va_cpy g g 1 0 19) 19 (some (kb 0)))))))) = v
    have lv : ∀ a, a ≠ o + 127 → v.1 a = h.1 a := fun a q => by rw [← hv, gs_ne q, gs_ne q]
    have kv : v.1 (o + 127) = some (.inl (8, 20, .inr (.inr (.inr (.inr (va_up (va_cpy g g 1 0 19) 19 (some (kb 0)))))))) := by rw [← hv]; exact gs_eq
    have nv : v.2 = h.2 := by rw [← hv]; rfl
    refine wg_b0 (w_gi (F := F) (by rw [lv _ (by omega)]; exact r1) r6 ?_)
    rw [e, show nI 20 - (1 : Int32) = nI 19 from nI_pred 19]
    refine wg_b0 (w_pv (F := F) (by rw [lv _ (by omega)]; exact r1) ?_)
    have Hv : CoD o q5 U N R (20, fun i => P.2 ((i + 1) % 20)) I tb la fa 20 (fun i => kb ((i + 1) % 20)) v := by
      have bk : ∀ c, co_bk o 20 kb c → ∀ a, c ≤ a → a < c + 39 → v.1 a = h.1 a := fun c hc a q1 q2 => by
        obtain ⟨i1, i2, i3, i6, i4, i5⟩ := H.in hc
        exact lv a (by omega)
      obtain ⟨hN, ⟨r0, t0, ar, ng, cl, ⟨q1, q2⟩, sz⟩, hn, hz, h1, h2, h3, h4, ⟨k1, k4, k5, k6⟩, hk2, hk3⟩ := H
      have cvz : ∀ a, co_z o 20 kb h a → co_z o 20 (fun i => kb ((i + 1) % 20)) v a := fun a q => ⟨by have := q.1; omega, q.2.1, fun i hi => q.2.2 _ (by omega)⟩
      rw [e] at r0
      refine ⟨hN, ⟨by rw [lv _ (by omega)]; exact r0, by rw [lv _ (by omega)]; exact t0, by rw [lv _ (by omega), lv _ (by omega), lv _ (by omega)]; exact ar, by rw [lv _ (by omega)]; exact ng, by rw [lv _ (by omega)]; exact cl, ⟨q1, by rw [lv _ (by omega)]; exact q2⟩, by omega⟩, hn.kept hz fun a q => lv a (by have := q.2.1; omega), ?_, h1.kept (bk _ (Or.inl rfl)), CG.kept h2 (bk _ (Or.inr (Or.inl rfl))), CG.kept h3 (bk _ (Or.inr (Or.inr (Or.inl rfl)))), fun q => (h4 q).kept (bk _ (Or.inr (Or.inl rfl))), ⟨⟨_, kv, fun i hi => ?_, fun i hi1 hi2 => absurd hi1 (by omega)⟩, by decide, fun i hi => ?_, fun i j hi hj hne => k6 _ _ (by omega) (by omega) (by omega)⟩, Nat.le_refl _, fun i hi => ?_⟩
      · obtain ⟨z0, z1, z2, z3, z4⟩ := hz
        exact ⟨cvz _ z0, cvz _ z1, cvz _ z2, fun l hl => cvz _ (z3 l hl), fun f hf => ⟨cvz _ (z4 f hf).1, cvz _ (z4 f hf).2⟩⟩
      · unfold va_up va_cpy
        by_cases q : i = 19
        · rw [if_pos q, q]
        · rw [if_neg q]
          have e2 : (i + 1) % 20 = i + 1 := by omega
          simp only [e2]
          rw [← g2 (i + 1) (by omega)]
          simp only [Nat.zero_le, Nat.zero_add, true_and, Nat.sub_zero]
          rw [if_pos (by omega), Nat.add_comm]
      · obtain ⟨z1, z2, z3⟩ := k5 ((i + 1) % 20) (by omega)
        exact ⟨CG.kept z1 (bk _ (Or.inr (Or.inr (Or.inr ⟨_, by omega, rfl⟩)))), z2, by rw [nv]; exact z3⟩
      · exact (hk3 ((i + 1) % 20) (by omega)).kept (bk _ (Or.inr (Or.inr (Or.inr ⟨_, by omega, rfl⟩))))
    have Hw := Hv.num (p := 19) (P' := fun i => P.2 ((i + 1) % 20)) (i := I.1) (Y := I.2) (F := F) (by rw [lv _ (by omega)]; exact r1) (by decide) (fun i hi => Hv.2.2.2.2.2.2.2.2.2.2 i (by show i < 20; omega)) Hv.2.2.2.2.2.2.2.1 (G := updV F 15 (.int (nI 19))) (fun k q _ => updV_ne q) updV_eq (by rw [updV_ne (by decide)]; exact r7)
    refine co_49 h7 Hw (show 19 < 20 by decide) fun u ka kb Hu => kk u ka kb ?_
    unfold md_rm
    rw [if_pos e]
    refine Hu.past fun i hi => ?_
    have hi : i < 20 := hi
    unfold va_up
    by_cases q : i = 19
    · rw [if_neg (by omega), if_pos q]
    · rw [if_pos (by omega), if_neg q]
      show P.2 (i + 1) = P.2 ((i + 1) % 20)
      rw [show (i + 1) % 20 = i + 1 by omega]
  · refine wg_ifF (fun q => e (by have q2 := congrArg Int32.toNatClampNeg q; rw [nI_clamp (by omega), show (20 : Int32).toNatClampNeg = 20 by decide] at q2; exact q2)) ?_
    refine co_49 h7 H (by omega) fun u ka kb Hu => kk u ka kb ?_
    unfold md_rm
    rw [if_neg e]
    exact Hu
end Cf
