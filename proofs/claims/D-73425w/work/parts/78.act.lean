/-! THE COMPONENT: acts -/
theorem CQ.eqv {b tb : Nat} {N : Nt} {R R0 : Rw} {h : Hp} (H : CQ b tb N R0 h) (e : md_eqv R R0) : CQ b tb N R h := by
  obtain ⟨c1, F, f1, f2, f3⟩ := H
  exact ⟨c1.less (Nat.le_refl _) (Nat.le_refl _) (fun l _ => by rw [e.1]) (fun f _ k hk => (e.2.2 f k hk).symm), F, f1, f2, by rw [f3, e.2.1]⟩
theorem md_eqv.S {R R0 : Rw} {f k : Nat} {x : Int32} (e : md_eqv R R0) : md_eqv (md_S R f k x) (md_S R0 f k x) := by
  refine ⟨e.1, e.2.1, fun g j hj => ?_⟩
  unfold md_S md_u2
  dsimp only
  rw [e.2.2 g j hj]
theorem md_eqv.E {R R0 : Rw} {l k : Nat} {x : Int32} (e : md_eqv R R0) : md_eqv (md_E R l k x) (md_E R0 l k x) := by
  refine ⟨?_, e.2.1, e.2.2⟩
  unfold md_E
  rw [e.1]
section Cc
variable {o q5 : Nat} {U : (Nat → Nat) × Nat × Int32 × Int32} {N : Nt} {R X : Rw} {P : Nat × (Nat → Rw)} {I : Bool × Rw} {tb : Nat} {la fa : Nat → Nat} {ka : Nat} {kb : Nat → Nat} {h u : Hp} {Q : Int32 → Hp → Prop} {V : Unit → Hp → Prop} {A : Nat → Hp → Prop} {m l f : Nat} {a b c x : Int32}
theorem CoD.now10 (H : CoD o q5 U N R P I tb la fa ka kb h) (e : ∀ a, ¬ (o + 10 ≤ a ∧ a < o + 10 + 39) → u.1 a = h.1 a) (z : u.2 = h.2) (hQ : CQ (o + 10) tb N X u) : CoD o q5 U N X P I tb la fa ka kb u := by
  have q := H.put (Or.inl rfl) e z hQ (fun _ _ _ _ => trivial) fun i hi => by have := (H.2.2.2.2.2.2.2.2.1.2.2.1 i (by have := H.2.2.2.2.2.2.2.2.2.1; omega)).2.1; omega
  rw [if_pos rfl, if_neg (by omega)] at q
  exact q
theorem co_pS (j k : Nat) (H : CoD o q5 U N R P I tb la fa ka kb h) (hf : f < md_nf N) (hj : md_sk j = k ∧ j < 12 ∧ j ≠ 10) (kk : ∀ u, CoD o q5 U N (md_S R f k x) P I tb la fa ka kb u → V () u) : wp (gw_pv 4 j (o + 10 + 23 + 2 * f) (.int x)) V h := by
  have hF := H.1.nf
  obtain ⟨R0, e1, e2⟩ := H.2.2.2.2.1.cb
  obtain ⟨F, f1, -⟩ := e2.2.2.2.2.2.1 f (by omega)
  refine w_pv f1 (kk _ (H.now10 (fun a ha => gs_ne (by omega)) rfl ?_))
  have q := (e2.pS (x := x) H.1 hf hj.2.1 hj.2.2 f1).cq
  rw [hj.1] at q
  exact q.eqv e1.S
theorem co_pE (j k : Nat) (H : CoD o q5 U N R P I tb la fa ka kb h) (hl : l < md_nl N) (hj : md_ek j = k ∧ 1 ≤ j ∧ j < 12 ∧ j ≠ 4) (kk : ∀ u, CoD o q5 U N (md_E R l k x) P I tb la fa ka kb u → V () u) : wp (gw_pi 3 j (o + 10 + 3 + 2 * l) x) V h := by
  have hL := H.1.nl
  obtain ⟨R0, e1, e2⟩ := H.2.2.2.2.1.cb
  obtain ⟨F, f1, -⟩ := e2.2.2.2.1 l (by omega)
  refine w_pv f1 (kk _ (H.now10 (fun a ha => gs_ne (by omega)) rfl ?_))
  have q := (e2.pE (x := x) H.1 hl hj.2.1 hj.2.2.1 hj.2.2.2 f1).cq
  rw [hj.1] at q
  exact q.eqv e1.E
theorem co_gS (j k : Nat) (H : CoD o q5 U N R P I tb la fa ka kb h) (hf : f < md_nf N) (hj : md_sk j = k ∧ j < 12 ∧ j ≠ 10 ∧ k ≠ 12) (kk : Q (R.2.1 f k) h) : wp (gw_gi 4 j (o + 10 + 23 + 2 * f)) Q h := by
  obtain ⟨F0, R0, rd, gv, co, ns, ev, HT⟩ := H.now
  refine tk_gS j k HT hf ⟨hj.1, hj.2.1, hj.2.2.1⟩ ?_
  rw [ev.2.2 f k hj.2.2.2]
  exact kk
theorem co_gE (j k : Nat) (H : CoD o q5 U N R P I tb la fa ka kb h) (hl : l < md_nl N) (hj : md_ek j = k ∧ 1 ≤ j ∧ j < 12 ∧ j ≠ 4) (kk : Q (R.1 l k) h) : wp (gw_gi 3 j (o + 10 + 3 + 2 * l)) Q h := by
  obtain ⟨F0, R0, rd, gv, co, ns, ev, HT⟩ := H.now
  refine tk_gE j k HT hl hj ?_
  rw [ev.1]
  exact kk
theorem co_now (H : CoD o q5 U N R P I tb la fa ka kb h) (kk : A (o + 10) h) : wp (gw_gr 0 11 o) A h := by
  obtain ⟨F, r1, r2, -⟩ := H.root
  exact w_gr r1 r2.2.2.2.2.2.2.2.1 kk
theorem co_snd (H : CoD o q5 U N R P I tb la fa ka kb h) (hf : f < md_nf N) {k : Nat → gM Int32} {C S : Nat} (kk : wg (k (o + 10 + 23 + 2 * f)) C S Q h) : wg (gw_b0 (gw_gr 0 11 o) fun x => gw_b0 (gw_gr 2 3 x) fun y => gw_b0 (gw_lr 7 y (nI f)) k) C S Q h := by
  have hF := H.1.nf
  obtain ⟨F0, R0, rd, gv, co, ns, ev, HT⟩ := H.now
  exact wg_b0 (tk_now HT (wg_b0 (tk_snds HT (wg_b0 (tk_snd HT (by omega) kk)))))
theorem co_end (H : CoD o q5 U N R P I tb la fa ka kb h) (hl : l < md_nl N) {k : Nat → gM Int32} {C S : Nat} (kk : wg (k (o + 10 + 3 + 2 * l)) C S Q h) : wg (gw_b0 (gw_gr 0 11 o) fun x => gw_b0 (gw_gr 2 2 x) fun y => gw_b0 (gw_lr 6 y (nI l)) k) C S Q h := by
  have hL := H.1.nl
  obtain ⟨F0, R0, rd, gv, co, ns, ev, HT⟩ := H.now
  exact wg_b0 (tk_now HT (wg_b0 (tk_ends HT (wg_b0 (tk_end HT (by omega) kk)))))
/-- an act's end -/
def CoE (o q5 : Nat) (U : (Nat → Nat) × Nat × Int32 × Int32) (N : Nt) (I : Bool × Rw) (tb : Nat) (la fa : Nat → Nat) (y : Ac) (r : Int32) (u : Hp) : Prop := r = y.1 ∧ ∃ ka kb, CoD o q5 U N y.2.1 y.2.2 I tb la fa ka kb u
theorem cu_rate (h7 : ∀ f, f < md_nf N → R.2.1 f 7 = 0 ∨ R.2.1 f 7 = 1) (H : CoD o q5 U N R P I tb la fa ka kb h) : wg (fx_X1_rate o a b) 40 335 (CoE o q5 U N I tb la fa (md_rate N R P a b)) h := by
  unfold fx_X1_rate fx_X1_rate_J20 md_rate
  refine wg_bc 1 1 (by decide) (by decide) (co_isFlow (by decide) (by decide) H (fun u H e => ?_) (fun u f H hf ea e => ?_))
  · rw [e]
    exact wg_ifT rfl (wg_rc ⟨rfl, _, _, H⟩)
  rw [e, ea]
  refine wg_ifF (by decide) ?_
  refine wg_b0 (w_isIn (b := 1) (c := 1024) rfl rfl ?_)
  dsimp only
  by_cases hb : ¬ b < 1 ∧ b ≤ 1024
  · have hc : ¬ (b < 1 ∨ 1024 < b) := by
      rintro (q | q)
      · exact hb.1 q
      · exact Int32.lt_irrefl (Int32.lt_of_lt_of_le q hb.2)
    rw [if_pos hb, if_neg hc]
    refine wg_ifF (by decide) ?_
    refine wg_bc 39 334 (by decide) (by decide) (co_can h7 H fun u ka kb H => ?_)
    refine co_snd H hf ?_
    refine wg_b0 (co_gS 0 0 H hf (by decide) ?_)
    refine wg_b0 (co_pS 0 0 H hf (by decide) fun u H => ?_)
    refine wg_b0 (co_pS 1 1 H hf (by decide) fun u H => ?_)
    exact wg_rc ⟨rfl, _, _, H⟩
  · rw [if_neg hb]
    have hc : b < 1 ∨ 1024 < b := by
      by_cases q : b < 1
      · exact Or.inl q
      · exact Or.inr (Int32.not_le.mp fun z => hb ⟨q, z⟩)
    rw [if_pos hc]
    exact wg_ifT rfl (wg_rc ⟨rfl, _, _, H⟩)
theorem cu_size (h7 : ∀ f, f < md_nf N → R.2.1 f 7 = 0 ∨ R.2.1 f 7 = 1) (H : CoD o q5 U N R P I tb la fa ka kb h) : wg (fx_X1_size o a b) 40 335 (CoE o q5 U N I tb la fa (md_size N R P a b)) h := by
  unfold fx_X1_size fx_X1_size_J20 md_size
  refine wg_bc 1 1 (by decide) (by decide) (co_isLink (by decide) (by decide) H (fun u H e => ?_) (fun u l H hl ea e => ?_))
  · rw [e]
    exact wg_ifT rfl (wg_rc ⟨rfl, _, _, H⟩)
  rw [e, ea]
  refine wg_ifF (by decide) ?_
  refine wg_b0 (w_isIn (b := 1) (c := 1999) rfl rfl ?_)
  dsimp only
  by_cases hb : ¬ b < 1 ∧ b ≤ 1999
  · have hc : ¬ (b < 1 ∨ 1999 < b) := by
      rintro (q | q)
      · exact hb.1 q
      · exact Int32.lt_irrefl (Int32.lt_of_lt_of_le q hb.2)
    rw [if_pos hb, if_neg hc]
    refine wg_ifF (by decide) ?_
    refine wg_bc 39 334 (by decide) (by decide) (co_can h7 H fun u ka kb H => ?_)
    refine co_end H hl ?_
    refine wg_b0 (co_gE 3 2 H hl (by decide) ?_)
    refine co_end H hl ?_
    refine wg_b0 (co_pE 3 2 H hl (by decide) fun u H => ?_)
    exact wg_rc ⟨rfl, _, _, H⟩
  · rw [if_neg hb]
    have hc : b < 1 ∨ 1999 < b := by
      by_cases q : b < 1
      · exact Or.inl q
      · exact Or.inr (Int32.not_le.mp fun z => hb ⟨q, z⟩)
    rw [if_pos hc]
    exact wg_ifT rfl (wg_rc ⟨rfl, _, _, H⟩)
theorem cu_turn (h7 : ∀ f, f < md_nf N → R.2.1 f 7 = 0 ∨ R.2.1 f 7 = 1) (H : CoD o q5 U N R P I tb la fa ka kb h) : wg (fx_X1_turn o a) 40 335 (CoE o q5 U N I tb la fa (md_turn N R P a)) h := by
  unfold fx_X1_turn md_turn
  refine wg_bc 1 1 (by decide) (by decide) (co_isFlow (by decide) (by decide) H (fun u H e => ?_) (fun u f H hf ea e => ?_))
  · rw [e]
    exact wg_ifT rfl (wg_rc ⟨rfl, _, _, H⟩)
  rw [e, ea]
  refine wg_ifF (by decide) ?_
  refine wg_bc 39 334 (by decide) (by decide) (co_can h7 H fun u ka kb H => ?_)
  have fin : ∀ y, y = 0 ∨ y = 1 → y = 1 - R.2.1 f 7 → wg (fx_X1_turn_J43 (o + 10 + 23 + 2 * f) o (nI f) y) (40 - 1 - 39) (335 - 1 - 334) (CoE o q5 U N I tb la fa (1 - R.2.1 f 7, md_S R f 7 (1 - R.2.1 f 7), md_rm P R)) u := by
    intro y hy ey
    unfold fx_X1_turn_J43 fx_X1_turn_J66
    have z : gw_pz 4 11 (o + 10 + 23 + 2 * f) y = gw_pv 4 11 (o + 10 + 23 + 2 * f) (.int y) := funext fun h => if_pos hy
    rw [z]
    refine wg_b0 (co_pS 11 7 H hf (by decide) fun u H => ?_)
    refine co_snd H hf ?_
    refine wg_b0 (co_gS 11 7 H hf (by decide) ?_)
    rw [md_Se]
    rw [← ey]
    rcases hy with rfl | rfl
    · exact wg_ifT rfl (wg_rc ⟨rfl, _, _, H⟩)
    · exact wg_ifF (by decide) (wg_rc ⟨rfl, _, _, H⟩)
  refine co_snd H hf ?_
  refine co_snd H hf ?_
  refine wg_b0 (co_gS 11 7 H hf (by decide) ?_)
  refine wg_if (fun q => fin 1 (Or.inr rfl) (by rw [q]; rfl)) (fun q => fin 0 (Or.inl rfl) ?_)
  rcases h7 f hf with z | z
  · exact absurd z q
  · rw [z]; rfl
theorem cu_bnds (h7 : ∀ f, f < md_nf N → R.2.1 f 7 = 0 ∨ R.2.1 f 7 = 1) (H : CoD o q5 U N R P I tb la fa ka kb h) : wg (fx_X1_bounds o a b c) 40 335 (CoE o q5 U N I tb la fa (md_bnds N R P a b c)) h := by
  unfold fx_X1_bounds fx_X1_bounds_J33 md_bnds
  refine wg_bc 1 1 (by decide) (by decide) (co_isLink (by decide) (by decide) H (fun u H e => ?_) (fun u l H hl ea e => ?_))
  · rw [e]
    exact wg_ifT rfl (wg_rz (Or.inl rfl) ⟨rfl, _, _, H⟩)
  rw [e, ea]
  refine wg_ifF (by decide) ?_
  refine wg_b0 (w_isIn (b := 1) (c := 999) rfl rfl ?_)
  dsimp only
  by_cases hb : b < 1 ∨ 999 < b
  · rw [if_pos hb]
    refine wg_ifT rfl (wg_rz (Or.inl rfl) ?_)
    have hn : ¬ ((¬ b < 1 ∧ b ≤ 999) ∧ ¬ c < 0 ∧ c < b) := by
      rintro ⟨⟨q1, q2⟩, -⟩
      rcases hb with q | q
      · exact q1 q
      · exact i32_nlt.mpr q2 q
    rw [if_neg hn]
    exact ⟨rfl, _, _, H⟩
  rw [if_neg hb]
  have b1 : ¬ b < 1 := fun q => hb (Or.inl q)
  have b2 : b ≤ 999 := i32_nlt.mp fun q => hb (Or.inr q)
  obtain ⟨i, hi, rfl⟩ := nI_of (x := b) (fun q => b1 (Int32.lt_trans q (by decide)))
  have h2 : ¬ i < 1 := fun q => b1 (nI_lt (b := 1) q (by decide))
  obtain ⟨j, rfl⟩ : ∃ j, i = j + 1 := ⟨i - 1, by omega⟩
  refine wg_ifF (by decide) ?_
  refine wg_b0 (w_isIn (b := 0) (c := nI (j + 1) - 1) rfl rfl ?_)
  rw [md_op_are (by omega)]
  rcases md_op_c c (n := j + 1) hi with ⟨e1, e2⟩ | ⟨k, hk, rfl, e1⟩
  · rw [if_pos e1]
    refine wg_ifT rfl (wg_rz (Or.inl rfl) ?_)
    have hn : ¬ ((¬ nI (j + 1) < 1 ∧ nI (j + 1) ≤ 999) ∧ ¬ c < 0 ∧ c < nI (j + 1)) := by
      rintro ⟨-, q1, q2⟩
      rcases e2 with q | q
      · exact q1 q
      · exact i32_nlt.mpr q q2
    rw [if_neg hn]
    exact ⟨rfl, _, _, H⟩
  have e3 : ¬ md_op (nI k) (j + 1) = none := by rw [e1]; exact fun q => nomatch q
  have hy : (¬ nI (j + 1) < 1 ∧ nI (j + 1) ≤ 999) ∧ ¬ nI k < 0 ∧ nI k < nI (j + 1) := ⟨⟨b1, b2⟩, nI_pos (by omega), nI_lt hk hi⟩
  rw [if_neg e3, if_pos hy]
  refine wg_ifF (by decide) ?_
  refine wg_bc 39 334 (by decide) (by decide) (co_can h7 H fun u ka kb H => ?_)
  refine co_end H hl ?_
  refine wg_b0 (co_pE 1 0 H hl (by decide) fun u H => ?_)
  refine co_end H hl ?_
  refine wg_b0 (co_pE 2 1 H hl (by decide) fun u H => ?_)
  exact wg_rz (Or.inr rfl) ⟨rfl, _, _, H⟩
theorem cu_tick (hI : md_iv N m R) (hm : m ≤ 9999) (H : CoD o q5 U N R P I tb la fa ka kb h) : wg (fx_X1_tick o a) 1039 1834 (CoE o q5 U N I tb la fa (md_tick N R P m a)) h := by
  unfold fx_X1_tick md_tick
  refine wg_b0 (w_isIn (b := 1) (c := 50) rfl rfl ?_)
  rcases md_op_1 a (n := 50) (by decide) with ⟨e1, e2⟩ | ⟨j, hj, rfl, e1⟩
  · rw [if_pos (show a < 1 ∨ 50 < a from e2), e1]
    exact wg_ifT rfl (wg_rc ⟨rfl, _, _, H⟩)
  have hn : ¬ (nI (j + 1) < 1 ∨ 50 < nI (j + 1)) := by
    rintro (q | q)
    · exact nI_nlt (b := 1) (by omega) (by omega) q
    · exact i32_nlt.mpr (nI_le (b := 50) (by omega) (by decide)) q
  rw [if_neg hn, e1]
  dsimp only
  refine wg_ifF (by decide) ?_
  refine wg_b0 (co_now H ?_)
  obtain ⟨F2, z1, z2, z3⟩ := H.2.2.2.2.1.2
  refine wg_b0 (w_gi z1 z3 ?_)
  rw [hI.1, nI_add]
  by_cases hc : m + (j + 1) ≤ 9999
  · rw [if_pos hc]
    refine wg_ifT (nI_le (b := 9999) hc (by decide)) ?_
    refine wg_bc 39 334 (by decide) (by decide) (co_can (fun f hf => (hI.2.2.1 f hf).1) H fun u ka kb H => ?_)
    refine (wg_for 20 30 0 0 (J := fun i u => CoD o q5 U N (md_tn N i R) (md_rm P R) I tb la fa ka kb u) (j + 1) (by omega) H rfl ?_ ?_).mono (by omega) (by omega) fun a u q => q
    · rintro i f u X Y hi H hk
      rw [fx_X1_tick_L38]
      refine wg_ifF (nI_ge hi (by omega)) ?_
      refine wg_b0 (co_now H ?_)
      refine wg_bc 20 30 (by omega) (by omega) (co_tick (m := m + i) (hI.tn H.1 (by omega)) (by omega) H fun u H => ?_)
      exact (hk u H).mono (by omega) (by omega) fun a u q => q
    · rintro f u H
      rw [fx_X1_tick_L38]
      refine wg_ifT (Int32.le_refl _) ?_
      refine wg_b0 (co_now H ?_)
      obtain ⟨F2, z1, z2, z3⟩ := H.2.2.2.2.1.2
      exact wg_b0 (w_gi z1 z3 (wg_rc ⟨rfl, _, _, H⟩))
  · rw [if_neg hc]
    exact wg_ifF (fun q => hc (by have := (nI_leI (b := 9999) (by omega) (by decide)).mp q; omega)) (wg_rc ⟨rfl, _, _, H⟩)
end Cc
