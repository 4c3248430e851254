/-! THE COMPONENT: trials; the block at o + 88 pictures X -/
def CoT (o q5 : Nat) (U : (Nat → Nat) × Nat × Int32 × Int32) (N : Nt) (R : Rw) (P : Nat × (Nat → Rw)) (I : Bool × Rw) (tb : Nat) (la fa : Nat → Nat) (ka : Nat) (kb : Nat → Nat) (X : Rw) (h : Hp) : Prop := CoD o q5 U N R P I tb la fa ka kb h ∧ CQ (o + 88) tb N X h
theorem w_op {a : Int32} {n : Nat} {y : Int64} {h : Hp} {Q : Int32 → Hp → Prop} (hn : n < 2 ^ 31) (hy : y = (nI n - 1).toInt64) (kk : Q (if md_op a n = none then 0 else 1) h) : wp (fx_X1_isIn a.toInt64 (0 : Int64) y) Q h := by
  refine w_isIn (b := 0) (c := nI n - 1) rfl hy ?_
  rw [md_op_are hn]
  exact kk
theorem w_ah {a : Int32} {h : Hp} {Q : Int32 → Hp → Prop} (kk : Q (if md_op a 301 = none then 0 else 1) h) : wp (fx_X1_isAhead a) Q h := by
  unfold fx_X1_isAhead
  refine wp_bd (w_op (n := 301) (by decide) rfl (wp_rz ?_ kk))
  split
  · exact Or.inl rfl
  · exact Or.inr rfl
section Ct
variable {o q5 : Nat} {U : (Nat → Nat) × Nat × Int32 × Int32} {N : Nt} {R X : Rw} {P : Nat × (Nat → Rw)} {I : Bool × Rw} {tb : Nat} {la fa : Nat → Nat} {ka : Nat} {kb : Nat → Nat} {h u : Hp} {Q : Int32 → Hp → Prop} {V : Unit → Hp → Prop} {A : Nat → Hp → Prop} {m l f : Nat} {a b c x : Int32}
theorem CoT.now (H : CoT o q5 U N R P I tb la fa ka kb X h) : ∃ F0 R0 rd gv co ns, md_eqv X R0 ∧ TK o N tb la fa (o + 88) F0 h R0 rd gv co ns h := by
  obtain ⟨F0, R0, rd, gv, co, ns, e1, HT, r1⟩ := H.1.tk (Or.inr rfl) H.2
  exact ⟨F0, R0, rd, gv, co, ns, e1, HT⟩
theorem CoT.put (H : CoT o q5 U N R P I tb la fa ka kb X h) {Y : Rw} (e : ∀ a, ¬ (o + 88 ≤ a ∧ a < o + 88 + 39) → u.1 a = h.1 a) (z : u.2 = h.2) (hQ : CQ (o + 88) tb N Y u) : CoT o q5 U N R P I tb la fa ka kb Y u := by
  have q := H.1.put (Or.inr (Or.inr (Or.inl rfl))) e z hQ (fun _ _ _ _ => trivial) fun i hi => by have := (H.1.2.2.2.2.2.2.2.2.1.2.2.1 i (by have := H.1.2.2.2.2.2.2.2.2.2.1; omega)).2.1; omega
  rw [if_neg (by omega), if_neg (by omega)] at q
  exact ⟨q, hQ⟩
theorem ct_pS (j k : Nat) (H : CoT o q5 U N R P I tb la fa ka kb X h) (hf : f < md_nf N) (hj : md_sk j = k ∧ j < 12 ∧ j ≠ 10) (kk : ∀ u, CoT o q5 U N R P I tb la fa ka kb (md_S X f k x) u → V () u) : wp (gw_pv 4 j (o + 88 + 23 + 2 * f) (.int x)) V h := by
  have hF := H.1.1.nf
  obtain ⟨R0, e1, e2⟩ := H.2.cb
  obtain ⟨F, f1, -⟩ := e2.2.2.2.2.2.1 f (by omega)
  refine w_pv f1 (kk _ (H.put (fun a ha => gs_ne (by omega)) rfl ?_))
  have q := (e2.pS (x := x) H.1.1 hf hj.2.1 hj.2.2 f1).cq
  rw [hj.1] at q
  exact q.eqv e1.S
theorem ct_pz (H : CoT o q5 U N R P I tb la fa ka kb X h) (hf : f < md_nf N) (kk : ∀ u, CoT o q5 U N R P I tb la fa ka kb (md_S X f 7 0) u → V () u) : wp (gw_pz 4 11 (o + 88 + 23 + 2 * f) (0 : Int32)) V h := by
  have z : gw_pz 4 11 (o + 88 + 23 + 2 * f) (0 : Int32) = gw_pv 4 11 (o + 88 + 23 + 2 * f) (.int 0) := funext fun h => if_pos (Or.inl rfl)
  rw [z]
  exact ct_pS 11 7 H hf (by decide) kk
theorem ct_pE (j k : Nat) (H : CoT o q5 U N R P I tb la fa ka kb X h) (hl : l < md_nl N) (hj : md_ek j = k ∧ 1 ≤ j ∧ j < 12 ∧ j ≠ 4) (kk : ∀ u, CoT o q5 U N R P I tb la fa ka kb (md_E X l k x) u → V () u) : wp (gw_pi 3 j (o + 88 + 3 + 2 * l) x) V h := by
  have hL := H.1.1.nl
  obtain ⟨R0, e1, e2⟩ := H.2.cb
  obtain ⟨F, f1, -⟩ := e2.2.2.2.1 l (by omega)
  refine w_pv f1 (kk _ (H.put (fun a ha => gs_ne (by omega)) rfl ?_))
  have q := (e2.pE (x := x) H.1.1 hl hj.2.1 hj.2.2.1 hj.2.2.2 f1).cq
  rw [hj.1] at q
  exact q.eqv e1.E
theorem ct_gS (j k : Nat) (H : CoT o q5 U N R P I tb la fa ka kb X h) (hf : f < md_nf N) (hj : md_sk j = k ∧ j < 12 ∧ j ≠ 10 ∧ k ≠ 12) (kk : Q (X.2.1 f k) h) : wp (gw_gi 4 j (o + 88 + 23 + 2 * f)) Q h := by
  obtain ⟨F0, R0, rd, gv, co, ns, ev, HT⟩ := H.now
  refine tk_gS j k HT hf ⟨hj.1, hj.2.1, hj.2.2.1⟩ ?_
  rw [ev.2.2 f k hj.2.2.2]
  exact kk
theorem ct_gE (j k : Nat) (H : CoT o q5 U N R P I tb la fa ka kb X h) (hl : l < md_nl N) (hj : md_ek j = k ∧ 1 ≤ j ∧ j < 12 ∧ j ≠ 4) (kk : Q (X.1 l k) h) : wp (gw_gi 3 j (o + 88 + 3 + 2 * l)) Q h := by
  obtain ⟨F0, R0, rd, gv, co, ns, ev, HT⟩ := H.now
  refine tk_gE j k HT hl hj ?_
  rw [ev.1]
  exact kk
theorem ct_q (H : CoT o q5 U N R P I tb la fa ka kb X h) (hl : l < md_nl N) (kk : Q (md_q X l) h) : wp (gw_on 3 (o + 88 + 3 + 2 * l) (fx_X4_queue (o + 88 + 3 + 2 * l))) Q h := by
  obtain ⟨F0, R0, rd, gv, co, ns, ev, HT⟩ := H.now
  refine tk_onq HT hl ?_
  rw [show md_q R0 l = md_q X l by unfold md_q; rw [ev.1]]
  exact kk
theorem co_q (H : CoD o q5 U N R P I tb la fa ka kb h) (hl : l < md_nl N) (kk : Q (md_q R l) h) : wp (gw_on 3 (o + 10 + 3 + 2 * l) (fx_X4_queue (o + 10 + 3 + 2 * l))) Q h := by
  obtain ⟨F0, R0, rd, gv, co, ns, ev, HT⟩ := H.now
  refine tk_onq HT hl ?_
  rw [show md_q R0 l = md_q R l by unfold md_q; rw [ev.1]]
  exact kk
theorem co_try (H : CoD o q5 U N R P I tb la fa ka kb h) (kk : A (o + 88) h) : wp (gw_gr 0 13 o) A h := by
  obtain ⟨F, r1, r2, -⟩ := H.root
  exact w_gr r1 r2.2.2.2.2.2.2.2.2.2.1 kk
theorem ct_snds (H : CoT o q5 U N R P I tb la fa ka kb X h) (hf : f < md_nf N) {k : Nat → gM Int32} {C S : Nat} (kk : wg (k (o + 88 + 23 + 2 * f)) C S Q h) : wg (gw_b0 (gw_gr 2 3 (o + 88)) fun y => gw_b0 (gw_lr 7 y (nI f)) k) C S Q h := by
  have hF := H.1.1.nf
  obtain ⟨F0, R0, rd, gv, co, ns, ev, HT⟩ := H.now
  exact wg_b0 (tk_snds HT (wg_b0 (tk_snd HT (by omega) kk)))
theorem ct_ends (H : CoT o q5 U N R P I tb la fa ka kb X h) (hl : l < md_nl N) {k : Nat → gM Int32} {C S : Nat} (kk : wg (k (o + 88 + 3 + 2 * l)) C S Q h) : wg (gw_b0 (gw_gr 2 2 (o + 88)) fun y => gw_b0 (gw_lr 6 y (nI l)) k) C S Q h := by
  have hL := H.1.1.nl
  obtain ⟨F0, R0, rd, gv, co, ns, ev, HT⟩ := H.now
  exact wg_b0 (tk_ends HT (wg_b0 (tk_end HT (by omega) kk)))
theorem ct_end (H : CoT o q5 U N R P I tb la fa ka kb X h) (hl : l < md_nl N) {k : Nat → gM Int32} {C S : Nat} (kk : wg (k (o + 88 + 3 + 2 * l)) C S Q h) : wg (gw_b0 (gw_gr 0 13 o) fun x => gw_b0 (gw_gr 2 2 x) fun y => gw_b0 (gw_lr 6 y (nI l)) k) C S Q h := wg_b0 (co_try H.1 (ct_ends H hl kk))
theorem ct_snd (H : CoT o q5 U N R P I tb la fa ka kb X h) (hf : f < md_nf N) {k : Nat → gM Int32} {C S : Nat} (kk : wg (k (o + 88 + 23 + 2 * f)) C S Q h) : wg (gw_b0 (gw_gr 0 13 o) fun x => gw_b0 (gw_gr 2 3 x) fun y => gw_b0 (gw_lr 7 y (nI f)) k) C S Q h := wg_b0 (co_try H.1 (ct_snds H hf kk))
/-- the trial starts -/
theorem ct_like (h7 : ∀ f, f < md_nf N → R.2.1 f 7 = 0 ∨ R.2.1 f 7 = 1) (H : CoD o q5 U N R P I tb la fa ka kb h) (kk : ∀ u, CoT o q5 U N R P I tb la fa ka kb R u → A (o + 88) u) : wp (gw_on 2 (o + 88) (fx_X3_like (o + 88) (o + 10))) A h := by
  have hks := H.2.2.2.2.2.2.2.2
  refine co_like H (Or.inr (Or.inr (Or.inl rfl))) (Or.inl rfl) (by omega) H.2.2.2.2.1 h7 (fun i hi => by have := (hks.1.2.2.1 i (by have := hks.2.1; omega)).2.1; omega) fun u Hu hX hk => ?_
  rw [if_neg (by omega), if_neg (by omega)] at Hu
  exact kk u ⟨Hu, hX⟩
theorem ct_tick (hI : md_iv N m X) (hm : m ≤ 20000) (H : CoT o q5 U N R P I tb la fa ka kb X h) (kk : ∀ (u : Hp) (co : Nat → Int32), CoT o q5 U N R P I tb la fa ka kb (md_tk N X) u → u.1 (o + 7) = some (.inl (0, 80, .inl co)) → (∀ l f, l < md_nl N → f < md_nf N → co (8 * l + f) = md_tc N X l f) → V () u) : wg (gw_on 0 o (fx_X1_ticks o (o + 88))) 20 30 V h :=
  co_trial hI hm H.1 H.2 fun u co h1 h2 h3 h4 => kk u co ⟨h1, h2⟩ h3 h4
theorem ct_tried {n : Nat} (hI : md_iv N m R) (hm : m + n ≤ 20001) (hn : n ≤ 300) (H : CoD o q5 U N R P I tb la fa ka kb h) (kk : ∀ u, CoT o q5 U N R P I tb la fa ka kb (md_tn N n R) u → A (o + 88) u) : wg (gw_on 0 o (fx_X1_tried o (nI n))) (n * 20) (n * 30) A h := by
  obtain ⟨F, r1, r2, -⟩ := H.root
  refine g_on r1 ?_
  unfold fx_X1_tried
  refine wg_b0 (co_try H ?_)
  refine wg_b0 (co_now H ?_)
  refine wg_b0 (ct_like (fun f hf => (hI.2.2.1 f hf).1) H fun u H => ?_)
  refine wg_for 20 30 0 0 (J := fun i u => CoT o q5 U N R P I tb la fa ka kb (md_tn N i R) u) n (by omega) H rfl ?_ ?_
  · rintro i g u X Y hi H hk
    rw [fx_X1_tried_L14]
    refine wg_ifF (nI_ge hi (by omega)) ?_
    refine wg_b0 (co_try H.1 ?_)
    refine wg_bc 20 30 (by omega) (by omega) (ct_tick (m := m + i) (hI.tn H.1.1 (by omega)) (by omega) H fun u _ H _ _ => ?_)
    exact (hk u H).mono (by omega) (by omega) fun a u q => q
  · rintro g u H
    rw [fx_X1_tried_L14]
    refine wg_ifT (Int32.le_refl _) ?_
    exact wg_b0 (co_try H.1 (wg_rc (kk u H)))
theorem cq_flows (hI : md_iv N m R) (hm : m ≤ 9999) (H : CoD o q5 U N R P I tb la fa ka kb h) : wg (fx_X1_flows o a b c) 6001 9001 (fun r u => r = an_flows N R a b c ∧ CoD o q5 U N R P I tb la fa ka kb u) h := by
  unfold fx_X1_flows fx_X1_flows_J27 fx_X1_flows_J97 an_flows
  refine wg_bc 1 1 (by decide) (by decide) (co_isFlow (by decide) (by decide) H (fun u H e => ?_) (fun u f H hf ea e => ?_))
  · rw [e]
    exact wg_ifT rfl (wg_rc ⟨rfl, H⟩)
  rw [e, ea]
  refine wg_ifF (by decide) ?_
  refine wg_b0 (w_ah ?_)
  rcases md_op_c b (n := 301) (by decide) with ⟨e1, -⟩ | ⟨n, hn, rfl, e1⟩
  · rw [if_pos e1, e1]
    exact wg_ifT rfl (wg_rc ⟨rfl, H⟩)
  have e2 : ¬ md_op (nI n) 301 = none := by rw [e1]; exact fun q => nomatch q
  rw [if_neg e2, e1]
  refine wg_ifF (by decide) ?_
  refine wg_b0 (w_op (n := 3) (by decide) rfl ?_)
  rcases md_op_c c (n := 3) (by decide) with ⟨e3, -⟩ | ⟨w, hw, rfl, e3⟩
  · rw [if_pos e3, e3]
    exact wg_ifT rfl (wg_rc ⟨rfl, H⟩)
  have e4 : ¬ md_op (nI w) 3 = none := by rw [e3]; exact fun q => nomatch q
  rw [if_neg e4, e3]
  refine wg_ifF (by decide) ?_
  refine wg_bc (n * 20) (n * 30) (by omega) (by omega) (ct_tried hI (by omega) (by omega) H fun u H => ?_)
  refine ct_snds H hf ?_
  rcases (show w = 0 ∨ w = 1 ∨ w = 2 by omega) with rfl | rfl | rfl
  · exact wg_ifT rfl (wg_b0 (ct_gS 0 0 H hf (by decide) (wg_rc ⟨rfl, H.1⟩)))
  · refine wg_ifF (by decide) (wg_ifT rfl (wg_b0 (ct_gS 3 5 H hf (by decide) ?_)))
    exact co_snd H.1 hf (wg_b0 (co_gS 3 5 H.1 hf (by decide) (wg_rc ⟨rfl, H.1⟩)))
  · refine wg_ifF (by decide) (wg_ifF (by decide) (wg_b0 (ct_gS 2 4 H hf (by decide) ?_)))
    exact co_snd H.1 hf (wg_b0 (co_gS 2 4 H.1 hf (by decide) (wg_rc ⟨rfl, H.1⟩)))
end Ct
