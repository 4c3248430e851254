/-! THE COMPONENT: a state's block by itself; how much of it pictures a row -/
def md_sw (s : Nat → Int32) (F : Nat → Value) : Prop := ∀ j, j < 12 → j ≠ 10 → j ≠ 9 → F j = .int (s (md_sk j))
def CG (b : Nat) (R : Rw) (L M : Nat) (h : Hp) : Prop :=
  (∃ F, h.1 b = some (.inr (2, F)) ∧ F 2 = .ref (b + 1) ∧ F 3 = .ref (b + 2)) ∧
  (∃ g, h.1 (b + 1) = some (.inl (6, 10, .inr (.inr (.inr (.inr g))))) ∧ ∀ l, l < 10 → g l = some (b + 3 + 2 * l)) ∧
  (∃ g, h.1 (b + 2) = some (.inl (7, 8, .inr (.inr (.inr (.inr g))))) ∧ ∀ f, f < 8 → g f = some (b + 23 + 2 * f)) ∧
  (∀ l, l < 10 → ∃ F, h.1 (b + 3 + 2 * l) = some (.inr (3, F)) ∧ F 0 = .ref (b + 4 + 2 * l) ∧ (l < L → md_ev (R.1 l) F)) ∧
  (∀ l, l < 10 → ∃ g, h.1 (b + 4 + 2 * l) = some (.inl (0, 8, .inl g)) ∧ (l < L → ∀ f, f < 8 → g f = R.1 l (15 + f))) ∧
  (∀ f, f < 8 → ∃ F, h.1 (b + 23 + 2 * f) = some (.inr (4, F)) ∧ F 10 = .ref (b + 24 + 2 * f) ∧ (∃ x, F 9 = .int x) ∧ (f < M → md_sw (R.2.1 f) F)) ∧
  (∀ f, f < 8 → ∃ g, h.1 (b + 24 + 2 * f) = some (.inl (0, 2, .inl g)) ∧ (f < M → g 0 = R.2.1 f 2 ∧ g 1 = R.2.1 f 3))
theorem CG.kept {b L M : Nat} {R : Rw} {h u : Hp} (H : CG b R L M h) (e : ∀ a, b ≤ a → a < b + 39 → u.1 a = h.1 a) : CG b R L M u := by
  obtain ⟨c0, c1, c2, c3, c4, c5, c6⟩ := H
  refine ⟨by rw [e b (by omega) (by omega)]; exact c0, by rw [e (b + 1) (by omega) (by omega)]; exact c1, by rw [e (b + 2) (by omega) (by omega)]; exact c2, fun l hl => by rw [e _ (by omega) (by omega)]; exact c3 l hl, fun l hl => by rw [e _ (by omega) (by omega)]; exact c4 l hl, fun l hl => by rw [e _ (by omega) (by omega)]; exact c5 l hl, fun l hl => by rw [e _ (by omega) (by omega)]; exact c6 l hl⟩
/-- less of it -/
theorem CG.less {b L M L' M' : Nat} {R R' : Rw} {h : Hp} (H : CG b R L M h) (hL : L' ≤ L) (hM : M' ≤ M) (e1 : ∀ l, l < L' → R'.1 l = R.1 l) (e2 : ∀ f, f < M' → ∀ k, k ≠ 12 → R'.2.1 f k = R.2.1 f k) : CG b R' L' M' h := by
  obtain ⟨c0, c1, c2, c3, c4, c5, c6⟩ := H
  refine ⟨c0, c1, c2, fun l hl => ?_, fun l hl => ?_, fun f hf => ?_, fun f hf => ?_⟩
  · obtain ⟨F, q1, q2, q3⟩ := c3 l hl
    exact ⟨F, q1, q2, fun q => by rw [e1 l q]; exact q3 (by omega)⟩
  · obtain ⟨g, q1, q2⟩ := c4 l hl
    exact ⟨g, q1, fun q => by rw [e1 l q]; exact q2 (by omega)⟩
  · obtain ⟨F, q1, q2, q3, q4⟩ := c5 f hf
    refine ⟨F, q1, q2, q3, fun q j j1 j2 j3 => ?_⟩
    rw [e2 f q (md_sk j) ((by decide : ∀ j, j < 12 → j ≠ 10 ∧ j ≠ 9 → md_sk j ≠ 12) j j1 ⟨j2, j3⟩)]
    exact q4 (by omega) j j1 j2 j3
  · obtain ⟨g, q1, q2⟩ := c6 f hf
    exact ⟨g, q1, fun q => by rw [e2 f q 2 (by decide), e2 f q 3 (by decide)]; exact q2 (by omega)⟩
def SB (b : Nat) (h : Hp) : Prop := CG b (fun _ _ => 0, fun _ _ => 0, 0) 0 0 h
/-- the block pictures a row, but for what was sent in the last tick -/
def CQ (b tb : Nat) (N : Nt) (R : Rw) (h : Hp) : Prop := CG b R (md_nl N) (md_nf N) h ∧ ∃ F, h.1 b = some (.inr (2, F)) ∧ F 0 = .ref tb ∧ F 1 = .int R.2.2
theorem CG.sb {b L M : Nat} {R : Rw} {h : Hp} (H : CG b R L M h) : SB b h := H.less (Nat.zero_le _) (Nat.zero_le _) (fun l hl => absurd hl (Nat.not_lt_zero _)) (fun f hf => absurd hf (Nat.not_lt_zero _))
theorem SB.cg {b : Nat} {R : Rw} {h : Hp} (H : SB b h) : CG b R 0 0 h := CG.less H (Nat.zero_le _) (Nat.zero_le _) (fun l hl => absurd hl (Nat.not_lt_zero _)) (fun f hf => absurd hf (Nat.not_lt_zero _))
theorem CQ.kept {b tb : Nat} {N : Nt} {R : Rw} {h u : Hp} (H : CQ b tb N R h) (e : ∀ a, b ≤ a → a < b + 39 → u.1 a = h.1 a) : CQ b tb N R u := ⟨H.1.kept e, by rw [e b (by omega) (by omega)]; exact H.2⟩
theorem CQ.cb {b tb : Nat} {N : Nt} {R : Rw} {h : Hp} (H : CQ b tb N R h) : ∃ R0, md_eqv R R0 ∧ CB b tb N R0 h := by
  obtain ⟨⟨⟨F1, d1, d2, d3⟩, c1, c2, c3, c4, c5, c6⟩, F, e1, e2, e3⟩ := H
  rw [d1] at e1
  obtain rfl : F1 = F := by cases e1; rfl
  have ex : ∀ f, ∃ x : Int32, f < 8 → ∃ F, h.1 (b + 23 + 2 * f) = some (.inr (4, F)) ∧ F 9 = .int x := fun f => by
    by_cases hf : f < 8
    · obtain ⟨F, q1, q2, ⟨x, q3⟩, q4⟩ := c5 f hf
      exact ⟨x, fun _ => ⟨F, q1, q3⟩⟩
    · exact ⟨0, fun q => absurd q hf⟩
  refine ⟨(R.1, fun f k => if k = 12 then (ex f).choose else R.2.1 f k, R.2.2), ⟨rfl, rfl, fun f k hk => if_neg hk⟩, ⟨F1, d1, e2, e3, d2, d3⟩, c1, c2, c3, c4, fun f hf => ?_, fun f hf => ?_⟩
  · obtain ⟨F, q1, q2, q3, q4⟩ := c5 f hf
    refine ⟨F, q1, q2, q3, fun q j j1 j2 => ?_⟩
    by_cases j9 : j = 9
    · obtain ⟨F', r1, r2⟩ := (ex f).choose_spec hf
      rw [q1] at r1
      obtain rfl : F = F' := by cases r1; rfl
      rw [j9, r2]
      rfl
    · rw [q4 q j j1 j2 j9]
      refine congrArg Value.int ?_
      exact (if_neg ((by decide : ∀ j, j < 12 → j ≠ 10 ∧ j ≠ 9 → md_sk j ≠ 12) j j1 ⟨j2, j9⟩)).symm
  · obtain ⟨g, q1, q2⟩ := c6 f hf
    exact ⟨g, q1, fun q => q2 q⟩
theorem CB.cq {b tb : Nat} {N : Nt} {R : Rw} {h : Hp} (H : CB b tb N R h) : CQ b tb N R h := by
  obtain ⟨⟨F, e1, e2, e3, e4, e5⟩, c1, c2, c3, c4, c5, c6⟩ := H
  refine ⟨⟨⟨F, e1, e4, e5⟩, c1, c2, c3, c4, fun f hf => ?_, c6⟩, F, e1, e2, e3⟩
  obtain ⟨F', q1, q2, q9, q3⟩ := c5 f hf
  exact ⟨F', q1, q2, q9, fun q j j1 j2 _ => q3 q j j1 j2⟩
/-! one like another -/
theorem lk_step {h : Hp} {e1 e2 ci j : Nat} {F1 F2 : Nat → Value} {x : Int32} {k : Unit → HM Unit} {P : Unit → Hp → Prop} (h1 : h.1 e1 = some (.inr (ci, F1))) (h2 : h.1 e2 = some (.inr (ci, F2))) (hj : F2 j = .int x)
    (kk : ∀ u : Hp, u.1 e1 = some (.inr (ci, updV F1 j (.int x))) → (∀ a, a ≠ e1 → u.1 a = h.1 a) → u.2 = h.2 → wp (k ()) P u) : wp (tw_bd (gw_gi ci j e2) fun x => tw_bd (gw_pi ci j e1 x) k) P h :=
  wp_bd (w_gi h2 hj (wp_bd (w_pv h1 (kk _ gs_eq (fun a ha => gs_ne ha) rfl))))
theorem w_ci {h : Hp} {a c : Nat} {f g : Nat → Int32} {P : Unit → Hp → Prop} (h1 : h.1 a = some (.inl (0, 8, .inl f))) (h2 : h.1 c = some (.inl (0, 8, .inl g))) (kk : ∀ (u : Hp) (g' : Nat → Int32), u.1 c = some (.inl (0, 8, .inl g')) → (∀ i, i < 8 → g' i = f i) → (∀ q, q ≠ c → u.1 q = h.1 q) → u.2 = h.2 → P () u) : wp (gw_ci a (0 : Int32) c (0 : Int32) (8 : Int32)) P h := by
  refine ⟨(), _, ?_, kk (gw_set h c (.inl (0, 8, .inl (va_cpy f g 0 0 8)))) (va_cpy f g 0 0 8) gs_eq (fun i hi => ?_) (fun q hq => gs_ne hq) rfl⟩
  · unfold gw_ci
    rw [ar_of h1, ar_of h2]
    rfl
  · unfold va_cpy
    simp [hi]
theorem lk_end {h : Hp} {e1 e2 c1 c2 : Nat} {F1 F2 : Nat → Value} {g1 g2 : Nat → Int32} {e : Nat → Int32} {P : Unit → Hp → Prop} (h1 : h.1 e1 = some (.inr (3, F1))) (h2 : h.1 e2 = some (.inr (3, F2))) (r1 : F1 0 = .ref c1) (r2 : F2 0 = .ref c2) (a1 : h.1 c1 = some (.inl (0, 8, .inl g1))) (a2 : h.1 c2 = some (.inl (0, 8, .inl g2))) (hne : e1 ≠ e2) (hn2 : e1 ≠ c1) (hn3 : e2 ≠ c1) (hv : md_ev e F2)
    (kk : ∀ (u : Hp) (F : Nat → Value) (g : Nat → Int32), u.1 e1 = some (.inr (3, F)) → F 0 = .ref c1 → md_ev e F → u.1 c1 = some (.inl (0, 8, .inl g)) → (∀ i, i < 8 → g i = g2 i) → (∀ a, a ≠ e1 → a ≠ c1 → u.1 a = h.1 a) → u.2 = h.2 → P () u) : wp (gw_on 3 e1 (fx_X4_like e1 e2)) P h := by
  refine w_on h1 ?_
  unfold fx_X4_like
  refine wp_bd (w_gr h2 r2 ?_)
  refine wp_bd (w_gr h1 r1 ?_)
  refine wp_bd (w_ci a2 a1 fun u g hg1 hg2 hg3 hg4 => ?_)
  have b1 : u.1 e1 = some (.inr (3, F1)) := (hg3 e1 hn2).trans h1
  have b2 : u.1 e2 = some (.inr (3, F2)) := (hg3 e2 hn3).trans h2
  have fr : (∀ a, a ≠ e1 → a ≠ c1 → u.1 a = h.1 a) ∧ u.1 c1 = some (.inl (0, 8, .inl g)) ∧ u.2 = h.2 := ⟨fun a _ ha => hg3 a ha, hg1, hg4⟩
  have nxt : ∀ {u v : Hp} {j : Nat} {x : Int32}, ((∀ a, a ≠ e1 → a ≠ c1 → u.1 a = h.1 a) ∧ u.1 c1 = some (.inl (0, 8, .inl g)) ∧ u.2 = h.2) → (∀ a, a ≠ e1 → v.1 a = u.1 a) → v.2 = u.2 → u.1 e2 = some (.inr (3, F2)) → (((∀ a, a ≠ e1 → a ≠ c1 → v.1 a = h.1 a) ∧ v.1 c1 = some (.inl (0, 8, .inl g)) ∧ v.2 = h.2) ∧ v.1 e2 = some (.inr (3, F2))) := fun fr q z b => ⟨⟨fun a h1 h2 => (q a h1).trans (fr.1 a h1 h2), (q c1 (Ne.symm hn2)).trans fr.2.1, z.trans fr.2.2⟩, (q e2 (Ne.symm hne)).trans b⟩
  refine lk_step b1 b2 (hv.1 1 (by decide) (by decide) (by decide)) fun v b1 q z => ?_
  obtain ⟨fr, b2⟩ := nxt (j := 0) (x := 0) fr q z b2
  refine lk_step b1 b2 (hv.1 2 (by decide) (by decide) (by decide)) fun v b1 q z => ?_
  obtain ⟨fr, b2⟩ := nxt (j := 0) (x := 0) fr q z b2
  refine lk_step b1 b2 (hv.1 3 (by decide) (by decide) (by decide)) fun v b1 q z => ?_
  obtain ⟨fr, b2⟩ := nxt (j := 0) (x := 0) fr q z b2
  refine lk_step b1 b2 hv.2 fun v b1 q z => ?_
  obtain ⟨fr, b2⟩ := nxt (j := 0) (x := 0) fr q z b2
  refine lk_step b1 b2 (hv.1 5 (by decide) (by decide) (by decide)) fun v b1 q z => ?_
  obtain ⟨fr, b2⟩ := nxt (j := 0) (x := 0) fr q z b2
  refine lk_step b1 b2 (hv.1 6 (by decide) (by decide) (by decide)) fun v b1 q z => ?_
  obtain ⟨fr, b2⟩ := nxt (j := 0) (x := 0) fr q z b2
  refine lk_step b1 b2 (hv.1 7 (by decide) (by decide) (by decide)) fun v b1 q z => ?_
  obtain ⟨fr, b2⟩ := nxt (j := 0) (x := 0) fr q z b2
  refine lk_step b1 b2 (hv.1 8 (by decide) (by decide) (by decide)) fun v b1 q z => ?_
  obtain ⟨fr, b2⟩ := nxt (j := 0) (x := 0) fr q z b2
  refine lk_step b1 b2 (hv.1 9 (by decide) (by decide) (by decide)) fun v b1 q z => ?_
  obtain ⟨fr, b2⟩ := nxt (j := 0) (x := 0) fr q z b2
  refine lk_step b1 b2 (hv.1 10 (by decide) (by decide) (by decide)) fun v b1 q z => ?_
  obtain ⟨fr, b2⟩ := nxt (j := 0) (x := 0) fr q z b2
  refine lk_step b1 b2 (hv.1 11 (by decide) (by decide) (by decide)) fun v b1 q z => ?_
  obtain ⟨fr, b2⟩ := nxt (j := 0) (x := 0) fr q z b2
  refine wp_rt (kk v _ g b1 r1 ⟨fun j j1 j2 j4 => ?_, rfl⟩ fr.2.1 hg2 fr.1 fr.2.2)
  match j, j2, j4 with
  | 0, _, _ => omega
  | 1, _, _ => rfl
  | 2, _, _ => rfl
  | 3, _, _ => rfl
  | 4, _, h => exact absurd rfl h
  | 5, _, _ => rfl
  | 6, _, _ => rfl
  | 7, _, _ => rfl
  | 8, _, _ => rfl
  | 9, _, _ => rfl
  | 10, _, _ => rfl
  | 11, _, _ => rfl
  | j + 12, h, _ => omega
theorem lk_snd {h : Hp} {e1 e2 c1 c2 : Nat} {F1 F2 : Nat → Value} {g1 g2 : Nat → Int32} {e : Nat → Int32} {P : Unit → Hp → Prop} (h1 : h.1 e1 = some (.inr (4, F1))) (h2 : h.1 e2 = some (.inr (4, F2))) (r1 : F1 10 = .ref c1) (r2 : F2 10 = .ref c2) (a1 : h.1 c1 = some (.inl (0, 2, .inl g1))) (a2 : h.1 c2 = some (.inl (0, 2, .inl g2))) (hne : e1 ≠ e2) (hn2 : e1 ≠ c1) (hn3 : e2 ≠ c1) (hn4 : e1 ≠ c2) (hn5 : c1 ≠ c2) (hv : md_sw e F2) (h7 : e 7 = 0 ∨ e 7 = 1) (hx : ∃ x, F1 9 = .int x)
    (kk : ∀ (u : Hp) (F : Nat → Value) (g : Nat → Int32), u.1 e1 = some (.inr (4, F)) → F 10 = .ref c1 → (∃ x, F 9 = .int x) → md_sw e F → u.1 c1 = some (.inl (0, 2, .inl g)) → g 0 = g2 0 → g 1 = g2 1 → (∀ a, a ≠ e1 → a ≠ c1 → u.1 a = h.1 a) → u.2 = h.2 → P () u) : wp (gw_on 4 e1 (fx_X5_like e1 e2)) P h := by
  refine w_on h1 ?_
  unfold fx_X5_like
  have fr : (∀ a, a ≠ e1 → a ≠ c1 → h.1 a = h.1 a) ∧ h.2 = h.2 := ⟨fun a _ ha => rfl, rfl⟩
  have nxt : ∀ {u v : Hp}, ((∀ a, a ≠ e1 → a ≠ c1 → u.1 a = h.1 a) ∧ u.2 = h.2) → (∀ a, a ≠ e1 → v.1 a = u.1 a) → v.2 = u.2 → u.1 e2 = some (.inr (4, F2)) → u.1 c1 = some (.inl (0, 2, .inl g1)) → u.1 c2 = some (.inl (0, 2, .inl g2)) → (((∀ a, a ≠ e1 → a ≠ c1 → v.1 a = h.1 a) ∧ v.2 = h.2) ∧ v.1 e2 = some (.inr (4, F2)) ∧ v.1 c1 = some (.inl (0, 2, .inl g1)) ∧ v.1 c2 = some (.inl (0, 2, .inl g2))) := fun fr q z b a1 a2 => ⟨⟨fun a h1 h2 => (q a h1).trans (fr.1 a h1 h2), z.trans fr.2⟩, (q e2 (Ne.symm hne)).trans b, (q c1 (Ne.symm hn2)).trans a1, (q c2 (Ne.symm hn4)).trans a2⟩
  have b1 := h1
  have b2 := h2
  refine lk_step b1 b2 (hv 0 (by decide) (by decide) (by decide)) fun v b1 q z => ?_
  obtain ⟨fr, b2, a1, a2⟩ := nxt fr q z b2 a1 a2
  refine lk_step b1 b2 (hv 1 (by decide) (by decide) (by decide)) fun v b1 q z => ?_
  obtain ⟨fr, b2, a1, a2⟩ := nxt fr q z b2 a1 a2
  refine lk_step b1 b2 (hv 2 (by decide) (by decide) (by decide)) fun v b1 q z => ?_
  obtain ⟨fr, b2, a1, a2⟩ := nxt fr q z b2 a1 a2
  refine lk_step b1 b2 (hv 3 (by decide) (by decide) (by decide)) fun v b1 q z => ?_
  obtain ⟨fr, b2, a1, a2⟩ := nxt fr q z b2 a1 a2
  refine lk_step b1 b2 (hv 4 (by decide) (by decide) (by decide)) fun v b1 q z => ?_
  obtain ⟨fr, b2, a1, a2⟩ := nxt fr q z b2 a1 a2
  refine lk_step b1 b2 (hv 5 (by decide) (by decide) (by decide)) fun v b1 q z => ?_
  obtain ⟨fr, b2, a1, a2⟩ := nxt fr q z b2 a1 a2
  refine lk_step b1 b2 (hv 6 (by decide) (by decide) (by decide)) fun v b1 q z => ?_
  obtain ⟨fr, b2, a1, a2⟩ := nxt fr q z b2 a1 a2
  refine lk_step b1 b2 (hv 7 (by decide) (by decide) (by decide)) fun v b1 q z => ?_
  obtain ⟨fr, b2, a1, a2⟩ := nxt fr q z b2 a1 a2
  refine lk_step b1 b2 (hv 8 (by decide) (by decide) (by decide)) fun v b1 q z => ?_
  obtain ⟨fr, b2, a1, a2⟩ := nxt fr q z b2 a1 a2
  refine wp_bd (w_gr b1 r1 (wp_bd (w_gr b2 r2 (wp_bd (w_ld a2 (j := 0) rfl (by decide) (by decide) (wp_bd (w_st a1 (j := 0) rfl (by decide) (by decide) ?_)))))))
  have b1' := (gs_ne (x := .inl (0, 2, .inl (upd g1 0 (g2 0)))) (h := v) hn2).trans b1
  have b2' := (gs_ne (x := .inl (0, 2, .inl (upd g1 0 (g2 0)))) (h := v) hn3).trans b2
  have a2' := (gs_ne (x := .inl (0, 2, .inl (upd g1 0 (g2 0)))) (h := v) (Ne.symm hn5)).trans a2
  refine wp_bd (w_gr b1' r1 (wp_bd (w_gr b2' r2 (wp_bd (w_ld a2' (j := 1) rfl (by decide) (by decide) (wp_bd (w_st gs_eq (j := 1) rfl (by decide) (by decide) ?_)))))))
  have b1'' := (gs_ne (x := .inl (0, 2, .inl (upd (upd g1 0 (g2 0)) 1 (g2 1)))) (h := gw_set v c1 (.inl (0, 2, .inl (upd g1 0 (g2 0))))) hn2).trans b1'
  have b2'' := (gs_ne (x := .inl (0, 2, .inl (upd (upd g1 0 (g2 0)) 1 (g2 1)))) (h := gw_set v c1 (.inl (0, 2, .inl (upd g1 0 (g2 0))))) hn3).trans b2'
  refine wp_bd (w_gi b2'' (hv 11 (by decide) (by decide) (by decide)) (wp_bd (w_pz b1'' h7 (wp_rt (kk _ _ (upd (upd g1 0 (g2 0)) 1 (g2 1)) gs_eq r1 hx (fun j j1 j2 j3 => ?_) ?_ rfl rfl (fun a q1 q2 => ?_) ?_)))))
  · match j, j1, j2, j3 with
    | 0, _, _, _ => rfl
    | 1, _, _, _ => rfl
    | 2, _, _, _ => rfl
    | 3, _, _, _ => rfl
    | 4, _, _, _ => rfl
    | 5, _, _, _ => rfl
    | 6, _, _, _ => rfl
    | 7, _, _, _ => rfl
    | 8, _, _, _ => rfl
    | 9, _, _, h => exact absurd rfl h
    | 10, _, h, _ => exact absurd rfl h
    | 11, _, _, _ => rfl
    | j + 12, h, _, _ => omega
  · rw [gs_ne (Ne.symm hn2), gs_eq]
  · rw [gs_ne q1, gs_ne q2, gs_ne q2]; exact fr.1 a q1 q2
  · exact fr.2
/-- a state is made like another -/
theorem st_like {b1 b2 tb : Nat} {N : Nt} {la fa : Nat → Nat} {R : Rw} {h : Hp} {z : Nat → Prop} {A : Nat → Hp → Prop} (hN : md_ok N) (H1 : SB b1 h) (H2 : CQ b2 tb N R h) (hd : b1 + 39 ≤ b2 ∨ b2 + 39 ≤ b1) (hn : CN N tb la fa h) (hz : md_nz N tb la fa z) (hzb : ∀ a, z a → ¬ (b1 ≤ a ∧ a < b1 + 39)) (h7 : ∀ f, f < md_nf N → R.2.1 f 7 = 0 ∨ R.2.1 f 7 = 1)
    (kk : ∀ u : Hp, CQ b1 tb N R u → (∀ a, ¬ (b1 ≤ a ∧ a < b1 + 39) → u.1 a = h.1 a) → u.2 = h.2 → A b1 u) : wp (gw_on 2 b1 (fx_X3_like b1 b2)) A h := by
  have hL := hN.nl
  have hF := hN.nf
  obtain ⟨F1, d1, d2, d3⟩ := H1.1
  obtain ⟨F2, s1, s2, s3⟩ := H2.2
  refine w_on d1 ?_
  unfold fx_X3_like
  refine wp_bd (w_gr s1 s2 ?_)
  refine wp_bd (w_pv d1 ?_)
  refine wp_bd (w_gi (by rw [gs_ne (by omega)]; exact s1) s3 ?_)
  refine wp_bd (w_pv gs_eq ?_)
  generalize hv : gw_set (gw_set h b1 (.inr (2, updV F1 0 (.ref tb)))) b1 (.inr (2, updV (updV F1 0 (.ref tb)) 1 (.int R.2.2))) = v
  have fv : (∀ a, ¬ (b1 ≤ a ∧ a < b1 + 39) → v.1 a = h.1 a) ∧ v.2 = h.2 := ⟨fun a ha => by rw [← hv, gs_ne (by omega), gs_ne (by omega)], by rw [← hv]; rfl⟩
  have st : ∃ F, v.1 b1 = some (.inr (2, F)) ∧ F 0 = .ref tb ∧ F 1 = .int R.2.2 ∧ F 2 = .ref (b1 + 1) ∧ F 3 = .ref (b1 + 2) := ⟨updV (updV F1 0 (.ref tb)) 1 (.int R.2.2), by rw [← hv, gs_eq], rfl, rfl, d2, d3⟩
  have cg : CG b1 R 0 0 v := by
    obtain ⟨-, c1, c2, c3, c4, c5, c6⟩ := H1.cg (R := R)
    obtain ⟨F, f1, f2, f3, f4, f5⟩ := st
    have e : ∀ a, a ≠ b1 → v.1 a = h.1 a := fun a ha => by rw [← hv, gs_ne ha, gs_ne ha]
    exact ⟨⟨F, f1, f4, f5⟩, by rw [e _ (by omega)]; exact c1, by rw [e _ (by omega)]; exact c2, fun l hl => by rw [e _ (by omega)]; exact c3 l hl, fun l hl => by rw [e _ (by omega)]; exact c4 l hl, fun l hl => by rw [e _ (by omega)]; exact c5 l hl, fun l hl => by rw [e _ (by omega)]; exact c6 l hl⟩
  -- reads that the loops share
  have net : ∀ {v : Hp}, (∀ a, ¬ (b1 ≤ a ∧ a < b1 + 39) → v.1 a = h.1 a) → CN N tb la fa v := fun q => hn.kept hz fun a ha => q a (hzb a ha)
  have src : ∀ {v : Hp}, (∀ a, ¬ (b1 ≤ a ∧ a < b1 + 39) → v.1 a = h.1 a) → CQ b2 tb N R v := fun q => H2.kept fun a q1 q2 => q a (by omega)
  refine wp_for (J := fun l v => CG b1 R l 0 v ∧ (∃ F, v.1 b1 = some (.inr (2, F)) ∧ F 0 = .ref tb ∧ F 1 = .int R.2.2 ∧ F 2 = .ref (b1 + 1) ∧ F 3 = .ref (b1 + 2)) ∧ (∀ a, ¬ (b1 ≤ a ∧ a < b1 + 39) → v.1 a = h.1 a) ∧ v.2 = h.2) (md_nl N) (by omega) ⟨cg, st, fv.1, fv.2⟩ rfl ?_ ?_
  · rintro l g v hl ⟨cg, ⟨F, f1, f2, f3, f4, f5⟩, fr, fz⟩ hk
    rw [fx_X3_like_L18]
    obtain ⟨FN, n1, n2, n3, n4⟩ := (net fr).1
    obtain ⟨⟨G0, k1, k2, k3⟩, ⟨kg, k4, k5⟩, -, kE, kC, -, -⟩ := (src fr).1
    obtain ⟨c0, ⟨cg1, c1, c1'⟩, c2, c3, c4, c5, c6⟩ := id cg
    refine wp_bd (w_gr f1 f2 (wp_bd (w_gi n1 (n4 0 (by decide)) (wp_ifF (nI_ge hl (show md_nl N < 2 ^ 31 by omega)) ?_))))
    refine wp_bd (w_gr f1 f4 (wp_bd (w_lr c1 rfl (show l < 10 by omega) (by decide) (c1' l (by omega)) ?_)))
    refine wp_bd (w_gr k1 k2 (wp_bd (w_lr k4 rfl (show l < 10 by omega) (by decide) (k5 l (by omega)) ?_)))
    obtain ⟨E1, p1, p2, p3⟩ := c3 l (by omega)
    obtain ⟨E2, q1, q2, q3⟩ := kE l (by omega)
    obtain ⟨A1, p4, p5⟩ := c4 l (by omega)
    obtain ⟨A2, q4, q5⟩ := kC l (by omega)
    refine wp_bd (lk_end p1 q1 p2 q2 p4 q4 (by omega) (by omega) (by omega) (q3 hl) fun u E A r1 r2 r3 r4 r5 r6 r7 => hk u ⟨⟨?_, ?_, ?_, fun a ha => ?_, fun a ha => ?_, fun a ha => ?_, fun a ha => ?_⟩, ⟨F, by rw [r6 _ (by omega) (by omega)]; exact f1, f2, f3, f4, f5⟩, fun a ha => by rw [r6 a (by omega) (by omega)]; exact fr a ha, r7.trans fz⟩)
    · rw [r6 _ (by omega) (by omega)]; exact c0
    · rw [r6 _ (by omega) (by omega)]; exact ⟨cg1, c1, c1'⟩
    · rw [r6 _ (by omega) (by omega)]; exact c2
    · by_cases e : a = l
      · subst e; exact ⟨E, r1, r2, fun _ => r3⟩
      · rw [r6 _ (by omega) (by omega)]
        obtain ⟨E', w1, w2, w3⟩ := c3 a ha
        exact ⟨E', w1, w2, fun q => w3 (by omega)⟩
    · by_cases e : a = l
      · subst e; exact ⟨A, r4, fun _ f hf => (r5 f hf).trans (q5 hl f hf)⟩
      · rw [r6 _ (by omega) (by omega)]
        obtain ⟨E', w1, w2⟩ := c4 a ha
        exact ⟨E', w1, fun q => w2 (by omega)⟩
    · rw [r6 _ (by omega) (by omega)]; exact c5 a ha
    · rw [r6 _ (by omega) (by omega)]; exact c6 a ha
  rintro g v ⟨cg, ⟨F, f1, f2, f3, f4, f5⟩, fr, fz⟩
  rw [fx_X3_like_L18]
  obtain ⟨FN, n1, n2, n3, n4⟩ := (net fr).1
  refine wp_bd (w_gr f1 f2 (wp_bd (w_gi n1 (n4 0 (by decide)) (wp_ifT (Int32.le_refl _) ?_))))
  refine wp_for (J := fun l v => CG b1 R (md_nl N) l v ∧ (∃ F, v.1 b1 = some (.inr (2, F)) ∧ F 0 = .ref tb ∧ F 1 = .int R.2.2 ∧ F 2 = .ref (b1 + 1) ∧ F 3 = .ref (b1 + 2)) ∧ (∀ a, ¬ (b1 ≤ a ∧ a < b1 + 39) → v.1 a = h.1 a) ∧ v.2 = h.2) (md_nf N) (by omega) ⟨cg, ⟨F, f1, f2, f3, f4, f5⟩, fr, fz⟩ rfl ?_ ?_
  · rintro l g v hl ⟨cg, ⟨F, f1, f2, f3, f4, f5⟩, fr, fz⟩ hk
    rw [fx_X3_like_L52]
    obtain ⟨FN, n1, n2, n3, n4⟩ := (net fr).1
    obtain ⟨⟨G0, k1, k2, k3⟩, -, ⟨kg, k4, k5⟩, -, -, kE, kC⟩ := (src fr).1
    obtain ⟨c0, c1, ⟨cg1, c2, c2'⟩, c3, c4, c5, c6⟩ := id cg
    refine wp_bd (w_gr f1 f2 (wp_bd (w_gi n1 (n4 1 (by decide)) (wp_ifF (nI_ge hl (show md_nf N < 2 ^ 31 by omega)) ?_))))
    refine wp_bd (w_gr f1 f5 (wp_bd (w_lr c2 rfl (show l < 8 by omega) (by decide) (c2' l (by omega)) ?_)))
    refine wp_bd (w_gr k1 k3 (wp_bd (w_lr k4 rfl (show l < 8 by omega) (by decide) (k5 l (by omega)) ?_)))
    obtain ⟨E1, p1, p2, p3, p6⟩ := c5 l (by omega)
    obtain ⟨E2, q1, q2, q3, q6⟩ := kE l (by omega)
    obtain ⟨A1, p4, p5⟩ := c6 l (by omega)
    obtain ⟨A2, q4, q5⟩ := kC l (by omega)
    refine wp_bd (lk_snd p1 q1 p2 q2 p4 q4 (by omega) (by omega) (by omega) (by omega) (by omega) (q6 hl) (h7 l hl) p3 fun u E A r1 r2 r8 r3 r4 r5 r9 r6 r7 => hk u ⟨⟨?_, ?_, ?_, fun a ha => ?_, fun a ha => ?_, fun a ha => ?_, fun a ha => ?_⟩, ⟨F, by rw [r6 _ (by omega) (by omega)]; exact f1, f2, f3, f4, f5⟩, fun a ha => by rw [r6 a (by omega) (by omega)]; exact fr a ha, r7.trans fz⟩)
    · rw [r6 _ (by omega) (by omega)]; exact c0
    · rw [r6 _ (by omega) (by omega)]; exact c1
    · rw [r6 _ (by omega) (by omega)]; exact ⟨cg1, c2, c2'⟩
    · rw [r6 _ (by omega) (by omega)]; exact c3 a ha
    · rw [r6 _ (by omega) (by omega)]; exact c4 a ha
    · by_cases e : a = l
      · subst e; exact ⟨E, r1, r2, r8, fun _ => r3⟩
      · rw [r6 _ (by omega) (by omega)]
        obtain ⟨E', w1, w2, w3, w4⟩ := c5 a ha
        exact ⟨E', w1, w2, w3, fun q => w4 (by omega)⟩
    · by_cases e : a = l
      · subst e; exact ⟨A, r4, fun _ => ⟨r5.trans (q5 hl).1, r9.trans (q5 hl).2⟩⟩
      · rw [r6 _ (by omega) (by omega)]
        obtain ⟨E', w1, w2⟩ := c6 a ha
        exact ⟨E', w1, fun q => w2 (by omega)⟩
  · rintro g v ⟨cg, ⟨F, f1, f2, f3, f4, f5⟩, fr, fz⟩
    rw [fx_X3_like_L52]
    obtain ⟨FN, n1, n2, n3, n4⟩ := (net fr).1
    exact wp_bd (w_gr f1 f2 (wp_bd (w_gi n1 (n4 1 (by decide)) (wp_ifT (Int32.le_refl _) (wp_rt (kk v ⟨cg, F, f1, f2, f3⟩ fr fz))))))
