/-! the tick's number goes along -/
def md_wT (x : Int32) (R : Rw) : Rw := (R.1, R.2.1, x)
theorem wT_ite {c : Prop} [Decidable c] {x : Int32} {A B : Rw} : md_wT x (if c then A else B) = if c then md_wT x A else md_wT x B := by split <;> rfl
theorem wT_it {x : Int32} {f : Nat → Rw → Rw} (hf : ∀ i R, f i (md_wT x R) = md_wT x (f i R)) (n : Nat) (R : Rw) : md_it f n (md_wT x R) = md_wT x (md_it f n R) := by
  induction n with
  | zero => rfl
  | succ n ih => rw [md_it, md_it, ih, hf]
theorem wT_lv {N : Nt} {l f : Nat} {n x : Int32} {R : Rw} : md_lv N l f n (md_wT x R) = md_wT x (md_lv N l f n R) := by
  rw [md_lv, md_lv, wT_ite, wT_ite]
  rfl
theorem wT_cm {N : Nt} {g : Nat → Nat → Int32} {l f : Nat} {x : Int32} {R : Rw} : md_cm N g l f (md_wT x R) = md_wT x (md_cm N g l f R) := by
  rw [md_cm, md_cm, wT_ite, wT_ite]
  rfl
theorem wT_cs {N : Nt} {g : Nat → Nat → Int32} {l : Nat} {x : Int32} {R : Rw} : md_cs N g l (md_wT x R) = md_wT x (md_cs N g l R) := by
  rw [md_cs, md_cs, wT_it (fun i R => wT_cm)]
  rfl
theorem wT_s1 {N : Nt} {c : Nat → Nat → Int32} {l n : Nat} {x : Int32} {R : Rw} : md_it (md_s1 N c l) n (md_wT x R, 99) = (md_wT x (md_it (md_s1 N c l) n (R, 99)).1, (md_it (md_s1 N c l) n (R, 99)).2) := by
  induction n with
  | zero => rfl
  | succ n ih => rw [md_it, md_it, ih]; rfl
theorem wT_sm {N : Nt} {c : Nat → Nat → Int32} {l : Nat} {x : Int32} {R : Rw} {ns : Ns} : md_sm N c l (md_wT x R, ns) = (md_wT x (md_sm N c l (R, ns)).1, (md_sm N c l (R, ns)).2) := by
  rw [md_sm, md_sm]
  dsimp only
  rw [wT_s1]
  dsimp only
  split
  · rfl
  · show (if md_no N (md_fb N R l) = 0 then _ else _) = _
    split <;> rfl
theorem wT_wh {N : Nt} {f k : Nat} {x : Int32} {R : Rw} : md_wh N f k (md_wT x R) = md_wT x (md_wh N f k R) := by
  induction k generalizing R with
  | zero => rfl
  | succ k ih =>
    rw [md_wh, md_wh, wT_ite, ← ih]
    rfl
theorem wT_rec {N : Nt} {f : Nat} {x : Int32} {R : Rw} : md_rec N f (md_wT x R) = md_wT x (md_rec N f R) := by
  rw [md_rec, md_rec, wT_ite]
  show (if R.2.1 f 7 = 0 then md_wT x R else md_rb N f (md_wh N f 5000 (md_wT x (md_S R f 9 (R.2.1 f 9 + R.2.1 f 12))))) = _
  rw [wT_wh]
  generalize md_wh N f 5000 (md_S R f 9 (R.2.1 f 9 + R.2.1 f 12)) = Y
  have : md_rb N f (md_wT x Y) = md_wT x (md_rb N f Y) := by
    rw [md_rb, md_rb, wT_ite]
    rfl
  rw [this]
theorem wT_c1 {f : Nat} {x : Int32} {R : Rw} : md_c1 f (md_wT x R) = md_wT x (md_c1 f R) := by
  rw [md_c1, md_c1, wT_ite]
  rfl
/-- rows that differ in what was sent in the last tick alone -/
def md_eqv (R R' : Rw) : Prop := R'.1 = R.1 ∧ R'.2.2 = R.2.2 ∧ ∀ f k, k ≠ 12 → R'.2.1 f k = R.2.1 f k
theorem md_eqv.rf (R : Rw) : md_eqv R R := ⟨rfl, rfl, fun _ _ _ => rfl⟩
theorem CB.congr {b tb : Nat} {N : Nt} {R R' : Rw} {h : Hp} (H : CB b tb N R h) (e1 : ∀ l, l < md_nl N → R'.1 l = R.1 l) (e2 : R'.2.2 = R.2.2) (e3 : ∀ f, f < md_nf N → R'.2.1 f = R.2.1 f) : CB b tb N R' h := by
  obtain ⟨c0, c1, c2, c3, c4, c5, c6⟩ := H
  refine ⟨by rw [e2]; exact c0, c1, c2, fun l hl => ?_, fun l hl => ?_, fun f hf => ?_, fun f hf => ?_⟩
  · obtain ⟨F, q1, q2, q3⟩ := c3 l hl
    exact ⟨F, q1, q2, fun q => by rw [e1 l q]; exact q3 q⟩
  · obtain ⟨g, q1, q2⟩ := c4 l hl
    exact ⟨g, q1, fun q => by rw [e1 l q]; exact q2 q⟩
  · obtain ⟨F, q1, q2, q9, q3⟩ := c5 f hf
    exact ⟨F, q1, q2, q9, fun q => by rw [e3 f q]; exact q3 q⟩
  · obtain ⟨g, q1, q2⟩ := c6 f hf
    exact ⟨g, q1, fun q => by rw [e3 f q]; exact q2 q⟩
theorem md_t1_eqv {N : Nt} {R R' : Rw} (h : md_eqv R R') : (md_t1 N R').1 = (md_t1 N R).1 ∧ (md_t1 N R').2.2 = (md_t1 N R).2.2 ∧ ∀ f, f < md_nf N → (md_t1 N R').2.1 f = (md_t1 N R).2.1 f := by
  obtain ⟨h1, h2, h3⟩ := h
  refine ⟨by rw [md_t1_at.1, md_t1_at.1, h1], by rw [md_t1_at.2.1, md_t1_at.2.1, h2], fun f hf => funext fun k => ?_⟩
  rw [md_t1_at.2.2, md_t1_at.2.2, if_pos hf, if_pos hf, h3 f 7 (by decide), h3 f 8 (by decide), h3 f 0 (by decide)]
  by_cases e : k = 12
  · rw [if_pos e, if_pos e]
  · rw [if_neg e, if_neg e, h3 f k e]
section TKall
variable {o tb b : Nat} {N : Nt} {la fa : Nat → Nat} {F0 : Nat → Value} {h0 h : Hp} {R R' : Rw} {rd gv co : Nat → Int32} {ns : Ns} {P : Unit → Hp → Prop}
theorem tk_ticks {m : Nat} (hI : md_iv N m R) (hm : m ≤ 20000) {R0 : Rw} (hR0 : md_eqv R R0) (H : TK o N tb la fa b F0 h0 R0 rd gv co ns h) (kk : ∀ u rd gv co ns, TK o N tb la fa b F0 h0 (md_tk N R) rd gv co ns u → (∀ l f, l < md_nl N → f < md_nf N → co (8 * l + f) = md_tc N R l f) → ns.1 ≤ 10 → P () u) : wg (gw_on 0 o (fx_X1_ticks o b)) 20 30 P h := by
  have hN := H.1.1
  have hF := hN.nf
  have hL := hN.nl
  obtain ⟨F, e⟩ := H.root
  refine g_on e ?_
  unfold fx_X1_ticks
  refine wg_b0 (tk_tick H ?_)
  refine wg_b0 (tk_pT H fun u H => ?_)
  rw [hR0.2.1] at H
  have H : TK o N tb la fa b F0 h0 (md_wT (R.2.2 + 1) R0) rd gv co ns u := H
  -- credits
  refine wg_for0 (J := fun i u => TK o N tb la fa b F0 h0 (md_wT (R.2.2 + 1) (md_it md_c1 i R0)) rd gv co ns u) (md_nf N) (by omega) H rfl ?_ ?_
  · rintro f g u hf H hk
    rw [fx_X1_ticks_L12]
    unfold fx_X1_ticks_J61
    rw [md_it, ← wT_c1] at hk
    generalize md_wT (R.2.2 + 1) (md_it md_c1 f R0) = X at H hk
    refine wg_b0 (tk_told H ?_)
    refine wg_b0 (tk_nf H ?_)
    refine wg_ifF (nI_ge hf (by omega)) ?_
    refine wg_b0 (tk_snds H ?_)
    refine wg_b0 (tk_snd H (by omega) ?_)
    refine wg_b0 (tk_pS 9 12 H hf (by decide) fun u H => ?_)
    refine wg_b0 (tk_gS 11 7 H hf (by decide) ?_)
    rw [md_Sk (by decide)]
    rw [md_c1] at hk
    by_cases e : X.2.1 f 7 = 0
    · rw [if_pos e] at hk
      exact wg_ifT e (hk u H)
    · rw [if_neg e] at hk
      refine wg_ifF e ?_
      refine wg_b0 (tk_gS 6 8 H hf (by decide) ?_)
      refine wg_b0 (tk_gS 0 0 H hf (by decide) ?_)
      rw [md_Sk (by decide), md_Sk (by decide)]
      exact wg_b0 (tk_pS 6 8 H hf (by decide) fun u H => hk u H)
  rintro g u H
  rw [fx_X1_ticks_L12]
  refine wg_b0 (tk_told H ?_)
  refine wg_b0 (tk_nf H ?_)
  refine wg_ifT (Int32.le_refl _) ?_
  have H : TK o N tb la fa b F0 h0 (md_wT (R.2.2 + 1) (md_t1 N R)) rd gv co ns u := by
    obtain ⟨q1, q2, q3⟩ := md_t1_eqv (N := N) hR0
    exact ⟨H.1, CB.congr H.2.1 (fun l _ => congrFun q1.symm l) rfl (fun f hf => (q3 f hf).symm), H.2.2⟩
  -- what can go
  refine wg_for0 (J := fun i u => ∃ rd, TK o N tb la fa b F0 h0 (md_wT (R.2.2 + 1) (md_t1 N R)) rd gv co ns u ∧ ∀ l f, l < i → f < md_nf N → rd (8 * l + f) = md_rdy N (md_t1 N R) l f) (md_nl N) (by omega) ⟨rd, H, fun l f hl => absurd hl (Nat.not_lt_zero _)⟩ rfl ?_ ?_
  · rintro l g u hl ⟨rd, H, hd⟩ hk
    rw [fx_X1_ticks_L69]
    refine wg_b0 (tk_told H ?_)
    refine wg_b0 (tk_nl H ?_)
    refine wg_ifF (nI_ge hl (by omega)) ?_
    refine wg_for0 (J := fun i u => ∃ rd, TK o N tb la fa b F0 h0 (md_wT (R.2.2 + 1) (md_t1 N R)) rd gv co ns u ∧ ∀ l' f, (l' < l ∨ l' = l ∧ f < i) → f < md_nf N → rd (8 * l' + f) = md_rdy N (md_t1 N R) l' f) (md_nf N) (by omega) ⟨rd, H, fun l' f hl hf => hd l' f (by omega) hf⟩ rfl ?_ ?_
    · rintro f g' u hf ⟨rd, H, hd⟩ hk'
      rw [fx_X1_ticks_L82]
      refine wg_b0 (tk_told H ?_)
      refine wg_b0 (tk_nf H ?_)
      refine wg_ifF (nI_ge hf (by omega)) ?_
      refine wg_b0 (tk_rd H ?_)
      refine wg_b0 (tk_ready H hf hl ?_)
      refine wg_b0 (tk_str H (by omega) (by omega) fun u H => hk' u ⟨_, H, fun l' f' hl' hf' => ?_⟩)
      unfold upd
      by_cases e : 8 * l' + f' = 8 * l + f
      · rw [if_pos e]
        obtain ⟨rfl, rfl⟩ : l' = l ∧ f' = f := by omega
        rfl
      · rw [if_neg e]
        exact hd l' f' (by omega) hf'
    · rintro g' u ⟨rd, H, hd⟩
      rw [fx_X1_ticks_L82]
      refine wg_b0 (tk_told H ?_)
      refine wg_b0 (tk_nf H ?_)
      refine wg_ifT (Int32.le_refl _) ?_
      exact hk u ⟨rd, H, fun l' f hl' hf => hd l' f (by omega) hf⟩
  rintro g u ⟨rd, H, hrd⟩
  rw [fx_X1_ticks_L69]
  refine wg_b0 (tk_told H ?_)
  refine wg_b0 (tk_nl H ?_)
  refine wg_ifT (Int32.le_refl _) ?_
  -- carries
  refine wg_for0 (J := fun i u => ∃ gv', TK o N tb la fa b F0 h0 (md_wT (R.2.2 + 1) (md_ca (md_ta N R) i (md_it (fun l => md_it (fun f => md_lv N l f (md_tg N R l f)) (md_nf N)) i (md_t1 N R)))) rd gv' co ns u ∧ (∀ l f, l < i → f < md_nf N → gv' (8 * l + f) = md_tg N R l f)) (md_nl N) (by omega) ⟨gv, by rw [md_ca_0]; exact H, fun l f hl => absurd hl (Nat.not_lt_zero _)⟩ rfl ?_ ?_
  · rintro l g u hl ⟨gv', H, q1⟩ hk
    rw [fx_X1_ticks_L124]
    refine wg_b0 (tk_told H ?_)
    refine wg_b0 (tk_nl H ?_)
    refine wg_ifF (nI_ge hl (by omega)) ?_
    rw [md_it] at hk
    have hE : ∀ k, k < 15 → k ≠ 7 → (md_it (fun l => md_it (fun f => md_lv N l f (md_tg N R l f)) (md_nf N)) l (md_t1 N R)).1 l k = (md_t1 N R).1 l k := by
      intro k hk1 hk2
      refine md_it_inv (fun (X : Rw) => X.1 l k = (md_t1 N R).1 l k) rfl fun i X _ hX => md_it_inv (fun (X : Rw) => X.1 l k = (md_t1 N R).1 l k) hX fun f X _ hX => ?_
      rw [md_lv]
      split
      · exact hX
      · split
        · exact hX
        · rw [md_Ek (by omega)]; exact hX
    generalize md_it (fun l => md_it (fun f => md_lv N l f (md_tg N R l f)) (md_nf N)) l (md_t1 N R) = X at H hk hE
    have hdl := hN.delay hl
    have hgv : md_gv N (md_wT (R.2.2 + 1) (md_ca (md_ta N R) l X)) (fun f => md_rdy N (md_t1 N R) l f) l = md_gv N (md_t1 N R) (fun f => md_rdy N (md_t1 N R) l f) l := by
      refine md_gv_congr ?_
      show (md_ca (md_ta N R) l X).1 l _ = _
      rw [(md_ca_at (N := N)).1 l _ (by omega), hE _ (by omega) (by omega)]
    refine wg_b0 (tk_car (rdm := fun f => md_rdy N (md_t1 N R) l f) H hl (fun f hf => hrd l f hl hf) ?_ ?_ ?_)
    · intro k hk5
      show (md_ca (md_ta N R) l X).1 l _ = 0 ∨ (md_ca (md_ta N R) l X).1 l _ = 1
      rw [(md_ca_at (N := N)).1 l _ (by omega), hE _ (by omega) (by omega), md_t1_at.1]
      exact (hI.2.1 l hl).1 k hk5
    · intro f hf hz
      rw [hgv] at hz
      exact md_tg_z hN hI hl hf hz
    · intro u gv'' H r1 r2
      rw [hgv] at H r1
      refine hk u ⟨gv'', ?_, fun a f ha hf => ?_⟩
      · rw [← md_ca_s, ← md_lvs_ca]
        rw [wT_it (fun i R => wT_lv)] at H
        exact H
      · by_cases e : a = l
        · rw [e, r1 f hf]; rfl
        · rw [r2 a f e hf]; exact q1 a f (by omega) hf
  rintro g u ⟨gv', H, hgv⟩
  rw [fx_X1_ticks_L124]
  refine wg_b0 (tk_told H ?_)
  refine wg_b0 (tk_nl H ?_)
  refine wg_ifT (Int32.le_refl _) ?_
  rw [← md_lvs2_ca] at H
  have H : TK o N tb la fa b F0 h0 (md_wT (R.2.2 + 1) (md_t2 N R)) rd gv' co ns u := H
  -- what comes
  refine wg_for0 (J := fun i u => ∃ co', TK o N tb la fa b F0 h0 (md_wT (R.2.2 + 1) (md_it (md_cs N (md_tg N R)) i (md_t2 N R))) rd gv' co' ns u ∧ (∀ l f, l < i → f < md_nf N → co' (8 * l + f) = md_tc N R l f)) (md_nl N) (by omega) ⟨co, H, fun l f hl => absurd hl (Nat.not_lt_zero _)⟩ rfl ?_ ?_
  · rintro l g u hl ⟨co', H, q1⟩ hk
    rw [fx_X1_ticks_L149]
    refine wg_b0 (tk_told H ?_)
    refine wg_b0 (tk_nl H ?_)
    refine wg_ifF (nI_ge hl (by omega)) ?_
    refine wg_b0 (tk_arr (G := md_tg N R) H hl (fun f hf => hgv l f hl hf) (fun f hf hz => md_tg_z hN hI hl hf hz) fun u co'' H r1 r2 => hk u ⟨co'', ?_, fun a f ha hf => ?_⟩)
    · rw [wT_cs] at H
      exact H
    · by_cases e : a = l
      · rw [e, r1 f hf, wT_it (fun i R => wT_cm)]; rfl
      · rw [r2 a f e hf]; exact q1 a f (by omega) hf
  rintro g u ⟨co', H, hco⟩
  rw [fx_X1_ticks_L149]
  refine wg_b0 (tk_told H ?_)
  refine wg_b0 (tk_nl H ?_)
  refine wg_ifT (Int32.le_refl _) ?_
  have H : TK o N tb la fa b F0 h0 (md_wT (R.2.2 + 1) (md_t3 N R)) rd gv' co' ns u := H
  obtain ⟨t1, t2, t3, t4, t5, t6⟩ := md_t3_iv hN hI hm
  -- asks
  refine wg_for0 (J := fun i u => TK o N tb la fa b F0 h0 (md_wT (R.2.2 + 1) (md_it md_ask i (md_t3 N R))) rd gv' co' ns u) (md_nl N) (by omega) H rfl ?_ ?_
  · rintro l g u hl H hk
    rw [fx_X1_ticks_L174]
    refine wg_b0 (tk_told H ?_)
    refine wg_b0 (tk_nl H ?_)
    refine wg_ifF (nI_ge hl (by omega)) ?_
    refine wg_b0 (tk_ends H ?_)
    refine wg_b0 (tk_end H (by omega) ?_)
    have hil : md_il (64 * (m + 1)) ((md_it md_ask l (md_t3 N R)).1 l) := md_it_inv (fun (X : Rw) => md_il (64 * (m + 1)) (X.1 l)) (t2 l hl) fun i X _ hX => md_ask_il hX
    refine wg_b0 (tk_asks H hl hil.1 fun u H => hk u H)
  rintro g u H
  rw [fx_X1_ticks_L174]
  refine wg_b0 (tk_told H ?_)
  refine wg_b0 (tk_nl H ?_)
  refine wg_ifT (Int32.le_refl _) ?_
  have H : TK o N tb la fa b F0 h0 (md_wT (R.2.2 + 1) (md_t4 N R)) rd gv' co' ns u := H
  refine wg_b0 (tk_nm0 (g := fun _ => (0, 0)) H fun u H => ?_)
  obtain ⟨a1, a2, a3⟩ := md_t4_at t2
  obtain ⟨b1, b2, b3, b4, b5⟩ := md_t5_iv hN hI hm
  obtain ⟨c1, c2, c3, c4⟩ := md_t6_iv hN hI hm
  -- samples
  refine wg.mono (wg_for 2 3 0 0 (J := fun i u => TK o N tb la fa b F0 h0 (md_wT (R.2.2 + 1) (md_it (md_sm N (md_tc N R)) i (md_t4 N R, (0, fun _ => (0, 0)))).1) rd gv' co' (md_it (md_sm N (md_tc N R)) i (md_t4 N R, (0, fun _ => (0, 0)))).2 u) (md_nl N) (by omega) H rfl ?_ ?_) (by omega) (by omega) (fun _ _ q => q)
  · rintro l g u X Y hl H hk
    rw [fx_X1_ticks_L207]
    obtain ⟨d1, -, -, -, d5⟩ := md_t5_at hN (n := l) (by omega) a1 rfl
    refine wg_b0 (tk_told H ?_)
    refine wg_b0 (tk_nl H ?_)
    refine wg_ifF (nI_ge hl (by omega)) ?_
    refine wg_bc 2 3 (by omega) (by omega) (tk_smp (G := md_tc N R) H hl (fun f hf => hco l f hl hf) (by omega) (d1 l hl) fun u H => ?_)
    rw [Nat.add_sub_cancel_left, Nat.add_sub_cancel_left]
    refine hk u ?_
    rw [wT_sm] at H
    rw [md_it]
    exact H
  rintro g u H
  rw [fx_X1_ticks_L207]
  refine wg_b0 (tk_told H ?_)
  refine wg_b0 (tk_nl H ?_)
  refine wg_ifT (Int32.le_refl _) ?_
  have H : TK o N tb la fa b F0 h0 (md_wT (R.2.2 + 1) (md_t5 N R).1) rd gv' co' (md_t5 N R).2 u := H
  -- notices
  refine wg_for0 (J := fun i u => TK o N tb la fa b F0 h0 (md_wT (R.2.2 + 1) (md_it (fun k => md_cut ((md_t5 N R).2.2 k).1 ((md_t5 N R).2.2 k).2) i (md_t5 N R).1)) rd gv' co' (md_t5 N R).2 u) (md_t5 N R).2.1 (by omega) H rfl ?_ ?_
  · rintro k g u hk0 H hk
    rw [fx_X1_ticks_L232]
    refine wg_b0 (tk_nm H (by omega) ?_)
    refine wg_ifF (nI_ge hk0 (by omega)) ?_
    exact tk_deed H hk0 (by omega) (b4 k hk0).1 fun u H => hk u H
  rintro g u H
  rw [fx_X1_ticks_L232]
  refine wg_b0 (tk_nm H (by omega) ?_)
  refine wg_ifT (Int32.le_refl _) ?_
  have H : TK o N tb la fa b F0 h0 (md_wT (R.2.2 + 1) (md_t6 N R)) rd gv' co' (md_t5 N R).2 u := H
  -- stages
  refine wg_for0 (J := fun i u => TK o N tb la fa b F0 h0 (md_wT (R.2.2 + 1) (md_it (md_rec N) i (md_t6 N R))) rd gv' co' (md_t5 N R).2 u) (md_nf N) (by omega) H rfl ?_ ?_
  · rintro f g u hf H hk
    obtain ⟨d1, d2, d3, d4, d5⟩ := md_t7_n hN hI hm f (by omega)
    rw [md_it, ← wT_rec] at hk
    generalize md_it (md_rec N) f (md_t6 N R) = X at H hk d1 d2 d3 d4 d5
    obtain ⟨⟨e7, e8, e0, e1, e3, ⟨n9, hn9, e9⟩⟩, e12⟩ := c3 f hf
    rw [fx_X1_ticks_L263]
    unfold fx_X1_ticks_J303
    refine wg_b0 (tk_told H ?_)
    refine wg_b0 (tk_nf H ?_)
    refine wg_ifF (nI_ge hf (by omega)) ?_
    refine wg_b0 (tk_snds H ?_)
    refine wg_b0 (tk_snd H (by omega) ?_)
    refine wg_b0 (tk_gS 11 7 H hf (by decide) ?_)
    have hp := hN.pa hf (hN.ho hf).1
    obtain ⟨c, g1, g2, -, -⟩ := md_tg_b hN hI hp
    have g3 : c f ≤ md_sn c (md_nf N) := md_sn_le hf
    by_cases e : (md_wT (R.2.2 + 1) X).2.1 f 7 = 0
    · refine wg_ifT e (hk u ?_)
      rw [md_rec, if_pos e]
      exact H
    · refine wg_ifF e ?_
      refine wg_b0 (tk_snds H ?_)
      refine wg_b0 (tk_snd H (by omega) ?_)
      refine wg_b0 (tk_told H ?_)
      refine wg_b0 (tk_clm H ?_)
      refine wg_b0 (tk_rec (a := n9) (d := c f) H hf e ?_ hn9 ?_ (by omega) fun u H => hk u H)
      · exact (d4 f 9 (Nat.le_refl _)).trans e9
      · exact (d4 f 12 (Nat.le_refl _)).trans (e12.trans (g1 f))
  rintro g u H
  rw [fx_X1_ticks_L263]
  refine wg_b0 (tk_told H ?_)
  refine wg_b0 (tk_nf H ?_)
  refine wg_ifT (Int32.le_refl _) ?_
  exact wg_rc (kk u rd gv' co' (md_t5 N R).2 H hco b5)
end TKall
