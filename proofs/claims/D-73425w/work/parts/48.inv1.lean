/-! WHAT STAYS TRUE of a row -/
def md_sn (c : Nat → Nat) : Nat → Nat
  | 0 => 0
  | n + 1 => md_sn c n + c n
theorem md_sn_congr {c d : Nat → Nat} {n : Nat} (h : ∀ i, i < n → c i = d i) : md_sn c n = md_sn d n := by
  induction n with
  | zero => rfl
  | succ n ih => rw [md_sn, md_sn, ih fun i hi => h i (Nat.lt_succ_of_lt hi), h n (Nat.lt_succ_self n)]
theorem md_sn_le {c : Nat → Nat} {i n : Nat} (h : i < n) : c i ≤ md_sn c n := by
  induction n with
  | zero => exact absurd h (Nat.not_lt_zero _)
  | succ n ih =>
    rw [md_sn]
    by_cases e : i = n
    · rw [e]; omega
    · have := ih (by omega); omega
theorem md_sn_mono {c d : Nat → Nat} {n : Nat} (h : ∀ i, i < n → c i ≤ d i) : md_sn c n ≤ md_sn d n := by
  induction n with
  | zero => exact Nat.le_refl _
  | succ n ih => rw [md_sn, md_sn]; have h1 := ih fun i hi => h i (Nat.lt_succ_of_lt hi); have h2 := h n (Nat.lt_succ_self n); omega
theorem md_sn_up {c : Nat → Nat} {i n x : Nat} (h : i < n) : md_sn (va_up c i x) n + c i = md_sn c n + x := by
  induction n with
  | zero => exact absurd h (Nat.not_lt_zero _)
  | succ n ih =>
    rw [md_sn, md_sn]
    by_cases e : i = n
    · subst e
      rw [md_up_eq, md_sn_congr (d := c) (fun j hj => md_up_ne (Nat.ne_of_lt hj))]
      omega
    · have h1 := ih (by omega)
      rw [md_up_ne (show n ≠ i by omega)]
      omega
theorem md_sum_nI {g : Nat → Int32} {c : Nat → Nat} {n : Nat} (h : ∀ i, i < n → g i = nI (c i)) : md_sum g n = nI (md_sn c n) := by
  induction n with
  | zero => rfl
  | succ n ih => rw [md_sum, md_sn, ih fun i hi => h i (Nat.lt_succ_of_lt hi), h n (Nat.lt_succ_self n), nI_add]
theorem md_sum_one {g h : Nat → Int32} {i n : Nat} (hi : i < n) (e : ∀ j, j < n → j ≠ i → h j = g j) : md_sum h n = md_sum g n + (h i - g i) := by
  induction n with
  | zero => exact absurd hi (Nat.not_lt_zero _)
  | succ n ih =>
    rw [md_sum, md_sum]
    by_cases e2 : i = n
    · subst e2
      rw [md_sum_congr (g := h) (h := g) fun j hj => e j (by omega) (by omega)]
      grind
    · have h1 := ih (by omega) fun j hj => e j (by omega)
      rw [h1, e n (by omega) (by omega)]
      grind
/-! what is given -/
def md_gi (rd : Nat → Int32) (n cap : Nat) (x : (Nat → Int32) × Nat × Bool) : Prop := ∃ c : Nat → Nat, (∀ f, x.1 f = nI (c f)) ∧ md_sn c n + x.2.1 = cap ∧ ∀ f m, rd f = nI m → m < 2 ^ 31 → c f ≤ m
theorem md_gi_r1 {rd : Nat → Int32} {n cap f : Nat} {x : (Nat → Int32) × Nat × Bool} (hf : f < n) (h : md_gi rd n cap x) : md_gi rd n cap (md_r1 rd f x) := by
  obtain ⟨c, h1, h2, h3⟩ := h
  rw [md_r1]
  split
  · exact ⟨c, h1, h2, h3⟩
  · next hc =>
    have hup := md_sn_up (c := c) (x := c f + 1) hf
    refine ⟨va_up c f (c f + 1), fun g => ?_, by dsimp only; omega, fun g m hg hm => ?_⟩
    · dsimp only
      unfold upd va_up
      split
      · rw [h1 f, nI_1]
      · exact h1 g
    · unfold va_up
      split
      · next e =>
        have h4 := h3 f m (by rw [← e]; exact hg) hm
        have h5 : c f ≠ m := fun e2 => hc (Or.inr (by rw [h1 f, e2, ← e]; exact hg))
        omega
      · exact h3 g m hg hm
theorem md_gi_r3 {rd : Nat → Int32} {n cap : Nat} : ∀ (k : Nat) (x : (Nat → Int32) × Nat × Bool), md_gi rd n cap x → md_gi rd n cap (md_r3 rd n k x) := by
  intro k
  induction k with
  | zero => intro x h; exact h
  | succ k ih =>
    intro x h
    rw [md_r3]
    split
    · refine ih _ ?_
      unfold md_r2
      exact md_it_inv (md_gi rd n cap) h fun i s hi hs => md_gi_r1 hi hs
    · exact h
theorem md_gv_b {N : Nt} {R : Rw} {rd : Nat → Int32} {l : Nat} : ∃ c : Nat → Nat, (∀ f, (md_gv N R rd l).1 f = nI (c f)) ∧ md_sn c (md_nf N) + (md_gv N R rd l).2 = N.2.1 l 1 ∧ ∀ f m, rd f = nI m → m < 2 ^ 31 → c f ≤ m := by
  have h0 : ∀ b, md_gi rd (md_nf N) (N.2.1 l 1) (fun _ => 0, N.2.1 l 1, b) := by
    intro b
    refine ⟨fun _ => 0, fun _ => rfl, ?_, fun _ _ _ _ => Nat.zero_le _⟩
    have e : ∀ n, md_sn (fun _ => 0) n = 0 := by
      intro n
      induction n with
      | zero => rfl
      | succ n ih => rw [md_sn, ih]
    rw [e]
    exact Nat.zero_add _
  unfold md_gv
  split
  · exact md_gi_r3 100 _ (h0 true)
  · exact h0 false
/-! a row's law -/
def md_il (m : Nat) (e : Nat → Int32) : Prop := (∀ k, k < 5 → e (10 + k) = 0 ∨ e (10 + k) = 1) ∧ (∃ c : Nat → Nat, (∀ f, f < 8 → e (15 + f) = nI (c f)) ∧ md_sn c 8 ≤ 1999) ∧ (∃ n, n ≤ 1999 ∧ e 9 = nI n) ∧ (∃ n, 1 ≤ n ∧ n ≤ 1999 ∧ e 2 = nI n) ∧ ∃ n, n ≤ m ∧ e 3 = nI n
def md_if (m : Nat) (s : Nat → Int32) : Prop := (s 7 = 0 ∨ s 7 = 1) ∧ (∃ n, n ≤ 1024 ∧ s 8 = nI n) ∧ (∃ n, 1 ≤ n ∧ n ≤ 1024 ∧ s 0 = nI n) ∧ (∃ n, 1 ≤ n ∧ n ≤ 1024 ∧ s 1 = nI n) ∧ (∃ n, n ≤ m ∧ s 3 = nI n) ∧ ∃ n, n ≤ 1000 ∧ s 9 = nI n
def md_iv (N : Nt) (m : Nat) (R : Rw) : Prop := R.2.2 = nI m ∧ (∀ l, l < md_nl N → md_il (64 * m) (R.1 l)) ∧ (∀ f, f < md_nf N → md_if m (R.2.1 f)) ∧ md_sum (fun l => R.1 l 3) (md_nl N) = md_sum (fun f => R.2.1 f 11) (md_nf N)
theorem md_il.q {m : Nat} {R : Rw} {l : Nat} (h : md_il m (R.1 l)) : ∃ n, n ≤ 1999 ∧ md_q R l = nI n := by
  obtain ⟨-, ⟨c, h1, h2⟩, -⟩ := h
  exact ⟨_, h2, md_sum_nI h1⟩
theorem md_if.keep {m : Nat} {s s' : Nat → Int32} (h : md_if m s) (h7 : s' 7 = s 7) (h8 : ∃ n, n ≤ 1024 ∧ s' 8 = nI n) (h0 : s' 0 = s 0) (h1 : s' 1 = s 1) (h3 : s' 3 = s 3) (h9 : s' 9 = s 9) : md_if m s' := by
  obtain ⟨a, b, c, d, e, f⟩ := h
  exact ⟨by rw [h7]; exact a, h8, by rw [h0]; exact c, by rw [h1]; exact d, by rw [h3]; exact e, by rw [h9]; exact f⟩
theorem md_t1_at {N : Nt} {R : Rw} : (md_t1 N R).1 = R.1 ∧ (md_t1 N R).2.2 = R.2.2 ∧ ∀ f k, (md_t1 N R).2.1 f k = if f < md_nf N then (if k = 12 then 0 else if k = 8 ∧ ¬ R.2.1 f 7 = 0 then md_mn 1024 (R.2.1 f 8 + R.2.1 f 0) else R.2.1 f k) else R.2.1 f k := md_c1_at R (md_nf N)
theorem md_t1_k {N : Nt} {R : Rw} {f k : Nat} (h8 : k ≠ 8) (h12 : k ≠ 12) : (md_t1 N R).2.1 f k = R.2.1 f k := by
  rw [md_t1_at.2.2 f k]
  split
  · rw [if_neg (fun q => h8 q.1)]
  · rfl
theorem md_iv.t1 {N : Nt} {m : Nat} {R : Rw} (h : md_iv N m R) : md_iv N m (md_t1 N R) := by
  obtain ⟨h1, h2, h3, h4⟩ := h
  refine ⟨by rw [md_t1_at.2.1]; exact h1, fun l hl => by rw [md_t1_at.1]; exact h2 l hl, fun f hf => ?_, ?_⟩
  · refine (h3 f hf).keep (md_t1_k (by decide) (by decide)) ?_ (md_t1_k (by decide) (by decide)) (md_t1_k (by decide) (by decide)) (md_t1_k (by decide) (by decide)) (md_t1_k (by decide) (by decide))
    rw [md_t1_at.2.2 f 8, if_pos hf, if_neg (by decide)]
    obtain ⟨-, ⟨a, ha, ea⟩, ⟨b, -, hb, eb⟩, -⟩ := h3 f hf
    split
    · rw [ea, eb, nI_add]
      obtain ⟨n, hn, -, -, e⟩ := md_mn_b (m := a + b) (by omega)
      exact ⟨n, hn, e⟩
    · exact ⟨a, ha, ea⟩
  · rw [md_t1_at.1, h4]
    exact md_sum_congr fun f _ => (md_t1_k (by decide) (by decide)).symm
/-! G: what goes -/
theorem md_rdy_b {N : Nt} {m l f : Nat} {R : Rw} (hN : md_ok N) (h : md_iv N m R) (hf : f < md_nf N) : ∃ n, n ≤ 1999 ∧ md_rdy N R l f = nI n ∧ (md_hop N f l = md_ho N f → n = 0) ∧ (md_hop N f l = 0 → ∃ c, R.2.1 f 8 = nI c ∧ c ≤ 1024 ∧ 16 * n ≤ c) ∧ ∀ j, md_hop N f l = j + 1 → j + 1 < md_ho N f → R.1 (md_pa N f j) (15 + f) = nI n := by
  have hH := hN.ho hf
  unfold md_rdy
  by_cases e : md_hop N f l = md_ho N f
  · rw [if_pos e]
    exact ⟨0, by omega, rfl, fun _ => rfl, fun h => by omega, fun j h1 h2 => by omega⟩
  · rw [if_neg e]
    by_cases e0 : md_hop N f l = 0
    · rw [if_pos e0]
      obtain ⟨-, ⟨a, ha, ea⟩, -⟩ := h.2.2.1 f hf
      refine ⟨a / 16, by omega, ?_, fun h => by omega, fun _ => ⟨a, ea, ha, by omega⟩, fun j h1 => by omega⟩
      rw [ea]
      exact pk_div (d := 16) (by omega) (by decide) (by decide)
    · rw [if_neg e0]
      have hle := md_hop_le N f l
      have hp := hN.pa hf (show md_hop N f l - 1 < md_ho N f by omega)
      obtain ⟨-, ⟨c, h1, h2⟩, -⟩ := h.2.1 _ hp
      have hF := hN.nf
      have h3 : c f ≤ md_sn c 8 := md_sn_le (by omega)
      exact ⟨c f, by omega, h1 f (by omega), fun h => by omega, fun h => by omega, fun j hj _ => by rw [show j = md_hop N f l - 1 by omega]; exact h1 f (by omega)⟩
/-- of what goes by a link: as numbers; all of it at most its cap; a cell's and a credit's worth at most -/
theorem md_tg_b {N : Nt} {m l : Nat} {R : Rw} (hN : md_ok N) (h : md_iv N m R) (hl : l < md_nl N) : ∃ c : Nat → Nat, (∀ f, md_tg N R l f = nI (c f)) ∧ md_sn c (md_nf N) ≤ 64 ∧ md_ta N R l = nI (md_sn c (md_nf N)) ∧ ∀ f, f < md_nf N → ∃ n, c f ≤ n ∧ md_rdy N (md_t1 N R) l f = nI n ∧ n ≤ 1999 := by
  obtain ⟨c, h1, h2, h3⟩ := md_gv_b (N := N) (R := md_t1 N R) (rd := fun f => md_rdy N (md_t1 N R) l f) (l := l)
  have hc := hN.cap hl
  refine ⟨c, h1, by omega, ?_, fun f hf => ?_⟩
  · unfold md_ta
    rw [pk_sub (by omega)]
    congr 1
    omega
  · obtain ⟨n, hn, e, -⟩ := md_rdy_b (l := l) hN h.t1 hf
    exact ⟨n, h3 f n e (by omega), e, hn⟩
theorem md_tg_z {N : Nt} {m l f : Nat} {R : Rw} (hN : md_ok N) (h : md_iv N m R) (hl : l < md_nl N) (hf : f < md_nf N) (hz : md_tg N R l f ≠ 0) : md_hop N f l < md_ho N f := by
  obtain ⟨c, h1, h2, h3, h4⟩ := md_tg_b hN h hl
  obtain ⟨n, hn, e, hn9⟩ := h4 f hf
  obtain ⟨n', hn', e', hz', -⟩ := md_rdy_b (l := l) hN h.t1 hf
  have hle := md_hop_le N f l
  rcases Nat.lt_or_ge (md_hop N f l) (md_ho N f) with q | q
  · exact q
  · have e2 := hz' (by omega)
    have e3 := (nI_eq (by omega) (by omega)).mp (e.symm.trans e')
    refine absurd ?_ hz
    rw [h1 f, show c f = 0 by omega]
    rfl

/-! the cells that leave: by the flows' ways -/
/-- (a, b) comes before (l, f) -/
def md_bf (l f a b : Nat) : Prop := a < l ∨ a = l ∧ b < f
/-- what holds of R' when the cells of all before (l, f) have left R -/
def md_i2 (N : Nt) (G : Nat → Nat → Int32) (R : Rw) (l f : Nat) (R' : Rw) : Prop :=
  R'.2.2 = R.2.2 ∧ (∀ a k, k < 15 → R'.1 a k = R.1 a k) ∧ (∀ b k, k ≠ 4 → k ≠ 8 → k ≠ 12 → R'.2.1 b k = R.2.1 b k) ∧
  (∀ a b, a < md_nl N → b < 8 → ∃ n n', n ≤ n' ∧ n' ≤ 1999 ∧ R'.1 a (15 + b) = nI n ∧ R.1 a (15 + b) = nI n') ∧
  (∀ b j, b < md_nf N → j + 1 < md_ho N b → ¬ md_bf l f (md_pa N b (j + 1)) b → R'.1 (md_pa N b j) (15 + b) = R.1 (md_pa N b j) (15 + b)) ∧
  (∀ b, b < md_nf N → (∃ n, n ≤ 1024 ∧ R'.2.1 b 8 = nI n) ∧ (¬ md_bf l f (md_pa N b 0) b → R'.2.1 b 8 = R.2.1 b 8 ∧ R'.2.1 b 12 = R.2.1 b 12) ∧ (md_bf l f (md_pa N b 0) b → R'.2.1 b 12 = R.2.1 b 12 + G (md_pa N b 0) b))
theorem md_i2_step {N : Nt} {m l f : Nat} {R R' : Rw} (hN : md_ok N) (h : md_iv N m R) (hl : l < md_nl N) (hf : f < md_nf N) (hi : md_i2 N (md_tg N R) (md_t1 N R) l f R') : md_i2 N (md_tg N R) (md_t1 N R) l (f + 1) (md_lv N l f (md_tg N R l f) R') := by
  have hF := hN.nf
  obtain ⟨c, g1, g2, g3, g4⟩ := md_tg_b hN h hl
  obtain ⟨r, hr, er, hr9⟩ := g4 f hf
  obtain ⟨r', hr', er', hz, hz0, hzj⟩ := md_rdy_b (l := l) hN h.t1 hf
  have e3 := (nI_eq (by omega) (by omega)).mp (er.symm.trans er')
  subst e3
  have hhl := md_hop_le N f l
  obtain ⟨i1, i2, i3, i4, i5, i6⟩ := hi
  have bf0 : ∀ a b, md_bf l (f + 1) a b ↔ md_bf l f a b ∨ (a = l ∧ b = f) := fun a b => by unfold md_bf; omega
  rw [md_lv]
  by_cases e : md_tg N R l f = 0
  · rw [if_pos e]
    refine ⟨i1, i2, i3, i4, fun b j hb hj hn => i5 b j hb hj fun q => hn ((bf0 _ _).mpr (Or.inl q)), fun b hb => ⟨(i6 b hb).1, fun hn => (i6 b hb).2.1 fun q => hn ((bf0 _ _).mpr (Or.inl q)), fun hn => ?_⟩⟩
    rcases (bf0 _ _).mp hn with q | ⟨q1, q2⟩
    · exact (i6 b hb).2.2 q
    · rw [q2] at q1 hb ⊢
      rw [q1, e]
      have := ((i6 f hb).2.1 (by rw [q1]; unfold md_bf; omega)).2
      rw [this]
      exact (Int32.add_zero _).symm
  · rw [if_neg e]
    have hh := md_tg_z hN h hl hf e
    by_cases e0 : md_hop N f l = 0
    · rw [if_pos e0]
      have hp0 : md_pa N f 0 = l := by have := md_hop_is hh; rw [e0] at this; exact this
      have hnb : ¬ md_bf l f (md_pa N f 0) f := by rw [hp0]; unfold md_bf; omega
      obtain ⟨u1, u2⟩ := (i6 f hf).2.1 hnb
      obtain ⟨cc, ec, hc1, hc2⟩ := hz0 e0
      refine ⟨i1, i2, fun b k h4 h8 h12 => by rw [md_Sk h12, md_Sk h4, md_Sk h8]; exact i3 b k h4 h8 h12, i4, fun b j hb hj hn => i5 b j hb hj fun q => hn ((bf0 _ _).mpr (Or.inl q)), fun b hb => ?_⟩
      by_cases eb : b = f
      · subst eb
        refine ⟨⟨cc - 16 * c b, by omega, ?_⟩, fun hn => absurd ((bf0 _ _).mpr (Or.inr ⟨hp0, rfl⟩)) hn, fun _ => ?_⟩
        · rw [md_Sk (by decide), md_Sk (by decide), md_Se, u1, ec, g1, show (16 : Int32) = nI 16 from rfl, pk_mul, pk_sub (by omega)]
        · rw [md_Se, u2, hp0]
      · refine ⟨by rw [md_Sf eb, md_Sf eb, md_Sf eb]; exact (i6 b hb).1, fun hn => ?_, fun hn => ?_⟩
        · rw [md_Sf eb, md_Sf eb, md_Sf eb, md_Sf eb, md_Sf eb, md_Sf eb]
          exact (i6 b hb).2.1 fun q => hn ((bf0 _ _).mpr (Or.inl q))
        · rw [md_Sf eb, md_Sf eb, md_Sf eb]
          rcases (bf0 _ _).mp hn with q | ⟨q1, q2⟩
          · exact (i6 b hb).2.2 q
          · exact absurd q2 eb
    · rw [if_neg e0]
      obtain ⟨j, hj⟩ : ∃ j, md_hop N f l = j + 1 := ⟨md_hop N f l - 1, by omega⟩
      rw [hj, Nat.add_sub_cancel]
      have hpl : md_pa N f (j + 1) = l := by have := md_hop_is hh; rw [hj] at this; exact this
      have hcell := hzj j hj (by omega)
      have hun := i5 f j hf (by omega) (by rw [hpl]; unfold md_bf; omega)
      have hp0 : md_pa N f 0 ≠ l := md_hop_no (by omega)
      refine ⟨i1, fun a k hk => by rw [md_Ek (by omega)]; exact i2 a k hk, i3, fun a b ha hb => ?_, fun b j' hb hj' hn => ?_, fun b hb => ⟨(i6 b hb).1, fun hn => (i6 b hb).2.1 fun q => hn ((bf0 _ _).mpr (Or.inl q)), fun hn => ?_⟩⟩
      · rw [md_E1]
        split
        · next q =>
          obtain ⟨q1, q2⟩ := q
          have q3 : b = f := by omega
          rw [q1, q3]
          exact ⟨r - c f, r, by omega, by omega, by rw [hun, hcell, g1, pk_sub hr], hcell⟩
        · exact i4 a b ha hb
      · rw [md_E1]
        split
        · next q =>
          obtain ⟨q1, q2⟩ := q
          have q3 : b = f := by omega
          subst q3
          have q4 := hN.ne hb (show j' < md_ho N b by omega) (show j < md_ho N b by omega) q1
          subst q4
          exact absurd ((bf0 _ _).mpr (Or.inr ⟨hpl, rfl⟩)) hn
        · exact i5 b j' hb hj' fun q => hn ((bf0 _ _).mpr (Or.inl q))
      · rcases (bf0 _ _).mp hn with q | ⟨q1, q2⟩
        · exact (i6 b hb).2.2 q
        · rw [q2] at q1
          exact absurd q1 hp0
theorem md_i2_mono {N : Nt} {G : Nat → Nat → Int32} {R R' : Rw} {l f l' f' : Nat} (h : md_i2 N G R l f R') (hb : ∀ a b, b < md_nf N → (md_bf l f a b ↔ md_bf l' f' a b)) : md_i2 N G R l' f' R' := by
  obtain ⟨i1, i2, i3, i4, i5, i6⟩ := h
  exact ⟨i1, i2, i3, i4, fun b j hb' hj hn => i5 b j hb' hj fun q => hn ((hb _ _ hb').mp q), fun b hb' => ⟨(i6 b hb').1, fun hn => (i6 b hb').2.1 fun q => hn ((hb _ _ hb').mp q), fun hn => (i6 b hb').2.2 ((hb _ _ hb').mpr hn)⟩⟩
theorem md_ca_at {N : Nt} {a : Nat → Int32} {n : Nat} {R : Rw} : (∀ l k, k ≠ 7 → (md_ca a n R).1 l k = R.1 l k) ∧ (md_ca a n R).2 = R.2 := ⟨fun l k hk => if_neg fun q => hk q.1, rfl⟩
/-- all cells have left -/
theorem md_i2_all {N : Nt} {m : Nat} {R : Rw} (hN : md_ok N) (h : md_iv N m R) : (∀ a k, k < 15 → k ≠ 7 → (md_t2 N R).1 a k = R.1 a k) ∧ (∀ a, a < md_nl N → (md_t2 N R).1 a 7 = md_ta N R a) ∧ md_iv N m (md_t2 N R) ∧ (∀ b k, k ≠ 4 → k ≠ 8 → k ≠ 12 → (md_t2 N R).2.1 b k = R.2.1 b k) ∧ ∀ f, f < md_nf N → (md_t2 N R).2.1 f 12 = md_tg N R (md_pa N f 0) f := by
  have h1 := h.t1
  have hF := hN.nf
  -- from t1, without the numbers carried
  have gen : ∀ (X : Rw) (n : Nat), n ≤ md_nl N → md_i2 N (md_tg N R) (md_t1 N R) 0 0 (md_t1 N R) → md_i2 N (md_tg N R) (md_t1 N R) n 0 (md_it (fun l => md_it (fun f => md_lv N l f (md_tg N R l f)) (md_nf N)) n (md_t1 N R)) := by
    intro X n hn hs
    induction n with
    | zero => exact hs
    | succ n ih =>
      have ih := ih (by omega)
      rw [md_it]
      have inner : ∀ k, k ≤ md_nf N → md_i2 N (md_tg N R) (md_t1 N R) n k (md_it (fun f => md_lv N n f (md_tg N R n f)) k (md_it (fun l => md_it (fun f => md_lv N l f (md_tg N R l f)) (md_nf N)) n (md_t1 N R))) := by
        intro k hk
        induction k with
        | zero => exact ih
        | succ k ihk => exact md_i2_step hN h (by omega) (by omega) (ihk (by omega))
      refine md_i2_mono (inner (md_nf N) (Nat.le_refl _)) fun a b hb => ?_
      unfold md_bf
      omega
  have start : md_i2 N (md_tg N R) (md_t1 N R) 0 0 (md_t1 N R) := by
    refine ⟨rfl, fun _ _ _ => rfl, fun _ _ _ _ _ => rfl, fun a b ha hb => ?_, fun _ _ _ _ _ => rfl, fun b hb => ⟨?_, fun _ => ⟨rfl, rfl⟩, fun q => by unfold md_bf at q; omega⟩⟩
    · obtain ⟨-, ⟨c, c1, c2⟩, -⟩ := h1.2.1 a ha
      have c3 : c b ≤ md_sn c 8 := md_sn_le hb
      exact ⟨c b, c b, Nat.le_refl _, by omega, c1 b hb, c1 b hb⟩
    · obtain ⟨-, q, -⟩ := h1.2.2.1 b hb
      exact q
  have all := gen R (md_nl N) (Nat.le_refl _) start
  -- the numbers carried go along
  have comm : ∀ (l f : Nat) (n : Int32) (a : Nat → Int32) (k : Nat) (X : Rw), md_lv N l f n (md_ca a k X) = md_ca a k (md_lv N l f n X) := by
    intro l f n a k X
    unfold md_lv
    split
    · rfl
    · split
      · rfl
      · unfold md_ca md_E md_u2
        dsimp only
        congr 1
        funext i j
        grind
  have commA : ∀ (l n : Nat) (a : Nat → Int32) (k : Nat) (X : Rw), md_it (fun f => md_lv N l f (md_tg N R l f)) n (md_ca a k X) = md_ca a k (md_it (fun f => md_lv N l f (md_tg N R l f)) n X) := by
    intro l n a k X
    induction n with
    | zero => rfl
    | succ n ih => rw [md_it, ih, comm]; rfl
  have commB : ∀ (n : Nat) (a : Nat → Int32) (k : Nat) (X : Rw), md_it (fun l => md_it (fun f => md_lv N l f (md_tg N R l f)) (md_nf N)) n (md_ca a k X) = md_ca a k (md_it (fun l => md_it (fun f => md_lv N l f (md_tg N R l f)) (md_nf N)) n X) := by
    intro n a k X
    induction n with
    | zero => rfl
    | succ n ih => rw [md_it, ih, commA]; rfl
  rw [show md_t2 N R = md_ca (md_ta N R) (md_nl N) (md_it (fun l => md_it (fun f => md_lv N l f (md_tg N R l f)) (md_nf N)) (md_nl N) (md_t1 N R)) from commB _ _ _ _]
  generalize md_it (fun l => md_it (fun f => md_lv N l f (md_tg N R l f)) (md_nf N)) (md_nl N) (md_t1 N R) = Y at all
  obtain ⟨i1, i2, i3, i4, i5, i6⟩ := all
  have kE : ∀ a k, k < 15 → k ≠ 7 → (md_ca (md_ta N R) (md_nl N) Y).1 a k = R.1 a k := fun a k hk hk7 => by rw [(md_ca_at (N := N)).1 a k hk7, i2 a k hk, md_t1_at.1]
  have kS : ∀ b k, k ≠ 4 → k ≠ 8 → k ≠ 12 → (md_ca (md_ta N R) (md_nl N) Y).2.1 b k = R.2.1 b k := fun b k h4 h8 h12 => by
    show Y.2.1 b k = _
    rw [i3 b k h4 h8 h12, md_t1_k h8 h12]
  refine ⟨kE, fun a ha => if_pos ⟨rfl, ha⟩, ⟨?_, fun l hl => ?_, fun f hf => ?_, ?_⟩, kS, fun f hf => ?_⟩
  · show Y.2.2 = _
    rw [i1]; exact h1.1
  · obtain ⟨a1, ⟨c, c1, c2⟩, a3, a4, a5⟩ := h.2.1 l hl
    refine ⟨fun k hk => by rw [kE l (10 + k) (by omega) (by omega)]; exact a1 k hk, ?_, by rw [kE l 9 (by decide) (by decide)]; exact a3, by rw [kE l 2 (by decide) (by decide)]; exact a4, by rw [kE l 3 (by decide) (by decide)]; exact a5⟩
    have ex : ∀ b, ∃ n, b < 8 → n ≤ c b ∧ Y.1 l (15 + b) = nI n := by
      intro b
      by_cases hb : b < 8
      · obtain ⟨n, n', q1, q2, q3, q4⟩ := i4 l b hl hb
        rw [md_t1_at.1, c1 b hb] at q4
        have c3 : c b ≤ md_sn c 8 := md_sn_le hb
        have := (nI_eq (by omega) (by omega)).mp q4
        exact ⟨n, fun _ => ⟨by omega, q3⟩⟩
      · exact ⟨0, fun q => absurd q hb⟩
    refine ⟨fun b => (ex b).choose, fun b hb => ?_, Nat.le_trans (md_sn_mono fun b hb => ((ex b).choose_spec hb).1) c2⟩
    rw [(md_ca_at (N := N)).1 l (15 + b) (by omega)]
    exact ((ex b).choose_spec hb).2
  · refine (h.2.2.1 f hf).keep (kS f 7 (by decide) (by decide) (by decide)) ((i6 f hf).1) (kS f 0 (by decide) (by decide) (by decide)) (kS f 1 (by decide) (by decide) (by decide)) (kS f 3 (by decide) (by decide) (by decide)) (kS f 9 (by decide) (by decide) (by decide))
  · rw [md_sum_congr (fun l _ => kE l 3 (by decide) (by decide)), h.2.2.2]
    exact md_sum_congr fun f _ => (kS f 11 (by decide) (by decide) (by decide)).symm
  · show Y.2.1 f 12 = _
    have hp := hN.pa hf (hN.ho hf).1
    rw [(i6 f hf).2.2 (Or.inl hp), md_t1_at.2.2 f 12, if_pos hf, if_pos rfl]
    exact Int32.zero_add _
