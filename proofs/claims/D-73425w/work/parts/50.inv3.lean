/-! asks, samples -/
theorem md_ask_k {l a k : Nat} {R : Rw} (h : k < 10 ∨ 14 < k) : (md_ask l R).1 a k = R.1 a k := by
  unfold md_ask
  rw [md_Ek (by omega), md_Ek (by omega), md_Ek (by omega), md_Ek (by omega), md_Ek (by omega)]
theorem md_ask_a {l a k : Nat} {R : Rw} (h : a ≠ l) : (md_ask l R).1 a k = R.1 a k := by
  unfold md_ask
  rw [md_E1, if_neg (fun q => h q.1), md_E1, if_neg (fun q => h q.1), md_E1, if_neg (fun q => h q.1), md_E1, if_neg (fun q => h q.1), md_E1, if_neg (fun q => h q.1)]
theorem md_ask_at {l : Nat} {R : Rw} : (md_ask l R).1 l 10 = md_aw R l ∧ (md_ask l R).1 l 11 = R.1 l 10 ∧ (md_ask l R).1 l 12 = R.1 l 11 ∧ (md_ask l R).1 l 13 = R.1 l 12 ∧ (md_ask l R).1 l 14 = R.1 l 13 := by
  unfold md_ask
  refine ⟨md_Ee, ?_, ?_, ?_, ?_⟩
  · rw [md_Ek (by decide), md_Ee]
  · rw [md_Ek (by decide), md_Ek (by decide), md_Ee]
  · rw [md_Ek (by decide), md_Ek (by decide), md_Ek (by decide), md_Ee]
  · rw [md_Ek (by decide), md_Ek (by decide), md_Ek (by decide), md_Ek (by decide), md_Ee]
theorem md_il_congr {m : Nat} {e e' : Nat → Int32} (h : md_il m e) (hf : ∀ k, k < 5 → e' (10 + k) = 0 ∨ e' (10 + k) = 1) (h9 : ∃ n, n ≤ 1999 ∧ e' 9 = nI n) (hk : ∀ k, k = 2 ∨ k = 3 ∨ 15 ≤ k → e' k = e k) : md_il m e' := by
  obtain ⟨a1, ⟨c, c1, c2⟩, a3, a4, a5⟩ := h
  exact ⟨hf, ⟨c, fun f hf => by rw [hk (15 + f) (by omega)]; exact c1 f hf, c2⟩, h9, by rw [hk 2 (by omega)]; exact a4, by rw [hk 3 (by omega)]; exact a5⟩
theorem md_ask_il {m l a : Nat} {R : Rw} (h : md_il m (R.1 a)) : md_il m ((md_ask l R).1 a) := by
  by_cases e : a = l
  · subst e
    obtain ⟨a1, -, a3, -⟩ := id h
    obtain ⟨k0, k1, k2, k3, k4⟩ := md_ask_at (l := a) (R := R)
    refine md_il_congr h (fun k hk => ?_) (by rw [md_ask_k (by omega)]; exact a3) fun k hk => md_ask_k (by omega)
    match k, hk with
    | 0, _ =>
      show (md_ask a R).1 a 10 = 0 ∨ (md_ask a R).1 a 10 = 1
      rw [k0]
      unfold md_aw
      split
      · split
        · exact a1 0 (by decide)
        · exact Or.inl rfl
      · exact Or.inr rfl
    | 1, _ => show (md_ask a R).1 a 11 = 0 ∨ (md_ask a R).1 a 11 = 1; rw [k1]; exact a1 0 (by decide)
    | 2, _ => show (md_ask a R).1 a 12 = 0 ∨ (md_ask a R).1 a 12 = 1; rw [k2]; exact a1 1 (by decide)
    | 3, _ => show (md_ask a R).1 a 13 = 0 ∨ (md_ask a R).1 a 13 = 1; rw [k3]; exact a1 2 (by decide)
    | 4, _ => show (md_ask a R).1 a 14 = 0 ∨ (md_ask a R).1 a 14 = 1; rw [k4]; exact a1 3 (by decide)
    | k + 5, h => omega
  · have : (md_ask l R).1 a = R.1 a := funext fun k => md_ask_a e
    rw [this]
    exact h
theorem md_t4_at {N : Nt} {R : Rw} {m : Nat} (h : ∀ a, a < md_nl N → md_il m ((md_t3 N R).1 a)) : (∀ a, a < md_nl N → md_il m ((md_t4 N R).1 a)) ∧ (md_t4 N R).2 = (md_t3 N R).2 ∧ ∀ a, (md_t4 N R).1 a 3 = (md_t3 N R).1 a 3 := by
  unfold md_t4
  refine md_it_inv (fun (X : Rw) => (∀ a, a < md_nl N → md_il m (X.1 a)) ∧ X.2 = (md_t3 N R).2 ∧ ∀ a, X.1 a 3 = (md_t3 N R).1 a 3) ⟨h, rfl, fun _ => rfl⟩ ?_
  rintro i X hi ⟨h1, h2, h3⟩
  exact ⟨fun a ha => md_ask_il (h1 a ha), h2, fun a => by rw [md_ask_k (by omega)]; exact h3 a⟩
theorem md_no_b {N : Nt} (x : Int32) : ∃ b, b ≤ 63 ∧ md_no N x = nI b := by
  unfold md_no
  split
  · unfold md_wi
    split
    · next h1 =>
      split
      · next h2 =>
        obtain ⟨j, hj, ej⟩ := nI_of (x := x * 64 / (nI (N.1 3) * (1 + 2 * nI (N.1 4)))) fun q => absurd (Int32.lt_of_le_of_lt h1 q) (by decide)
        rw [ej] at h2 ⊢
        exact ⟨j, (nI_leI (b := 63) hj (by decide)).mp h2, rfl⟩
      · exact ⟨63, Nat.le_refl _, rfl⟩
    · exact ⟨1, by decide, rfl⟩
  · exact ⟨0, by decide, rfl⟩
/-- notices: of flows that are there, at most 63 -/
def md_in (N : Nt) (ns : Ns) : Prop := ∀ i, i < ns.1 → (ns.2 i).1 < md_nf N ∧ ∃ b, b ≤ 63 ∧ (ns.2 i).2 = nI b
theorem md_sm_at {N : Nt} (hN : md_ok N) {C : Nat → Nat → Int32} {l : Nat} {R : Rw} {ns : Ns} : (md_sm N C l (R, ns)).1.2 = R.2 ∧ (∀ a b, b ≠ 5 → b ≠ 6 → b ≠ 8 → b ≠ 9 → (md_sm N C l (R, ns)).1.1 a b = R.1 a b) ∧ (∀ a, (md_sm N C l (R, ns)).1.1 a 9 = R.1 a 9 ∨ a = l ∧ (md_sm N C l (R, ns)).1.1 a 9 = md_q R l) ∧ (md_in N ns → md_in N (md_sm N C l (R, ns)).2) ∧ (md_sm N C l (R, ns)).2.1 ≤ ns.1 + 1 := by
  have hF := hN.nf
  obtain ⟨a1, a2, a3⟩ := md_s1_at (N := N) (R := R) (C := C) (l := l) (md_nf N)
  rw [md_sm]
  dsimp only
  generalize md_it (md_s1 N C l) (md_nf N) (R, 99) = y at a1 a2 a3
  have hq : md_q y.1 l = md_q R l := md_q_congr fun f _ => a1 l (15 + f) (by omega)
  have s2k : ∀ a b, b ≠ 5 → b ≠ 8 → b ≠ 9 → (md_s2 N l y.1).1 a b = R.1 a b := fun a b h5 h8 h9 => by unfold md_s2; rw [md_Ek h9, md_Ek h5, md_Ek h8, a1 a b h8]
  have s29 : ∀ a, (md_s2 N l y.1).1 a 9 = R.1 a 9 ∨ a = l ∧ (md_s2 N l y.1).1 a 9 = md_q R l := fun a => by
    unfold md_s2
    rw [md_E1]
    by_cases e : a = l
    · rw [if_pos ⟨e, rfl⟩, hq]; exact Or.inr ⟨e, rfl⟩
    · rw [if_neg (fun q => e q.1), md_Ek (by decide), md_Ek (by decide), a1 a 9 (by decide)]; exact Or.inl rfl
  split
  · exact ⟨a2, fun a b _ _ h8 _ => a1 a b h8, fun a => Or.inl (a1 a 9 (by decide)), fun h => h, Nat.le_succ _⟩
  · next e =>
    split
    · exact ⟨a2, fun a b h5 _ h8 h9 => s2k a b h5 h8 h9, s29, fun h => h, Nat.le_succ _⟩
    · refine ⟨a2, fun a b h5 h6 h8 h9 => by rw [md_Ek h6]; exact s2k a b h5 h8 h9, fun a => by rw [md_Ek (by decide)]; exact s29 a, fun h i hi => ?_, Nat.le_refl _⟩
      unfold va_up
      dsimp only at hi ⊢
      by_cases e2 : i = ns.1
      · rw [if_pos e2]
        exact ⟨by omega, md_no_b _⟩
      · rw [if_neg e2]
        exact h i (by omega)
theorem md_t5_at {N : Nt} (hN : md_ok N) {R : Rw} {m n : Nat} (hn : n ≤ md_nl N) (h : ∀ a, a < md_nl N → md_il m ((md_t4 N R).1 a)) {X : Rw × Ns} (hX : X = md_it (md_sm N (md_tc N R)) n (md_t4 N R, (0, fun _ => (0, 0)))) : (∀ a, a < md_nl N → md_il m (X.1.1 a)) ∧ X.1.2 = (md_t4 N R).2 ∧ (∀ a, X.1.1 a 3 = (md_t4 N R).1 a 3) ∧ md_in N X.2 ∧ X.2.1 ≤ n := by
  subst hX
  induction n with
  | zero => exact ⟨h, rfl, fun _ => rfl, fun i hi => absurd hi (Nat.not_lt_zero _), Nat.le_refl _⟩
  | succ n ih =>
    obtain ⟨h1, h2, h3, h4, h5⟩ := ih (by omega)
    rw [md_it]
    generalize md_it (md_sm N (md_tc N R)) n (md_t4 N R, (0, fun _ => (0, 0))) = X at h1 h2 h3 h4 h5
    obtain ⟨X, ns⟩ := X
    obtain ⟨s1, s2, s3, s4, s5⟩ := md_sm_at hN (C := md_tc N R) (l := n) (R := X) (ns := ns)
    refine ⟨fun a ha => ?_, s1.trans h2, fun a => (s2 a 3 (by decide) (by decide) (by decide) (by decide)).trans (h3 a), s4 h4, by dsimp only at h5; omega⟩
    obtain ⟨b1, -, b3, -⟩ := id (h1 a ha)
    refine md_il_congr (h1 a ha) (fun k hk => ?_) ?_ fun k hk => s2 a k (by omega) (by omega) (by omega) (by omega)
    · rw [s2 a (10 + k) (by omega) (by omega) (by omega) (by omega)]; exact b1 k hk
    · rcases s3 a with e | ⟨e, e2⟩
      · rw [e]; exact b3
      · subst e
        rw [e2]
        exact (h1 a ha).q
/-! notices and stages -/
theorem md_cut_o {f : Nat} {b : Int32} {R : Rw} : (md_cut f b R).1 = R.1 ∧ (md_cut f b R).2.2 = R.2.2 ∧ (∀ a k, a ≠ f → (md_cut f b R).2.1 a k = R.2.1 a k) ∧ ∀ k, k = 4 ∨ k = 5 ∨ k = 7 ∨ k = 8 ∨ 10 < k → (md_cut f b R).2.1 f k = R.2.1 f k := by
  refine ⟨rfl, rfl, fun a k h => ?_, fun k h => ?_⟩
  · unfold md_cut md_fg
    rw [md_Sf h, md_Sf h, md_Sf h, md_Sf h, md_Sf h, md_Sf h, md_Sf h]
  · unfold md_cut md_fg
    rw [md_Sk (by omega), md_Sk (by omega), md_Sk (by omega), md_Sk (by omega), md_Sk (by omega), md_Sk (by omega), md_Sk (by omega)]
theorem md_cut_rate {r b : Nat} (hr1 : 1 ≤ r) (hr : r ≤ 1024) (hb : b ≤ 63) : ∃ n, 1 ≤ n ∧ n ≤ r ∧ md_mx 1 (nI r - nI r * nI b / 128) = nI n := by
  have h1 : r * b ≤ 1024 * 63 := Nat.mul_le_mul hr hb
  have h2 : r * b / 128 ≤ r := by
    have : r * b ≤ r * 63 := Nat.mul_le_mul_left r hb
    omega
  have e : nI r - nI r * nI b / 128 = nI (r - r * b / 128) := by
    rw [pk_mul, show (128 : Int32) = nI 128 from rfl, pk_div (by omega) (by decide) (by decide), pk_sub h2]
  rw [e, md_mx]
  split
  · next hc =>
    have := (nI_ltI (a := 1) (by decide) (by omega)).mp hc
    exact ⟨_, by omega, by omega, rfl⟩
  · exact ⟨1, Nat.le_refl _, hr1, rfl⟩
theorem md_cut_if {m f a b : Nat} {R : Rw} {x : Int32} (hx : x = nI b) (hb : b ≤ 63) (h : md_if m (R.2.1 a)) : md_if m ((md_cut f x R).2.1 a) := by
  by_cases e : a = f
  · subst e
    obtain ⟨c1, c2, c3, c4⟩ := md_cut_o (f := a) (b := x) (R := R)
    obtain ⟨h7, h8, ⟨r, hr1, hr, er⟩, h1, h3, h9⟩ := h
    refine ⟨by rw [c4 7 (by decide)]; exact h7, by rw [c4 8 (by decide)]; exact h8, ?_, ?_, ⟨0, Nat.zero_le _, ?_⟩, ⟨0, Nat.zero_le _, ?_⟩⟩
    · obtain ⟨n, hn1, hn, en⟩ := md_cut_rate hr1 hr hb
      refine ⟨n, hn1, by omega, ?_⟩
      unfold md_cut md_fg
      rw [md_Sk (by decide), md_Sk (by decide), md_Sk (by decide), md_Sk (by decide), md_Se, er, hx, en]
    · refine ⟨r, hr1, hr, ?_⟩
      unfold md_cut md_fg
      rw [md_Sk (by decide), md_Sk (by decide), md_Sk (by decide), md_Sk (by decide), md_Sk (by decide), md_Se, er]
    · unfold md_cut md_fg
      rw [md_Sk (by decide), md_Sk (by decide), md_Se]; rfl
    · unfold md_cut md_fg
      rw [md_Sk (by decide), md_Se]; rfl
  · have : (md_cut f x R).2.1 a = R.2.1 a := funext fun k => md_cut_o.2.2.1 a k e
    rw [this]
    exact h
theorem md_cl_0 {N : Nt} (hN : md_ok N) {f : Nat} {R : Rw} (h0 : ∃ n, 1 ≤ n ∧ n ≤ 1024 ∧ R.2.1 f 0 = nI n) (h1 : ∃ n, 1 ≤ n ∧ n ≤ 1024 ∧ R.2.1 f 1 = nI n) (h3 : ∃ n, n ≤ 20001 ∧ R.2.1 f 3 = nI n) : (∃ n, 1 ≤ n ∧ n ≤ 1024 ∧ (md_cl N f R).2.1 f 0 = nI n) ∧ ∃ n, 1 ≤ n ∧ n ≤ 1024 ∧ (md_cl N f R).2.1 f 1 = nI n := by
  obtain ⟨r, hr1, hr, er⟩ := h0
  obtain ⟨a, ha1, ha, e1⟩ := h1
  obtain ⟨m, hm, e2⟩ := md_more_b hN (a := R.2.1 f 2) h3
  obtain ⟨n, hn, -, hn1, e3⟩ := md_mn_b (m := a + m) (by omega)
  have hn1 := hn1 (by omega)
  refine ⟨⟨(r + n) / 2, by omega, by omega, ?_⟩, ⟨n, hn1, hn, ?_⟩⟩
  · rw [md_cl, md_Se, e1, e2, nI_add, e3, er, nI_add]
    exact pk_div (d := 2) (by omega) (by decide) (by decide)
  · rw [md_cl, md_Sk (by decide), md_Se, e1, e2, nI_add, e3]
theorem md_wh_at {N : Nt} (hN : md_ok N) {f c : Nat} (hc : c ≤ 20000) : ∀ (k : Nat) (R : Rw) (a : Nat), R.2.1 f 9 = nI a → a ≤ k → k ≤ 5000 → (∃ n, 1 ≤ n ∧ n ≤ 1024 ∧ R.2.1 f 0 = nI n) → (∃ n, 1 ≤ n ∧ n ≤ 1024 ∧ R.2.1 f 1 = nI n) → R.2.1 f 3 = nI c →
    (∃ n, 1 ≤ n ∧ n ≤ 1024 ∧ (md_wh N f k R).2.1 f 0 = nI n) ∧ (∃ n, 1 ≤ n ∧ n ≤ 1024 ∧ (md_wh N f k R).2.1 f 1 = nI n) ∧ (md_wh N f k R).2.1 f 3 = nI c ∧ (∃ n, n ≤ 1000 ∧ (md_wh N f k R).2.1 f 9 = nI n) ∧ (md_wh N f k R).1 = R.1 ∧ (md_wh N f k R).2.2 = R.2.2 ∧ (∀ a b, a ≠ f → (md_wh N f k R).2.1 a b = R.2.1 a b) ∧ ∀ b, 3 < b → b ≠ 9 → (md_wh N f k R).2.1 f b = R.2.1 f b := by
  have h5 := hN.2.2.2.2.2.2.1
  intro k
  induction k with
  | zero =>
    intro R a e9 ha hk h0 h1 h3
    exact ⟨h0, h1, h3, ⟨a, by omega, e9⟩, rfl, rfl, fun _ _ _ => rfl, fun _ _ _ => rfl⟩
  | succ k ih =>
    intro R a e9 ha hk h0 h1 h3
    rw [md_wh]
    split
    · next hc9 =>
      rw [e9] at hc9
      have := (nI_ltI (by omega) (by omega)).mp hc9
      exact ⟨h0, h1, h3, ⟨a, by omega, e9⟩, rfl, rfl, fun _ _ _ => rfl, fun _ _ _ => rfl⟩
    · next hc9 =>
      rw [e9] at hc9
      have hge := (nI_leI (by omega) (by omega)).mp (i32_nlt.mp hc9)
      have g0 : ∃ n, 1 ≤ n ∧ n ≤ 1024 ∧ (md_S (md_S R f 9 (R.2.1 f 9 - nI (N.1 5))) f 2 (R.2.1 f 2 + 1)).2.1 f 0 = nI n := by rw [md_Sk (by decide), md_Sk (by decide)]; exact h0
      have g1 : ∃ n, 1 ≤ n ∧ n ≤ 1024 ∧ (md_S (md_S R f 9 (R.2.1 f 9 - nI (N.1 5))) f 2 (R.2.1 f 2 + 1)).2.1 f 1 = nI n := by rw [md_Sk (by decide), md_Sk (by decide)]; exact h1
      have g3 : (md_S (md_S R f 9 (R.2.1 f 9 - nI (N.1 5))) f 2 (R.2.1 f 2 + 1)).2.1 f 3 = nI c := by rw [md_Sk (by decide), md_Sk (by decide)]; exact h3
      obtain ⟨q0, q1⟩ := md_cl_0 hN g0 g1 ⟨c, by omega, g3⟩
      obtain ⟨c1, c2, c3, c4⟩ := md_cl_at (N := N) (f := f) (R := md_S (md_S R f 9 (R.2.1 f 9 - nI (N.1 5))) f 2 (R.2.1 f 2 + 1))
      obtain ⟨r0, r1, r3, r9, r4, r5, r6, r7⟩ := ih (md_cl N f (md_S (md_S R f 9 (R.2.1 f 9 - nI (N.1 5))) f 2 (R.2.1 f 2 + 1))) (a - N.1 5) (by rw [c4 9 (by decide) (by decide), md_Sk (by decide), md_Se, e9, pk_sub hge]) (by omega) (by omega) q0 q1 (by rw [c4 3 (by decide) (by decide)]; exact g3)
      refine ⟨r0, r1, r3, r9, r4, r5, fun a b ha => by rw [r6 a b ha, c3 a b ha, md_Sf ha, md_Sf ha], fun b hb hb9 => by rw [r7 b hb hb9, c4 b (by omega) (by omega), md_Sk (by omega), md_Sk (by omega)]⟩
theorem md_rec_at {N : Nt} (hN : md_ok N) {m f d : Nat} {R : Rw} (hm : m ≤ 20000) (h : md_if m (R.2.1 f)) (h12 : R.2.1 f 12 = nI d) (hd : d ≤ 64) : md_if (m + 1) ((md_rec N f R).2.1 f) ∧ (md_rec N f R).1 = R.1 ∧ (md_rec N f R).2.2 = R.2.2 ∧ (∀ a b, a ≠ f → (md_rec N f R).2.1 a b = R.2.1 a b) ∧ ∀ b, 10 < b → (md_rec N f R).2.1 f b = R.2.1 f b := by
  obtain ⟨h7, h8, h0, h1, ⟨c, hc, h3⟩, ⟨a, ha, h9⟩⟩ := h
  rw [md_rec]
  split
  · exact ⟨⟨h7, h8, h0, h1, ⟨c, by omega, h3⟩, ⟨a, ha, h9⟩⟩, rfl, rfl, fun _ _ _ => rfl, fun _ _ => rfl⟩
  · have z9 : (md_S R f 9 (R.2.1 f 9 + R.2.1 f 12)).2.1 f 9 = nI (a + d) := by rw [md_Se, h9, h12, nI_add]
    obtain ⟨r0, r1, r3, r9, r4, r5, r6, r7⟩ := md_wh_at hN (show c ≤ 20000 by omega) 5000 (md_S R f 9 (R.2.1 f 9 + R.2.1 f 12)) (a + d) z9 (by omega) (Nat.le_refl _) (by rw [md_Sk (by decide)]; exact h0) (by rw [md_Sk (by decide)]; exact h1) (by rw [md_Sk (by decide)]; exact h3)
    have w : ∀ b, 3 < b → b ≠ 9 → (md_wh N f 5000 (md_S R f 9 (R.2.1 f 9 + R.2.1 f 12))).2.1 f b = R.2.1 f b := fun b hb hb9 => by rw [r7 b hb hb9, md_Sk hb9]
    have wo : ∀ a b, a ≠ f → (md_wh N f 5000 (md_S R f 9 (R.2.1 f 9 + R.2.1 f 12))).2.1 a b = R.2.1 a b := fun a b ha => by rw [r6 a b ha, md_Sf ha]
    generalize md_wh N f 5000 (md_S R f 9 (R.2.1 f 9 + R.2.1 f 12)) = Y at r0 r1 r3 r9 r4 r5 w wo
    rw [md_rb]
    split
    · refine ⟨⟨?_, ?_, ?_, ?_, ⟨c, by omega, ?_⟩, ?_⟩, r4, r5, fun a b ha => by rw [md_Sf ha, wo a b ha], fun b hb => by rw [md_Sk (by omega), w b (by omega) (by omega)]⟩
      · rw [md_Sk (by decide), w 7 (by decide) (by decide)]; exact h7
      · rw [md_Sk (by decide), w 8 (by decide) (by decide)]; exact h8
      · rw [md_Sk (by decide)]; exact r0
      · rw [md_Sk (by decide)]; exact r1
      · rw [md_Sk (by decide)]; exact r3
      · rw [md_Sk (by decide)]; exact r9
    · obtain ⟨c1, c2, c3, c4⟩ := md_cl_at (N := N) (f := f) (R := md_S (md_S Y f 10 0) f 3 (Y.2.1 f 3 + 1))
      have g3 : (md_S (md_S Y f 10 0) f 3 (Y.2.1 f 3 + 1)).2.1 f 3 = nI (c + 1) := by rw [md_Se, r3, nI_1]
      obtain ⟨q0, q1⟩ := md_cl_0 hN (f := f) (R := md_S (md_S Y f 10 0) f 3 (Y.2.1 f 3 + 1)) (by rw [md_Sk (by decide), md_Sk (by decide)]; exact r0) (by rw [md_Sk (by decide), md_Sk (by decide)]; exact r1) ⟨c + 1, by omega, g3⟩
      refine ⟨⟨?_, ?_, q0, q1, ⟨c + 1, by omega, ?_⟩, ?_⟩, c1.trans r4, c2.trans r5, fun a b ha => by rw [c3 a b ha, md_Sf ha, md_Sf ha, wo a b ha], fun b hb => by rw [c4 b (by omega) (by omega), md_Sk (by omega), md_Sk (by omega), w b (by omega) (by omega)]⟩
      · rw [c4 7 (by decide) (by decide), md_Sk (by decide), md_Sk (by decide), w 7 (by decide) (by decide)]; exact h7
      · rw [c4 8 (by decide) (by decide), md_Sk (by decide), md_Sk (by decide), w 8 (by decide) (by decide)]; exact h8
      · rw [c4 3 (by decide) (by decide)]; exact g3
      · rw [c4 9 (by decide) (by decide), md_Sk (by decide), md_Sk (by decide)]; exact r9
