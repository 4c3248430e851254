/-! THE COMPONENT: what stays when a block is written; the object's own numbers; what is laid by -/
section Cf
variable {o q5 : Nat} {U : (Nat → Nat) × Nat × Int32 × Int32} {N : Nt} {R X : Rw} {P : Nat × (Nat → Rw)} {I : Bool × Rw} {tb : Nat} {la fa : Nat → Nat} {ka : Nat} {kb : Nat → Nat} {h u : Hp} {Q : Int32 → Hp → Prop} {V : Unit → Hp → Prop} {m : Nat} {a b c x : Int32}
/-- a block of the object -/
def co_bk (o ka : Nat) (kb : Nat → Nat) (c : Nat) : Prop := c = o + 10 ∨ c = o + 49 ∨ c = o + 88 ∨ ∃ i, i < ka ∧ c = kb i
theorem CoD.far {c d : Nat} (H : CoD o q5 U N R P I tb la fa ka kb h) (hc : co_bk o ka kb c) (hd : co_bk o ka kb d) (hne : c ≠ d) : c + 39 ≤ d ∨ d + 39 ≤ c := by
  obtain ⟨-, -, -, -, -, -, -, -, ⟨-, -, k5, k6⟩, -⟩ := H
  rcases hc with rfl | rfl | rfl | ⟨i, hi, rfl⟩ <;> rcases hd with rfl | rfl | rfl | ⟨j, hj, rfl⟩
  all_goals first
    | omega
    | (have := (k5 j hj).2.1; omega)
    | (have := (k5 i hi).2.1; omega)
    | exact k6 i j hi hj (fun e => hne (by rw [e]))
theorem CoD.in {c : Nat} (H : CoD o q5 U N R P I tb la fa ka kb h) (hc : co_bk o ka kb c) : o + 10 ≤ c ∧ c ≠ o + 127 ∧ c + 39 ≤ h.2 ∧ SB c h ∧ (o + 127 < c ∨ c + 39 ≤ o + 127) ∧ ∀ a, co_z o ka kb h a → ¬ (c ≤ a ∧ a < c + 39) := by
  have sz := H.size
  obtain ⟨-, -, -, -, h1, h2, h3, -, ⟨-, -, k5, k6⟩, -⟩ := H
  rcases hc with rfl | rfl | rfl | ⟨i, hi, rfl⟩
  · exact ⟨by omega, by omega, by omega, h1.1.sb, by omega, fun a q => by have := q.2.1; omega⟩
  · exact ⟨by omega, by omega, by omega, h2, by omega, fun a q => by have := q.2.1; omega⟩
  · exact ⟨by omega, by omega, by omega, h3, by omega, fun a q => by have := q.2.1; omega⟩
  · obtain ⟨q1, q2, q3⟩ := k5 i hi
    exact ⟨by omega, by omega, by omega, q1, by omega, fun a q => q.2.2 i hi⟩
/-- a block is written -/
theorem CoD.put {c : Nat} (H : CoD o q5 U N R P I tb la fa ka kb h) (hc : co_bk o ka kb c) (e : ∀ a, ¬ (c ≤ a ∧ a < c + 39) → u.1 a = h.1 a) (z : u.2 = h.2) (hQ : CQ c tb N X u) (hP : ∀ i, P.1 ≤ i → i < ka → kb i = c → True) (hp : ∀ i, i < P.1 → kb i ≠ c) :
    CoD o q5 U N (if c = o + 10 then X else R) P (I.1, if c = o + 49 then X else I.2) tb la fa ka kb u := by
  obtain ⟨i1, i2, i3, -, i4, i5⟩ := H.in hc
  have bk : ∀ d, co_bk o ka kb d → d ≠ c → ∀ a, d ≤ a → a < d + 39 → u.1 a = h.1 a := fun d hd hn a q1 q2 => e a (by have := H.far hd hc hn; omega)
  have sb : ∀ d, co_bk o ka kb d → SB d u := fun d hd => by
    by_cases q : d = c
    · rw [q]
      exact hQ.1.sb
    · exact CG.kept (H.in hd).2.2.2.1 (bk d hd q)
  obtain ⟨hN, ⟨r0, t0, ar, ng, cl, ⟨q1, q2⟩, sz⟩, hn, hz, h1, h2, h3, h4, ⟨k1, k4, k5, k6⟩, hk2, hk3⟩ := H
  refine ⟨hN, ⟨by rw [e _ (by omega)]; exact r0, by rw [e _ (by omega)]; exact t0, by rw [e _ (by omega), e _ (by omega), e _ (by omega)]; exact ar, by rw [e _ (by omega)]; exact ng, by rw [e _ (by omega)]; exact cl, ⟨q1, by rw [e _ (by omega)]; exact q2⟩, by omega⟩, hn.kept hz fun a q => e a (i5 a q), ?_, ?_, sb _ (Or.inr (Or.inl rfl)), sb _ (Or.inr (Or.inr (Or.inl rfl))), fun q => ?_, ⟨by rw [e _ (by omega)]; exact k1, k4, fun i hi => ⟨sb _ (Or.inr (Or.inr (Or.inr ⟨i, hi, rfl⟩))), (k5 i hi).2.1, by rw [z]; exact (k5 i hi).2.2⟩, k6⟩, hk2, fun i hi => (hk3 i hi).kept (bk _ (Or.inr (Or.inr (Or.inr ⟨i, by omega, rfl⟩))) (hp i hi))⟩
  · obtain ⟨z0, z1, z2, z3, z4⟩ := hz
    have cv : ∀ a, co_z o ka kb h a → co_z o ka kb u a := fun a q => ⟨by have := q.1; omega, q.2⟩
    exact ⟨cv _ z0, cv _ z1, cv _ z2, fun l hl => cv _ (z3 l hl), fun f hf => ⟨cv _ (z4 f hf).1, cv _ (z4 f hf).2⟩⟩
  · by_cases q : c = o + 10
    · rw [if_pos q, ← q]
      exact hQ
    · rw [if_neg q]
      exact h1.kept (bk _ (Or.inl rfl) (Ne.symm q))
  · by_cases q : c = o + 49
    · show CQ (o + 49) tb N (if c = o + 49 then X else I.2) u
      rw [if_pos q, ← q]
      exact hQ
    · show CQ (o + 49) tb N (if c = o + 49 then X else I.2) u
      rw [if_neg q]
      exact (h4 ‹_›).kept (bk _ (Or.inr (Or.inl rfl)) (Ne.symm q))
/-- the object's own numbers -/
theorem CoD.num {F : Nat → Value} {p : Nat} {P' : Nat → Rw} {i : Bool} {Y : Rw} (H : CoD o q5 U N R P I tb la fa ka kb h) (h0 : h.1 o = some (.inr (0, F))) (hp : p ≤ ka) (hP : ∀ i, i < p → CQ (kb i) tb N (P' i) h) (hi : i = true → CQ (o + 49) tb N Y h) {G : Nat → Value} (hG : ∀ k, k ≠ 15 → k ≠ 16 → G k = F k) (h15 : G 15 = .int (nI p)) (h16 : G 16 = .int (md_bi i)) : CoD o q5 U N R (p, P') (i, Y) tb la fa ka kb (gw_set h o (.inr (0, G))) := by
  obtain ⟨hN, ⟨⟨F', r1, r2, r3, r4, r5, ⟨x9, r6⟩, r7, r8, ⟨y, r9⟩⟩, t0, ar, ng, cl, ⟨q1, q2⟩, sz⟩, hn, hz, h1, h2, h3, h4, ⟨k1, k4, k5, k6⟩, hk2, hk3⟩ := H
  rw [h0] at r1
  obtain rfl : F = F' := by cases r1; rfl
  have bk : ∀ c, o + 10 ≤ c → ∀ a, c ≤ a → a < c + 39 → (gw_set h o (.inr (0, G))).1 a = h.1 a := fun c hc a q1 _ => gs_ne (by omega)
  refine ⟨hN, ⟨⟨G, gs_eq, ?_, by rw [hG 1 (by decide) (by decide)]; exact r3, by rw [hG 2 (by decide) (by decide)]; exact r4, by rw [hG 3 (by decide) (by decide)]; exact r5, ⟨x9, by rw [hG 9 (by decide) (by decide)]; exact r6⟩, h15, h16, ⟨y, by rw [hG 17 (by decide) (by decide)]; exact r9⟩⟩, by rw [gs_ne (by omega)]; exact t0, by rw [gs_ne (by omega), gs_ne (by omega), gs_ne (by omega)]; exact ar, by rw [gs_ne (by omega)]; exact ng, by rw [gs_ne (by omega)]; exact cl, ⟨q1, by rw [gs_ne (by omega)]; exact q2⟩, sz⟩, hn.kept hz fun a q => gs_ne (by have := q.2.1; omega), hz, h1.kept (bk _ (by omega)), CG.kept h2 (bk _ (by omega)), CG.kept h3 (bk _ (by omega)), fun q => (hi q).kept (bk _ (by omega)), ⟨by rw [gs_ne (by omega)]; exact k1, k4, fun i hi => ⟨CG.kept (k5 i hi).1 (bk _ (by have := (k5 i hi).2.1; omega)), (k5 i hi).2⟩, k6⟩, hp, fun i hi => (hP i hi).kept (bk _ (by have := (k5 i (by omega)).2.1; omega))⟩
  obtain ⟨m0, m4, m5, m6, m7, m8, m10, m11, m12, m13, m14⟩ := r2
  exact ⟨by rw [hG _ (by decide) (by decide)]; exact m0, by rw [hG _ (by decide) (by decide)]; exact m4, by rw [hG _ (by decide) (by decide)]; exact m5, by rw [hG _ (by decide) (by decide)]; exact m6, by rw [hG _ (by decide) (by decide)]; exact m7, by rw [hG _ (by decide) (by decide)]; exact m8, by rw [hG _ (by decide) (by decide)]; exact m10, by rw [hG _ (by decide) (by decide)]; exact m11, by rw [hG _ (by decide) (by decide)]; exact m12, by rw [hG _ (by decide) (by decide)]; exact m13, by rw [hG _ (by decide) (by decide)]; exact m14⟩
/-- one block like another -/
theorem co_like {c d : Nat} {A : Nat → Hp → Prop} (H : CoD o q5 U N R P I tb la fa ka kb h) (hc : co_bk o ka kb c) (hd : co_bk o ka kb d) (hne : c ≠ d) (HX : CQ d tb N X h) (h7 : ∀ f, f < md_nf N → X.2.1 f 7 = 0 ∨ X.2.1 f 7 = 1) (hp : ∀ i, i < P.1 → kb i ≠ c)
    (kk : ∀ u : Hp, CoD o q5 U N (if c = o + 10 then X else R) P (I.1, if c = o + 49 then X else I.2) tb la fa ka kb u → CQ c tb N X u → (∀ d, co_bk o ka kb d → d ≠ c → ∀ Y, CQ d tb N Y h → CQ d tb N Y u) → A c u) : wp (gw_on 2 c (fx_X3_like c d)) A h := by
  obtain ⟨i1, i2, i3, i6, i4, i5⟩ := H.in hc
  refine st_like H.1 i6 HX (H.far hc hd hne) H.2.2.1 H.2.2.2.1 i5 h7 fun u hQ e z => kk u (H.put hc e z hQ (fun _ _ _ _ => trivial) hp) hQ fun d hd hn Y hY => hY.kept fun a q1 q2 => e a (by have := H.far hd hc hn; omega)
theorem cu_keep (h7 : ∀ f, f < md_nf N → R.2.1 f 7 = 0 ∨ R.2.1 f 7 = 1) (H : CoD o q5 U N R P I tb la fa ka kb h) : wp (fx_X1_keep o) (fun r u => r = R.2.2 ∧ CoD o q5 U N R P (true, R) tb la fa ka kb u) h := by
  unfold fx_X1_keep
  have hks := H.2.2.2.2.2.2.2.2
  obtain ⟨F, r1, r2, -⟩ := H.root
  refine wp_bd (w_gr r1 r2.2.2.2.2.2.2.2.2.1 ?_)
  refine wp_bd (w_gr r1 r2.2.2.2.2.2.2.2.1 ?_)
  refine wp_bd (co_like H (Or.inr (Or.inl rfl)) (Or.inl rfl) (by omega) H.2.2.2.2.1 h7 (fun i hi => by have := (hks.1.2.2.1 i (by have := hks.2.1; omega)).2.1; omega) fun u Hu hX hk => ?_)
  rw [if_neg (by omega)] at Hu
  obtain ⟨F, r1, r2, r3, r4, r5, r6, r7⟩ := Hu.root
  refine wp_bd (w_pz r1 (Or.inr rfl) ?_)
  have Hv := Hu.num (p := P.1) (P' := P.2) (i := true) (Y := R) r1 Hu.2.2.2.2.2.2.2.2.2.1 Hu.2.2.2.2.2.2.2.2.2.2 (fun _ => hX) (G := updV F 16 (.int 1)) (fun k _ q => updV_ne q) (by rw [updV_ne (by decide)]; exact r6) updV_eq
  obtain ⟨F1, s1, s2, -⟩ := Hv.root
  refine wp_bd (w_gr s1 s2.2.2.2.2.2.2.2.1 ?_)
  obtain ⟨F2, e1, e2, e3⟩ := Hv.2.2.2.2.1.2
  exact wp_bd (w_gi e1 e3 (wp_rt ⟨rfl, Hv⟩))
theorem cu_back (h7 : I.1 = true → ∀ f, f < md_nf N → I.2.2.1 f 7 = 0 ∨ I.2.2.1 f 7 = 1) (H : CoD o q5 U N R P I tb la fa ka kb h) : wp (fx_X1_back o) (fun r u => if I.1 = true then r = I.2.2.2 ∧ CoD o q5 U N I.2 (0, P.2) I tb la fa ka kb u else r = -1 ∧ CoD o q5 U N R P I tb la fa ka kb u) h := by
  unfold fx_X1_back
  have hks := H.2.2.2.2.2.2.2.2
  obtain ⟨F, r1, r2, r3, r4, r5, r6, r7⟩ := H.root
  refine wp_bd (w_gi r1 r7 ?_)
  by_cases hi : I.1 = true
  · simp only [if_pos hi]
    refine wp_ifF (by rw [hi]; decide) ?_
    refine wp_bd (w_gr r1 r2.2.2.2.2.2.2.2.1 ?_)
    refine wp_bd (w_gr r1 r2.2.2.2.2.2.2.2.2.1 ?_)
    refine wp_bd (co_like H (Or.inl rfl) (Or.inr (Or.inl rfl)) (by omega) (H.2.2.2.2.2.2.2.1 hi) (h7 hi) (fun i hi => by have := (hks.1.2.2.1 i (by have := hks.2.1; omega)).2.1; omega) fun u Hu hX hk => ?_)
    rw [if_pos rfl, if_neg (by omega)] at Hu
    obtain ⟨F, r1, r2, r3, r4, r5, r6, r7⟩ := Hu.root
    refine wp_bd (w_pv r1 ?_)
    have Hv := Hu.num (p := 0) (P' := P.2) (i := I.1) (Y := I.2) r1 (Nat.zero_le _) (fun i hi => absurd hi (Nat.not_lt_zero _)) Hu.2.2.2.2.2.2.2.1 (G := updV F 15 (.int 0)) (fun k q _ => updV_ne q) updV_eq (by rw [updV_ne (by decide)]; exact r7)
    obtain ⟨F1, s1, s2, -⟩ := Hv.root
    refine wp_bd (w_gr s1 s2.2.2.2.2.2.2.2.1 ?_)
    obtain ⟨F2, e1, e2, e3⟩ := Hv.2.2.2.2.1.2
    exact wp_bd (w_gi e1 e3 (wp_rt ⟨rfl, Hv⟩))
  · simp only [if_neg hi]
    exact wp_ifT (by rw [Bool.not_eq_true] at hi; rw [hi]; decide) (wp_rt ⟨rfl, H⟩)
theorem cu_undo (h7 : ∀ i, i < P.1 → ∀ f, f < md_nf N → (P.2 i).2.1 f 7 = 0 ∨ (P.2 i).2.1 f 7 = 1) (H : CoD o q5 U N R P I tb la fa ka kb h) : wp (fx_X1_undo o) (fun r u => if P.1 = 0 then r = -1 ∧ CoD o q5 U N R P I tb la fa ka kb u else r = nI (P.1 - 1) ∧ CoD o q5 U N (P.2 (P.1 - 1)) (P.1 - 1, P.2) I tb la fa ka kb u) h := by
  unfold fx_X1_undo
  have hks := H.2.2.2.2.2.2.2.2
  have h20 := hks.1.2.1
  have hpk := hks.2.1
  obtain ⟨F, r1, r2, r3, r4, r5, r6, r7⟩ := H.root
  refine wp_bd (w_gi r1 r6 ?_)
  by_cases hi : P.1 = 0
  · simp only [if_pos hi]
    exact wp_ifT (by rw [hi]; decide) (wp_rt ⟨rfl, H⟩)
  · simp only [if_neg hi]
    obtain ⟨p, hp⟩ : ∃ p, P.1 = p + 1 := ⟨P.1 - 1, by omega⟩
    refine wp_ifF (nI_ne0 (by omega) (by omega)) ?_
    refine wp_bd (w_gi r1 r6 ?_)
    rw [hp, nI_pred, Nat.add_sub_cancel]
    refine wp_bd (w_pv r1 ?_)
    have Hv := H.num (p := p) (P' := P.2) (i := I.1) (Y := I.2) r1 (by omega) (fun i hi => hks.2.2 i (by omega)) H.2.2.2.2.2.2.2.1 (G := updV F 15 (.int (nI p))) (fun k q _ => updV_ne q) updV_eq (by rw [updV_ne (by decide)]; exact r7)
    have HX : CQ (kb p) tb N (P.2 p) (gw_set h o (.inr (0, updV F 15 (.int (nI p))))) := (hks.2.2 p (by omega)).kept fun a q1 q2 => gs_ne (by have := (hks.1.2.2.1 p (by omega)).2.1; omega)
    generalize gw_set h o (.inr (0, updV F 15 (.int (nI p)))) = v at Hv HX
    obtain ⟨F1, s1, s2, s3, s4, s5, s6, s7⟩ := Hv.root
    have hk' := Hv.2.2.2.2.2.2.2.2
    obtain ⟨g, g1, g2, g3⟩ := hk'.1.1
    refine wp_bd (w_gr s1 s2.2.2.2.2.2.2.2.1 ?_)
    refine wp_bd (w_gr s1 s2.2.2.2.2.2.2.2.2.2.2 ?_)
    refine wp_bd (w_gi s1 s6 ?_)
    refine wp_bd (w_lr (j := p) g1 rfl (by omega) (by decide) (g2 p (by omega)) ?_)
    have hb := (hk'.1.2.2.1 p (by omega)).2.1
    refine wp_bd (co_like Hv (Or.inl rfl) (Or.inr (Or.inr (Or.inr ⟨p, by omega, rfl⟩))) (by omega) HX (h7 p (by omega)) (fun i hi => by have hi : i < p := hi; have := (hk'.1.2.2.1 i (by omega)).2.1; omega) fun u Hu hX hk => ?_)
    rw [if_pos rfl, if_neg (by omega)] at Hu
    obtain ⟨F2, t1, t2, t3, t4, t5, t6, t7⟩ := Hu.root
    exact wp_bd (w_gi t1 t6 (wp_rt ⟨rfl, Hu⟩))
end Cf
