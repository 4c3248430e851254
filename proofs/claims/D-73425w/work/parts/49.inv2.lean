/-! what comes -/
theorem md_its_b {m l : Nat} {R : Rw} {x : Int32} {n : Nat} (h : md_il m (R.1 l)) (hx : x = nI n) (hn : n ≤ 64) : ∃ (i s : Nat), i ≤ n ∧ md_q R l = nI s ∧ s ≤ 1999 ∧ s + i ≤ 1999 ∧ md_its R l x = nI i := by
  obtain ⟨s, hs, es⟩ := h.q
  obtain ⟨-, -, -, ⟨z, hz1, hz, ez⟩, -⟩ := h
  unfold md_its
  rw [es, ez, hx]
  by_cases hc : z ≤ s
  · refine ⟨0, s, by omega, rfl, hs, by omega, ?_⟩
    have e : md_mx 0 (nI z - nI s) = 0 := by
      rw [md_mx]
      by_cases hc2 : (0 : Int32) < nI z - nI s
      · exfalso
        rcases Nat.lt_or_ge z s with q | q
        · exact Int32.lt_irrefl (Int32.lt_trans hc2 (pk_sneg (by omega) q))
        · rw [show z = s by omega, pk_sub (Nat.le_refl _), Nat.sub_self] at hc2
          exact absurd hc2 (by decide)
      · rw [if_neg hc2]
    rw [e, md_mn, if_neg (nI_pos (by omega))]
    rfl
  · have hp : (0 : Int32) < nI (z - s) := nI_lt (a := 0) (by omega) (by omega)
    rw [pk_sub (by omega), md_mx, if_pos hp, md_mn]
    split
    · next hc3 =>
      have := (nI_ltI (by omega) (by omega)).mp hc3
      exact ⟨n, s, Nat.le_refl _, rfl, hs, by omega, rfl⟩
    · next hc3 =>
      have := (nI_leI (by omega) (by omega)).mp (i32_nlt.mp hc3)
      exact ⟨z - s, s, this, rfl, hs, by omega, rfl⟩
/-- what holds when all before (l, f) have come; B: what a link may have lost beside -/
def md_i3 (N : Nt) (m : Nat) (B : Nat → Nat) (R R' : Rw) : Prop :=
  R'.2.2 = R.2.2 ∧ (∀ a, a < md_nl N → md_il (64 * m + B a) (R'.1 a)) ∧ (∀ b k, k ≠ 5 → k ≠ 11 → R'.2.1 b k = R.2.1 b k) ∧ md_sum (fun l => R'.1 l 3) (md_nl N) = md_sum (fun f => R'.2.1 f 11) (md_nf N)
theorem md_i3_cm {N : Nt} {m l f : Nat} {B : Nat → Nat} {G : Nat → Nat → Int32} {R R' : Rw} {n : Nat} (hN : md_ok N) (hl : l < md_nl N) (hf : f < md_nf N) (hg : G l f = nI n) (hn : n ≤ 64) (hm : 64 * m + B l < 1000000000) (h : md_i3 N m B R R') : md_i3 N m (va_up B l (B l + n)) R (md_cm N G l f R') := by
  have hF := hN.nf
  obtain ⟨i1, i2, i3, i4⟩ := h
  have wid : ∀ a, a < md_nl N → md_il (64 * m + va_up B l (B l + n) a) (R'.1 a) := by
    intro a ha
    obtain ⟨a1, a2, a3, a4, x, hx, ex⟩ := i2 a ha
    refine ⟨a1, a2, a3, a4, x, ?_, ex⟩
    unfold va_up
    split
    · next e => rw [e] at hx; omega
    · exact hx
  rw [md_cm]
  split
  · exact ⟨i1, wid, i3, i4⟩
  · split
    · refine ⟨i1, wid, fun b k h5 h11 => by rw [md_Sk h5]; exact i3 b k h5 h11, ?_⟩
      show md_sum (fun l => R'.1 l 3) (md_nl N) = _
      rw [i4]
      exact md_sum_congr fun b _ => (md_Sk (by decide)).symm
    · obtain ⟨i, s, hi, hq, hs, hsi, ei⟩ := md_its_b (i2 l hl) hg hn
      rw [ei, hg]
      rw [pk_sub hi]
      refine ⟨i1, fun a ha => ?_, fun b k h5 h11 => by rw [md_Sk h11]; exact i3 b k h5 h11, ?_⟩
      · by_cases e : a = l
        · subst e
          obtain ⟨a1, ⟨c, c1, c2⟩, a3, a4, x, hx, ex⟩ := i2 a ha
          have es : md_sn c 8 = s := by
            have := (md_sum_nI c1).symm.trans hq
            exact (nI_eq (by omega) (by omega)).mp this
          have hup := md_sn_up (c := c) (x := c f + i) (show f < 8 by omega)
          refine ⟨fun k hk => ?_, ⟨va_up c f (c f + i), fun b hb => ?_, by omega⟩, ?_, ?_, ⟨x + (n - i), ?_, ?_⟩⟩
          · show (md_E (md_E R' a (15 + f) _) a 3 _).1 a (10 + k) = 0 ∨ (md_E (md_E R' a (15 + f) _) a 3 _).1 a (10 + k) = 1
            rw [md_Ek (by omega), md_Ek (by omega)]
            exact a1 k hk
          · show (md_E (md_E R' a (15 + f) _) a 3 _).1 a (15 + b) = _
            rw [md_Ek (by omega), md_E1]
            unfold va_up
            by_cases e2 : b = f
            · rw [if_pos ⟨rfl, by omega⟩, if_pos e2, c1 f (by omega), nI_add]
            · rw [if_neg (by omega), if_neg e2]
              exact c1 b hb
          · show ∃ n, n ≤ 1999 ∧ (md_E (md_E R' a (15 + f) _) a 3 _).1 a 9 = nI n
            rw [md_Ek (by omega), md_Ek (by omega)]
            exact a3
          · show ∃ n, 1 ≤ n ∧ n ≤ 1999 ∧ (md_E (md_E R' a (15 + f) _) a 3 _).1 a 2 = nI n
            rw [md_Ek (by omega), md_Ek (by omega)]
            exact a4
          · rw [md_up_eq]; omega
          · show (md_E (md_E R' a (15 + f) _) a 3 _).1 a 3 = _
            rw [md_Ee, ex, nI_add]
        · have h1 : (md_S (md_E (md_E R' l (15 + f) (R'.1 l (15 + f) + nI i)) l 3 (R'.1 l 3 + nI (n - i))) f 11 (R'.2.1 f 11 + nI (n - i))).1 a = R'.1 a := by
            funext k
            show (md_E (md_E R' l (15 + f) _) l 3 _).1 a k = _
            rw [md_E1, if_neg fun q => e q.1, md_E1, if_neg fun q => e q.1]
          rw [h1]
          exact wid a ha
      · show md_sum (fun a => (md_E (md_E R' l (15 + f) _) l 3 _).1 a 3) (md_nl N) = md_sum (fun b => (md_S _ f 11 _).2.1 b 11) (md_nf N)
        rw [md_sum_one (g := fun a => R'.1 a 3) hl (fun j _ hj => by rw [md_E1, if_neg fun q => hj q.1, md_E1, if_neg fun q => hj q.1]), md_sum_one (g := fun b => R'.2.1 b 11) (h := fun b => (md_S _ f 11 _).2.1 b 11) hf (fun j _ hj => by rw [md_Sf hj]; rfl), i4, md_Ee, md_Se]
        show _ = _ + (R'.2.1 f 11 + nI (n - i) - R'.2.1 f 11)
        grind
theorem md_i3_mono {N : Nt} {m : Nat} {B B' : Nat → Nat} {R R' : Rw} (h : md_i3 N m B R R') (hb : ∀ a, a < md_nl N → B a ≤ B' a) : md_i3 N m B' R R' := by
  obtain ⟨i1, i2, i3, i4⟩ := h
  refine ⟨i1, fun a ha => ?_, i3, i4⟩
  obtain ⟨a1, a2, a3, a4, x, hx, ex⟩ := i2 a ha
  have := hb a ha
  exact ⟨a1, a2, a3, a4, x, by omega, ex⟩
theorem md_il_other {m l k : Nat} {R : Rw} {x : Int32} (hk : k ≠ 2 ∧ k ≠ 3 ∧ k ≠ 9 ∧ k < 10) {a : Nat} (h : md_il m (R.1 a)) : md_il m ((md_E R l k x).1 a) := by
  obtain ⟨a1, ⟨c, c1, c2⟩, a3, a4, a5⟩ := h
  refine ⟨fun j hj => by rw [md_Ek (by omega)]; exact a1 j hj, ⟨c, fun f hf => by rw [md_Ek (by omega)]; exact c1 f hf, c2⟩, by rw [md_Ek (by omega)]; exact a3, by rw [md_Ek (by omega)]; exact a4, by rw [md_Ek (by omega)]; exact a5⟩
theorem md_i3_all {N : Nt} {m : Nat} {R : Rw} (hN : md_ok N) (h : md_iv N m R) (hm : m ≤ 20000) (n : Nat) (hn : n ≤ md_nl N) : md_i3 N m (fun a => if a < n then 64 else 0) (md_t2 N R) (md_it (md_cs N (md_tg N R)) n (md_t2 N R)) ∧ ∀ k, n < md_nl N → k ≤ md_nf N → ∃ B, B n ≤ 64 ∧ md_i3 N m B (md_t2 N R) (md_it (md_cm N (md_tg N R) n) k (md_it (md_cs N (md_tg N R)) n (md_t2 N R))) := by
  have h2 := (md_i2_all hN h).2.2.1
  have inner : ∀ n, n < md_nl N → md_i3 N m (fun a => if a < n then 64 else 0) (md_t2 N R) (md_it (md_cs N (md_tg N R)) n (md_t2 N R)) → ∀ k, k ≤ md_nf N → ∃ B : Nat → Nat, B n ≤ 64 ∧ (∀ a, a ≠ n → B a = if a < n then 64 else 0) ∧ md_i3 N m B (md_t2 N R) (md_it (md_cm N (md_tg N R) n) k (md_it (md_cs N (md_tg N R)) n (md_t2 N R))) := by
    intro n hn ih k hk
    obtain ⟨c, g1, g2, -, -⟩ := md_tg_b hN h hn
    have st : ∀ k, k ≤ md_nf N → ∃ B : Nat → Nat, B n = md_sn c k ∧ (∀ a, a ≠ n → B a = if a < n then 64 else 0) ∧ md_i3 N m B (md_t2 N R) (md_it (md_cm N (md_tg N R) n) k (md_it (md_cs N (md_tg N R)) n (md_t2 N R))) := by
      intro k hk
      induction k with
      | zero => exact ⟨_, if_neg (Nat.lt_irrefl n), fun a ha => rfl, ih⟩
      | succ k ihk =>
        obtain ⟨B, b1, b2, b3⟩ := ihk (by omega)
        have c3 : c k ≤ md_sn c (md_nf N) := md_sn_le (by omega)
        have c4 : md_sn c k ≤ md_sn c (md_nf N) := by
          clear b1 b2 b3 c3
          have : ∀ d, md_sn c k ≤ md_sn c (k + d) := by
            intro d
            induction d with
            | zero => exact Nat.le_refl _
            | succ d ihd => rw [← Nat.add_assoc, md_sn]; omega
          have h9 := this (md_nf N - k)
          rw [show k + (md_nf N - k) = md_nf N by omega] at h9
          exact h9
        refine ⟨va_up B n (B n + c k), by rw [md_up_eq, b1, md_sn], fun a ha => by rw [md_up_ne ha]; exact b2 a ha, ?_⟩
        rw [md_it]
        exact md_i3_cm hN hn (by omega) (g1 k) (by omega) (by omega) b3
    obtain ⟨B, b1, b2, b3⟩ := st k hk
    have c4 : md_sn c k ≤ md_sn c (md_nf N) := by
      have : ∀ d, md_sn c k ≤ md_sn c (k + d) := by
        intro d
        induction d with
        | zero => exact Nat.le_refl _
        | succ d ihd => rw [← Nat.add_assoc, md_sn]; omega
      have h9 := this (md_nf N - k)
      rw [show k + (md_nf N - k) = md_nf N by omega] at h9
      exact h9
    exact ⟨B, by omega, b2, b3⟩
  have outer : ∀ n, n ≤ md_nl N → md_i3 N m (fun a => if a < n then 64 else 0) (md_t2 N R) (md_it (md_cs N (md_tg N R)) n (md_t2 N R)) := by
    intro n hn
    induction n with
    | zero => exact ⟨rfl, fun a ha => h2.2.1 a ha, fun _ _ _ _ => rfl, h2.2.2.2⟩
    | succ n ih =>
      obtain ⟨B, b1, b2, i1, i2, i3, i4⟩ := inner n (by omega) (ih (by omega)) (md_nf N) (Nat.le_refl _)
      rw [md_it, md_cs, md_pk]
      have key : md_i3 N m B (md_t2 N R) (md_E (md_it (md_cm N (md_tg N R) n) (md_nf N) (md_it (md_cs N (md_tg N R)) n (md_t2 N R))) n 4 (md_mx ((md_it (md_cm N (md_tg N R) n) (md_nf N) (md_it (md_cs N (md_tg N R)) n (md_t2 N R))).1 n 4) (md_q (md_it (md_cm N (md_tg N R) n) (md_nf N) (md_it (md_cs N (md_tg N R)) n (md_t2 N R))) n))) := by
        refine ⟨i1, fun a ha => md_il_other (by decide) (i2 a ha), i3, ?_⟩
        rw [md_sum_congr (h := fun l => (md_it (md_cm N (md_tg N R) n) (md_nf N) (md_it (md_cs N (md_tg N R)) n (md_t2 N R))).1 l 3) fun l _ => md_Ek (by decide)]
        exact i4
      refine md_i3_mono key fun a ha => ?_
      by_cases e : a = n
      · subst e; rw [if_pos (by omega)]; exact b1
      · rw [b2 a e]
        by_cases e2 : a < n
        · rw [if_pos e2, if_pos (by omega)]; omega
        · rw [if_neg e2]; omega
  refine ⟨outer n hn, fun k hn hk => ?_⟩
  obtain ⟨B, b1, -, b3⟩ := inner n hn (outer n (by omega)) k hk
  exact ⟨B, b1, b3⟩
/-- behind what comes -/
theorem md_t3_iv {N : Nt} {m : Nat} {R : Rw} (hN : md_ok N) (h : md_iv N m R) (hm : m ≤ 20000) : (md_t3 N R).2.2 = nI m ∧ (∀ a, a < md_nl N → md_il (64 * (m + 1)) ((md_t3 N R).1 a)) ∧ (∀ f, f < md_nf N → md_if m ((md_t3 N R).2.1 f)) ∧ md_sum (fun l => (md_t3 N R).1 l 3) (md_nl N) = md_sum (fun f => (md_t3 N R).2.1 f 11) (md_nf N) ∧ (∀ f, f < md_nf N → (md_t3 N R).2.1 f 12 = md_tg N R (md_pa N f 0) f) ∧ ∀ b k, k ≠ 4 → k ≠ 5 → k ≠ 8 → k ≠ 11 → k ≠ 12 → (md_t3 N R).2.1 b k = R.2.1 b k := by
  obtain ⟨-, -, h2, h2s, h2n⟩ := md_i2_all hN h
  obtain ⟨i1, i2, i3, i4⟩ := (md_i3_all hN h hm (md_nl N) (Nat.le_refl _)).1
  refine ⟨i1.trans h2.1, fun a ha => ?_, fun f hf => ?_, i4, fun f hf => ?_, fun b k h4 h5 h8 h11 h12 => ?_⟩
  · have := i2 a ha
    dsimp only at this
    rw [if_pos ha] at this
    rw [show 64 * (m + 1) = 64 * m + 64 by omega]
    exact this
  · obtain ⟨-, q8, -⟩ := h2.2.2.1 f hf
    exact (h2.2.2.1 f hf).keep (i3 f 7 (by decide) (by decide)) (by rw [show (md_t3 N R).2.1 f 8 = (md_t2 N R).2.1 f 8 from i3 f 8 (by decide) (by decide)]; exact q8) (i3 f 0 (by decide) (by decide)) (i3 f 1 (by decide) (by decide)) (i3 f 3 (by decide) (by decide)) (i3 f 9 (by decide) (by decide))
  · rw [← h2n f hf]
    exact i3 f 12 (by decide) (by decide)
  · rw [← h2s b k h4 h8 h12]
    exact i3 b k h5 h11
