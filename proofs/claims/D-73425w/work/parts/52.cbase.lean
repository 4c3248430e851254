/-! THE COMPONENT: rows of its programs -/
theorem gs_eq {h : Hp} {a : Nat} {x : gE} : (gw_set h a x).1 a = some x := md_up_eq _ _ _
theorem gs_ne {h : Hp} {a q : Nat} {x : gE} (e : q ≠ a) : (gw_set h a x).1 q = h.1 q := md_up_ne e
theorem gp_eq {h : Hp} {x : gE} : (gw_push h x).1 h.2 = some x := md_up_eq _ _ _
theorem gp_ne {h : Hp} {q : Nat} {x : gE} (e : q ≠ h.2) : (gw_push h x).1 q = h.1 q := md_up_ne e
theorem ob_of {h : Hp} {a ci : Nat} {F : Nat → Value} (e : h.1 a = some (.inr (ci, F))) : gw_ob h a ci = some F := by
  unfold gw_ob
  rw [e]
  exact if_pos rfl
theorem ar_of {h : Hp} {a k : Nat} {x : vp_A} (e : h.1 a = some (.inl (k, x))) : gw_ar h a k = some x := by
  unfold gw_ar
  rw [e]
  exact if_pos rfl
section Cw
variable {h : Hp} {a ci k q n j : Nat} {F : Nat → Value} {x i : Int32} {Q : Int32 → Hp → Prop} {P : Unit → Hp → Prop} {A : Nat → Hp → Prop}
theorem w_gi (h1 : h.1 a = some (.inr (ci, F))) (h2 : F k = .int x) (hq : Q x h) : wp (gw_gi ci k a) Q h := by
  refine ⟨x, h, ?_, hq⟩
  unfold gw_gi
  rw [ob_of h1]
  dsimp only
  rw [h2]
theorem w_gl {y : Int64} {Q : Int64 → Hp → Prop} (h1 : h.1 a = some (.inr (ci, F))) (h2 : F k = .long y) (hq : Q y h) : wp (gw_gl ci k a) Q h := by
  refine ⟨y, h, ?_, hq⟩
  unfold gw_gl
  rw [ob_of h1]
  dsimp only
  rw [h2]
theorem w_gr {y : Nat} (h1 : h.1 a = some (.inr (ci, F))) (h2 : F k = .ref y) (hq : A y h) : wp (gw_gr ci k a) A h := by
  refine ⟨y, h, ?_, hq⟩
  unfold gw_gr
  rw [ob_of h1]
  dsimp only
  rw [h2]
theorem w_pv {v : Value} (h1 : h.1 a = some (.inr (ci, F))) (hq : P () (gw_set h a (.inr (ci, updV F k v)))) : wp (gw_pv ci k a v) P h := by
  refine ⟨(), _, ?_, hq⟩
  unfold gw_pv
  rw [ob_of h1]
theorem w_pz (h1 : h.1 a = some (.inr (ci, F))) (hx : x = 0 ∨ x = 1) (hq : P () (gw_set h a (.inr (ci, updV F k (.int x))))) : wp (gw_pz ci k a x) P h := by
  refine ⟨(), _, ?_, hq⟩
  unfold gw_pz
  rw [if_pos hx]
  unfold gw_pv
  rw [ob_of h1]
theorem w_ld {g : Nat → Int32} (h1 : h.1 a = some (.inl (q, n, .inl g))) (hi : i = nI j) (hj : j < n) (hn : n < 2 ^ 31) (hq : Q (g j) h) : wp (gw_ld q a i) Q h := by
  refine ⟨g j, h, ?_, hq⟩
  unfold gw_ld
  rw [ar_of h1]
  dsimp only
  rw [hi, if_neg (nI_in hj hn), nI_clamp (by omega)]
theorem w_st {g : Nat → Int32} (h1 : h.1 a = some (.inl (0, n, .inl g))) (hi : i = nI j) (hj : j < n) (hn : n < 2 ^ 31) (hq : P () (gw_set h a (.inl (0, n, .inl (upd g j x))))) : wp (gw_st a i x) P h := by
  refine ⟨(), _, ?_, hq⟩
  unfold gw_st
  rw [ar_of h1]
  dsimp only
  rw [hi, if_neg (nI_in hj hn), nI_clamp (by omega)]
theorem w_lq {g : Nat → Option Nat} {B : Option Nat → Hp → Prop} (h1 : h.1 a = some (.inl (q, n, .inr (.inr (.inr (.inr g)))))) (hi : i = nI j) (hj : j < n) (hn : n < 2 ^ 31) (hq : B (g j) h) : wp (gw_lq q a i) B h := by
  refine ⟨g j, h, ?_, hq⟩
  unfold gw_lq
  rw [ar_of h1]
  dsimp only
  rw [hi, if_neg (nI_in hj hn), nI_clamp (by omega)]
theorem w_lr {g : Nat → Option Nat} {y : Nat} (h1 : h.1 a = some (.inl (q, n, .inr (.inr (.inr (.inr g)))))) (hi : i = nI j) (hj : j < n) (hn : n < 2 ^ 31) (hy : g j = some y) (hq : A y h) : wp (gw_lr q a i) A h := by
  refine ⟨y, h, ?_, hq⟩
  obtain ⟨b, u, e1, e2, e3⟩ := w_lq (B := fun o u => o = some y ∧ u = h) h1 hi hj hn ⟨hy, rfl⟩
  unfold gw_lr
  rw [e1, e2, e3]
theorem w_sr {g : Nat → Option Nat} {v : Nat} (h1 : h.1 a = some (.inl (q, n, .inr (.inr (.inr (.inr g)))))) (h2 : h.1 v = some (.inr (ci, F))) (hi : i = nI j) (hj : j < n) (hn : n < 2 ^ 31) (hq : P () (gw_set h a (.inl (q, n, .inr (.inr (.inr (.inr (va_up g j (some v))))))))) : wp (gw_sr q ci a i v) P h := by
  refine ⟨(), _, ?_, hq⟩
  unfold gw_sr
  rw [ar_of h1, ob_of h2]
  dsimp only
  rw [hi, if_neg (nI_in hj hn), nI_clamp (by omega)]
theorem w_al {x : vp_A} (h1 : h.1 a = some (.inl (q, x))) (hq : Q (nI x.1) h) : wp (gw_al q a) Q h := by
  refine ⟨_, h, ?_, hq⟩
  unfold gw_al
  rw [ar_of h1]
theorem w_on {ρ : Type} {f : HM ρ} {Q : ρ → Hp → Prop} (h1 : h.1 a = some (.inr (ci, F))) (hq : wp f Q h) : wp (gw_on ci a f) Q h := by
  obtain ⟨r, u, e, hq⟩ := hq
  refine ⟨r, u, ?_, hq⟩
  unfold gw_on
  rw [ob_of h1]
  exact e
theorem g_on {ρ : Type} {f : gM ρ} {C S : Nat} {Q : ρ → Hp → Prop} (h1 : h.1 a = some (.inr (ci, F))) (hq : wg f C S Q h) : wg (gw_on ci a f) C S Q h := by
  obtain ⟨r, u, c, s, e, hq⟩ := hq
  refine ⟨r, u, c, s, ?_, hq⟩
  unfold gw_on
  rw [ob_of h1]
  exact e
theorem w_bt {j : Nat} (hi : i = nI j) (hj : j < 10) (hq : Q (nI (2 ^ j)) h) : wp (gw_bt i) Q h := by
  refine ⟨_, h, ?_, hq⟩
  unfold gw_bt
  rw [hi, if_neg (nI_in hj (by decide)), nI_clamp (by omega)]
theorem g_nw {N : Nat} {ty : Nat → FieldType} {C S : Nat} (hC : 1 ≤ C) (hS : N ≤ S) (hq : A h.2 (gw_push h (.inr (ci, fun j => defaultValue (ty j))))) : wg (gw_nw ci N ty) C S A h := ⟨_, _, _, _, rfl, hC, hS, hq⟩
theorem g_na {C S : Nat} (hi : i = nI n) (hn : n ≤ 100000) (hC : 1 ≤ C) (hS : n ≤ S) (hq : A h.2 (gw_push h (.inl (q, n, .inl (fun _ => 0))))) : wg (gw_na q i) C S A h := by
  refine ⟨_, _, 1, n, ?_, hC, hS, hq⟩
  unfold gw_na
  rw [hi, if_neg (by rintro (e | e); exact nI_pos (by omega) e; rw [nI_clamp (by omega)] at e; omega), nI_clamp (by omega)]
theorem g_nl {C S : Nat} (hi : i = nI n) (hn : n ≤ 100000) (hC : 1 ≤ C) (hS : n ≤ S) (hq : A h.2 (gw_push h (.inl (1, n, .inr (.inl (fun _ => 0)))))) : wg (gw_nl i) C S A h := by
  refine ⟨_, _, 1, n, ?_, hC, hS, hq⟩
  unfold gw_nl
  rw [hi, if_neg (by rintro (e | e); exact nI_pos (by omega) e; rw [nI_clamp (by omega)] at e; omega), nI_clamp (by omega)]
theorem g_nq {C S : Nat} (hi : i = nI n) (hn : n ≤ 100000) (hC : 1 ≤ C) (hS : n ≤ S) (hq : A h.2 (gw_push h (.inl (q, n, .inr (.inr (.inr (.inr (fun _ => none)))))))) : wg (gw_nq q i) C S A h := by
  refine ⟨_, _, 1, n, ?_, hC, hS, hq⟩
  unfold gw_nq
  rw [hi, if_neg (by rintro (e | e); exact nI_pos (by omega) e; rw [nI_clamp (by omega)] at e; omega), nI_clamp (by omega)]
end Cw
/-! A STATE's BLOCK: the state at b, its ends' array at b + 1, its senders' at b + 2, the ends with their cells from b + 3 on, the senders with their stages from b + 23 on -/
def md_ek (j : Nat) : Nat := [99, 0, 1, 2, 99, 3, 4, 5, 6, 7, 8, 9].getD j 99
def md_sk (j : Nat) : Nat := [0, 1, 4, 5, 6, 11, 8, 9, 10, 12, 99, 7].getD j 99
def md_as (e : Nat → Int32) : Int32 := e 10 + 2 * e 11 + 4 * e 12 + 8 * e 13 + 16 * e 14
def md_ev (e : Nat → Int32) (F : Nat → Value) : Prop := (∀ j, 1 ≤ j → j < 12 → j ≠ 4 → F j = .int (e (md_ek j))) ∧ F 4 = .int (md_as e)
def md_sv (s : Nat → Int32) (F : Nat → Value) : Prop := ∀ j, j < 12 → j ≠ 10 → F j = .int (s (md_sk j))
theorem md_ek_in0 : ∀ j, j < 12 → ∀ j', j' < 12 → (1 ≤ j ∧ j ≠ 4 ∧ 1 ≤ j' ∧ j' ≠ 4 ∧ md_ek j = md_ek j') → j = j' := by decide
theorem md_ek_in (j : Nat) (h1 : j < 12) (j' : Nat) (h2 : j' < 12) (h3 : 1 ≤ j) (h4 : j ≠ 4) (h5 : 1 ≤ j') (h6 : j' ≠ 4) (h7 : md_ek j = md_ek j') : j = j' := md_ek_in0 j h1 j' h2 ⟨h3, h4, h5, h6, h7⟩
theorem md_ek_lt : ∀ j, j < 12 → 1 ≤ j → j ≠ 4 → md_ek j < 10 := by decide
theorem md_sk_in : ∀ j, j < 12 → ∀ j', j' < 12 → j ≠ 10 → j' ≠ 10 → md_sk j = md_sk j' → j = j' := by decide
theorem md_sk_ne : ∀ j, j < 12 → j ≠ 10 → md_sk j ≠ 2 ∧ md_sk j ≠ 3 := by decide
def CB (b tb : Nat) (N : Nt) (R : Rw) (h : Hp) : Prop :=
  (∃ F, h.1 b = some (.inr (2, F)) ∧ F 0 = .ref tb ∧ F 1 = .int R.2.2 ∧ F 2 = .ref (b + 1) ∧ F 3 = .ref (b + 2)) ∧
  (∃ g, h.1 (b + 1) = some (.inl (6, 10, .inr (.inr (.inr (.inr g))))) ∧ ∀ l, l < 10 → g l = some (b + 3 + 2 * l)) ∧
  (∃ g, h.1 (b + 2) = some (.inl (7, 8, .inr (.inr (.inr (.inr g))))) ∧ ∀ f, f < 8 → g f = some (b + 23 + 2 * f)) ∧
  (∀ l, l < 10 → ∃ F, h.1 (b + 3 + 2 * l) = some (.inr (3, F)) ∧ F 0 = .ref (b + 4 + 2 * l) ∧ (l < md_nl N → md_ev (R.1 l) F)) ∧
  (∀ l, l < 10 → ∃ g, h.1 (b + 4 + 2 * l) = some (.inl (0, 8, .inl g)) ∧ (l < md_nl N → ∀ f, f < 8 → g f = R.1 l (15 + f))) ∧
  (∀ f, f < 8 → ∃ F, h.1 (b + 23 + 2 * f) = some (.inr (4, F)) ∧ F 10 = .ref (b + 24 + 2 * f) ∧ (∃ x, F 9 = .int x) ∧ (f < md_nf N → md_sv (R.2.1 f) F)) ∧
  (∀ f, f < 8 → ∃ g, h.1 (b + 24 + 2 * f) = some (.inl (0, 2, .inl g)) ∧ (f < md_nf N → g 0 = R.2.1 f 2 ∧ g 1 = R.2.1 f 3))
theorem CB.kept {b tb : Nat} {N : Nt} {R : Rw} {h u : Hp} (H : CB b tb N R h) (e : ∀ a, b ≤ a → a < b + 39 → u.1 a = h.1 a) : CB b tb N R u := by
  obtain ⟨c0, c1, c2, c3, c4, c5, c6⟩ := H
  refine ⟨by rw [e b (by omega) (by omega)]; exact c0, by rw [e (b + 1) (by omega) (by omega)]; exact c1, by rw [e (b + 2) (by omega) (by omega)]; exact c2, fun l hl => by rw [e _ (by omega) (by omega)]; exact c3 l hl, fun l hl => by rw [e _ (by omega) (by omega)]; exact c4 l hl, fun l hl => by rw [e _ (by omega) (by omega)]; exact c5 l hl, fun l hl => by rw [e _ (by omega) (by omega)]; exact c6 l hl⟩
theorem updV_eq {F : Nat → Value} {k : Nat} {v : Value} : updV F k v k = v := by unfold updV; rw [if_pos rfl]
theorem updV_ne {F : Nat → Value} {j k : Nat} {v : Value} (h : j ≠ k) : updV F k v j = F j := by unfold updV; rw [if_neg h]
theorem CB.pE {b tb l j : Nat} {N : Nt} {R : Rw} {h : Hp} {x : Int32} {F : Nat → Value} (hN : md_ok N) (H : CB b tb N R h) (hl : l < md_nl N) (h1 : 1 ≤ j) (h2 : j < 12) (h4 : j ≠ 4) (hF : h.1 (b + 3 + 2 * l) = some (.inr (3, F))) : CB b tb N (md_E R l (md_ek j) x) (gw_set h (b + 3 + 2 * l) (.inr (3, updV F j (.int x)))) := by
  have hL := hN.nl
  have hk := md_ek_lt j h2 h1 h4
  obtain ⟨c0, c1, c2, c3, c4, c5, c6⟩ := H
  refine ⟨by rw [gs_ne (by omega)]; exact c0, by rw [gs_ne (by omega)]; exact c1, by rw [gs_ne (by omega)]; exact c2, fun a ha => ?_, fun a ha => ?_, fun f hf => by rw [gs_ne (by omega)]; exact c5 f hf, fun f hf => by rw [gs_ne (by omega)]; exact c6 f hf⟩
  · obtain ⟨F', e1, e2, e3⟩ := c3 a ha
    by_cases e : a = l
    · subst e
      rw [hF] at e1
      obtain rfl : F = F' := by cases e1; rfl
      refine ⟨_, gs_eq, by rw [updV_ne (by omega)]; exact e2, fun hal => ?_⟩
      obtain ⟨v1, v2⟩ := e3 hal
      refine ⟨fun i i1 i2 i4 => ?_, ?_⟩
      · by_cases ei : i = j
        · rw [ei, updV_eq, md_Ee]
        · rw [updV_ne ei, v1 i i1 i2 i4, md_Ek (fun q => ei (md_ek_in i i2 j h2 i1 i4 h1 h4 q))]
      · rw [updV_ne (by omega), v2]
        unfold md_as
        rw [md_Ek (by omega), md_Ek (by omega), md_Ek (by omega), md_Ek (by omega), md_Ek (by omega)]
    · rw [gs_ne (by omega)]
      have er : (md_E R l (md_ek j) x).1 a = R.1 a := funext fun k => by rw [md_E1, if_neg fun q => e q.1]
      rw [er]
      exact ⟨F', e1, e2, e3⟩
  · rw [gs_ne (by omega)]
    obtain ⟨g, e1, e2⟩ := c4 a ha
    exact ⟨g, e1, fun hal f hf => by rw [md_Ek (by omega)]; exact e2 hal f hf⟩
theorem CB.pA {b tb l : Nat} {N : Nt} {R R' : Rw} {h : Hp} {x : Int32} {F : Nat → Value} (hN : md_ok N) (H : CB b tb N R h) (hl : l < md_nl N) (hF : h.1 (b + 3 + 2 * l) = some (.inr (3, F))) (q1 : ∀ a k, k < 10 ∨ 14 < k → R'.1 a k = R.1 a k) (q2 : ∀ a k, a ≠ l → R'.1 a k = R.1 a k) (q3 : R'.2 = R.2) (q4 : md_as (R'.1 l) = x) : CB b tb N R' (gw_set h (b + 3 + 2 * l) (.inr (3, updV F 4 (.int x)))) := by
  have hL := hN.nl
  obtain ⟨c0, c1, c2, c3, c4, c5, c6⟩ := H
  refine ⟨by rw [gs_ne (by omega), q3]; exact c0, by rw [gs_ne (by omega)]; exact c1, by rw [gs_ne (by omega)]; exact c2, fun a ha => ?_, fun a ha => ?_, fun f hf => by rw [gs_ne (by omega), q3]; exact c5 f hf, fun f hf => by rw [gs_ne (by omega), q3]; exact c6 f hf⟩
  · obtain ⟨F', e1, e2, e3⟩ := c3 a ha
    by_cases e : a = l
    · subst e
      rw [hF] at e1
      obtain rfl : F = F' := by cases e1; rfl
      refine ⟨_, gs_eq, by rw [updV_ne (by omega)]; exact e2, fun hal => ?_⟩
      obtain ⟨v1, v2⟩ := e3 hal
      refine ⟨fun i i1 i2 i4 => ?_, ?_⟩
      · rw [updV_ne i4, v1 i i1 i2 i4, q1 a _ (Or.inl (md_ek_lt i i2 i1 i4))]
      · rw [updV_eq, q4]
    · rw [gs_ne (by omega)]
      have er : R'.1 a = R.1 a := funext fun k => q2 a k e
      rw [er]
      exact ⟨F', e1, e2, e3⟩
  · rw [gs_ne (by omega)]
    obtain ⟨g, e1, e2⟩ := c4 a ha
    exact ⟨g, e1, fun hal f hf => by rw [q1 a (15 + f) (by omega)]; exact e2 hal f hf⟩
theorem CB.pQ {b tb l f : Nat} {N : Nt} {R : Rw} {h : Hp} {x : Int32} {g : Nat → Int32} (hN : md_ok N) (H : CB b tb N R h) (hl : l < md_nl N) (hf : f < 8) (hF : h.1 (b + 4 + 2 * l) = some (.inl (0, 8, .inl g))) : CB b tb N (md_E R l (15 + f) x) (gw_set h (b + 4 + 2 * l) (.inl (0, 8, .inl (upd g f x)))) := by
  have hL := hN.nl
  obtain ⟨c0, c1, c2, c3, c4, c5, c6⟩ := H
  refine ⟨by rw [gs_ne (by omega)]; exact c0, by rw [gs_ne (by omega)]; exact c1, by rw [gs_ne (by omega)]; exact c2, fun a ha => ?_, fun a ha => ?_, fun f hf => by rw [gs_ne (by omega)]; exact c5 f hf, fun f hf => by rw [gs_ne (by omega)]; exact c6 f hf⟩
  · rw [gs_ne (by omega)]
    obtain ⟨F', e1, e2, e3⟩ := c3 a ha
    refine ⟨F', e1, e2, fun hal => ?_⟩
    obtain ⟨v1, v2⟩ := e3 hal
    refine ⟨fun i i1 i2 i4 => ?_, ?_⟩
    · have := md_ek_lt i i2 i1 i4
      rw [v1 i i1 i2 i4, md_Ek (by omega)]
    · rw [v2]
      unfold md_as
      rw [md_Ek (by omega), md_Ek (by omega), md_Ek (by omega), md_Ek (by omega), md_Ek (by omega)]
  · obtain ⟨g', e1, e2⟩ := c4 a ha
    by_cases e : a = l
    · subst e
      rw [hF] at e1
      obtain rfl : g = g' := by cases e1; rfl
      refine ⟨_, gs_eq, fun hal i hi => ?_⟩
      rw [md_E1]
      unfold upd
      by_cases ei : i = f
      · rw [if_pos ei, if_pos ⟨rfl, by omega⟩]
      · rw [if_neg ei, if_neg (by omega)]
        exact e2 hal i hi
    · rw [gs_ne (by omega)]
      exact ⟨g', e1, fun hal i hi => by rw [md_E1, if_neg fun q => e q.1]; exact e2 hal i hi⟩
theorem CB.pS {b tb f j : Nat} {N : Nt} {R : Rw} {h : Hp} {x : Int32} {F : Nat → Value} (hN : md_ok N) (H : CB b tb N R h) (hf : f < md_nf N) (h2 : j < 12) (h4 : j ≠ 10) (hF : h.1 (b + 23 + 2 * f) = some (.inr (4, F))) : CB b tb N (md_S R f (md_sk j) x) (gw_set h (b + 23 + 2 * f) (.inr (4, updV F j (.int x)))) := by
  have hL := hN.nf
  obtain ⟨c0, c1, c2, c3, c4, c5, c6⟩ := H
  refine ⟨by rw [gs_ne (by omega)]; exact c0, by rw [gs_ne (by omega)]; exact c1, by rw [gs_ne (by omega)]; exact c2, fun a ha => by rw [gs_ne (by omega)]; exact c3 a ha, fun a ha => by rw [gs_ne (by omega)]; exact c4 a ha, fun a ha => ?_, fun a ha => ?_⟩
  · obtain ⟨F', e1, e2, ⟨x9, e9⟩, e3⟩ := c5 a ha
    by_cases e : a = f
    · subst e
      rw [hF] at e1
      obtain rfl : F = F' := by cases e1; rfl
      refine ⟨_, gs_eq, by rw [updV_ne (Ne.symm h4)]; exact e2, (if e : j = 9 then ⟨x, by rw [e]; exact updV_eq⟩ else ⟨x9, by rw [updV_ne (Ne.symm e)]; exact e9⟩), fun hal i i2 i4 => ?_⟩
      by_cases ei : i = j
      · rw [ei, updV_eq, md_Se]
      · rw [updV_ne ei, e3 hal i i2 i4, md_Sk (fun q => ei (md_sk_in i i2 j h2 i4 h4 q))]
    · rw [gs_ne (by omega)]
      have er : (md_S R f (md_sk j) x).2.1 a = R.2.1 a := funext fun k => md_Sf e
      rw [er]
      exact ⟨F', e1, e2, ⟨x9, e9⟩, e3⟩
  · rw [gs_ne (by omega)]
    obtain ⟨g, e1, e2⟩ := c6 a ha
    have hne := md_sk_ne j h2 h4
    exact ⟨g, e1, fun hal => by rw [md_Sk (Ne.symm hne.1), md_Sk (Ne.symm hne.2)]; exact e2 hal⟩
theorem CB.pG {b tb f i : Nat} {N : Nt} {R : Rw} {h : Hp} {x : Int32} {g : Nat → Int32} (hN : md_ok N) (H : CB b tb N R h) (hf : f < md_nf N) (hi : i < 2) (hF : h.1 (b + 24 + 2 * f) = some (.inl (0, 2, .inl g))) : CB b tb N (md_S R f (2 + i) x) (gw_set h (b + 24 + 2 * f) (.inl (0, 2, .inl (upd g i x)))) := by
  have hL := hN.nf
  obtain ⟨c0, c1, c2, c3, c4, c5, c6⟩ := H
  refine ⟨by rw [gs_ne (by omega)]; exact c0, by rw [gs_ne (by omega)]; exact c1, by rw [gs_ne (by omega)]; exact c2, fun a ha => by rw [gs_ne (by omega)]; exact c3 a ha, fun a ha => by rw [gs_ne (by omega)]; exact c4 a ha, fun a ha => ?_, fun a ha => ?_⟩
  · rw [gs_ne (by omega)]
    obtain ⟨F', e1, e2, e9, e3⟩ := c5 a ha
    refine ⟨F', e1, e2, e9, fun hal j j2 j4 => ?_⟩
    have hne := md_sk_ne j j2 j4
    rw [e3 hal j j2 j4, md_Sk (by omega)]
  · obtain ⟨g', e1, e2⟩ := c6 a ha
    by_cases e : a = f
    · subst e
      rw [hF] at e1
      obtain rfl : g = g' := by cases e1; rfl
      refine ⟨_, gs_eq, fun hal => ?_⟩
      obtain ⟨v1, v2⟩ := e2 hal
      rw [md_S1, md_S1]
      unfold upd
      match i, hi with
      | 0, _ => exact ⟨by rw [if_pos rfl, if_pos ⟨rfl, rfl⟩], by rw [if_neg (by decide), if_neg (by omega)]; exact v2⟩
      | 1, _ => exact ⟨by rw [if_neg (by decide), if_neg (by omega)]; exact v1, by rw [if_pos rfl, if_pos ⟨rfl, rfl⟩]⟩
      | i + 2, h => omega
    · rw [gs_ne (by omega)]
      exact ⟨g', e1, fun hal => by rw [md_Sf e, md_Sf e]; exact e2 hal⟩
theorem CB.pT {b tb : Nat} {N : Nt} {R : Rw} {h : Hp} {x : Int32} {F : Nat → Value} (H : CB b tb N R h) (hF : h.1 b = some (.inr (2, F))) : CB b tb N (R.1, R.2.1, x) (gw_set h b (.inr (2, updV F 1 (.int x)))) := by
  obtain ⟨⟨F', e1, e2, e3, e4, e5⟩, c1, c2, c3, c4, c5, c6⟩ := H
  rw [hF] at e1
  obtain rfl : F = F' := by cases e1; rfl
  exact ⟨⟨_, gs_eq, by rw [updV_ne (by decide)]; exact e2, updV_eq, by rw [updV_ne (by decide)]; exact e4, by rw [updV_ne (by decide)]; exact e5⟩, by rw [gs_ne (by omega)]; exact c1, by rw [gs_ne (by omega)]; exact c2, fun a ha => by rw [gs_ne (by omega)]; exact c3 a ha, fun a ha => by rw [gs_ne (by omega)]; exact c4 a ha, fun a ha => by rw [gs_ne (by omega)]; exact c5 a ha, fun a ha => by rw [gs_ne (by omega)]; exact c6 a ha⟩
