/-! THE COMPONENT: a new state's block -/
theorem w_pr {h : Hp} {a ci k y : Nat} {F : Nat → Value} {P : Unit → Hp → Prop} (h1 : h.1 a = some (.inr (ci, F))) (hq : P () (gw_set h a (.inr (ci, updV F k (.ref y))))) : wp (gw_pr ci k a y) P h := w_pv h1 hq
def SI (b i j : Nat) (h0 h : Hp) : Prop :=
  h.2 = b + 3 + 2 * i + 2 * j ∧ (∀ a, a < b → h.1 a = h0.1 a) ∧
  (∃ F, h.1 b = some (.inr (2, F)) ∧ F 2 = .ref (b + 1) ∧ F 3 = .ref (b + 2)) ∧
  (∃ g, h.1 (b + 1) = some (.inl (6, 10, .inr (.inr (.inr (.inr g))))) ∧ ∀ l, l < i → g l = some (b + 3 + 2 * l)) ∧
  (∃ g, h.1 (b + 2) = some (.inl (7, 8, .inr (.inr (.inr (.inr g))))) ∧ ∀ f, f < j → g f = some (b + 23 + 2 * f)) ∧
  (∀ l, l < i → ∃ F, h.1 (b + 3 + 2 * l) = some (.inr (3, F)) ∧ F 0 = .ref (b + 4 + 2 * l)) ∧
  (∀ l, l < i → ∃ g, h.1 (b + 4 + 2 * l) = some (.inl (0, 8, .inl g))) ∧
  (∀ f, f < j → ∃ F, h.1 (b + 23 + 2 * f) = some (.inr (4, F)) ∧ F 10 = .ref (b + 24 + 2 * f) ∧ ∃ x, F 9 = .int x) ∧
  (∀ f, f < j → ∃ g, h.1 (b + 24 + 2 * f) = some (.inl (0, 2, .inl g)))
theorem SI.sb {b : Nat} {h0 h : Hp} (H : SI b 10 8 h0 h) : SB b h := by
  obtain ⟨c0, c1, c2, c3, c4, c5, c6, c7, c8⟩ := H
  refine ⟨c2, c3, c4, fun l hl => ?_, fun l hl => ?_, fun f hf => ?_, fun f hf => ?_⟩
  · obtain ⟨F, q1, q2⟩ := c5 l hl
    exact ⟨F, q1, q2, fun q => absurd q (Nat.not_lt_zero _)⟩
  · obtain ⟨g, q1⟩ := c6 l hl
    exact ⟨g, q1, fun q => absurd q (Nat.not_lt_zero _)⟩
  · obtain ⟨F, q1, q2, q3⟩ := c7 f hf
    exact ⟨F, q1, q2, q3, fun q => absurd q (Nat.not_lt_zero _)⟩
  · obtain ⟨g, q1⟩ := c8 f hf
    exact ⟨g, q1, fun q => absurd q (Nat.not_lt_zero _)⟩
theorem SI.end {b i : Nat} {h0 h : Hp} {C S : Nat} {k : gM Unit} {V : Unit → Hp → Prop} (H : SI b i 0 h0 h) (hi : i < 10) (kk : ∀ u, SI b (i + 1) 0 h0 u → wg k C S V u) : wg (gw_b0 (gw_gr 2 2 b) fun x27 => gw_bc (gw_nw 3 12 tyX4) fun x30 => gw_bc (fx_X4_init x30) fun _ => gw_b0 (gw_sr 6 3 x27 (nI i) x30) fun _ => k) (2 + C) (20 + S) V h := by
  obtain ⟨c0, c1, ⟨F, f1, f2, f3⟩, ⟨g, g1, g2⟩, ⟨g', c4, c4'⟩, c5, c6, c7, c8⟩ := H
  have e0 : h.2 = b + 3 + 2 * i := by omega
  refine wg_b0 (w_gr f1 f2 ?_)
  refine wg_bc 1 12 (by omega) (by omega) (g_nw (by decide) (by decide) ?_)
  refine wg_bc 1 8 (by omega) (by omega) ?_
  unfold fx_X4_init
  refine wg_bc 1 8 (by decide) (by decide) (g_na (n := 8) rfl (by decide) (by decide) (by decide) ?_)
  generalize hv1 : gw_push h (.inr (3, fun j => defaultValue (tyX4 j))) = v1
  have n1 : v1.2 = b + 4 + 2 * i := by rw [← hv1]; show h.2 + 1 = _; omega
  have k1 : v1.1 (b + 3 + 2 * i) = some (.inr (3, fun j => defaultValue (tyX4 j))) := by rw [← hv1, ← e0]; exact gp_eq
  have m1 : ∀ a, a < b + 3 + 2 * i → v1.1 a = h.1 a := fun a ha => by rw [← hv1]; exact gp_ne (by omega)
  rw [e0, n1]
  generalize hv2 : gw_push v1 (.inl (0, 8, .inl fun _ => 0)) = v2
  have n2 : v2.2 = b + 5 + 2 * i := by rw [← hv2]; show v1.2 + 1 = _; omega
  have k2 : v2.1 (b + 4 + 2 * i) = some (.inl (0, 8, .inl fun _ => 0)) := by rw [← hv2, ← n1]; exact gp_eq
  have m2 : ∀ a, a < b + 4 + 2 * i → v2.1 a = v1.1 a := fun a ha => by rw [← hv2]; exact gp_ne (by omega)
  refine wg_b0 (w_pr ((m2 _ (by omega)).trans k1) (wg_rc ?_))
  generalize hv3 : gw_set v2 (b + 3 + 2 * i) (.inr (3, updV (fun j => defaultValue (tyX4 j)) 0 (.ref (b + 4 + 2 * i)))) = v3
  have n3 : v3.2 = b + 5 + 2 * i := by rw [← hv3]; exact n2
  have k3 : v3.1 (b + 3 + 2 * i) = some (.inr (3, updV (fun j => defaultValue (tyX4 j)) 0 (.ref (b + 4 + 2 * i)))) := by rw [← hv3]; exact gs_eq
  have m3 : ∀ a, a ≠ b + 3 + 2 * i → v3.1 a = v2.1 a := fun a ha => by rw [← hv3]; exact gs_ne ha
  have lo : ∀ a, a < b + 3 + 2 * i → v3.1 a = h.1 a := fun a ha => by rw [m3 _ (by omega), m2 _ (by omega), m1 _ ha]
  refine wg_b0 (w_sr ((lo _ (by omega)).trans g1) k3 rfl hi (by decide) ?_)
  refine (kk _ ?_).mono (by omega) (by omega) fun a u q => q
  refine ⟨by show v3.2 = _; omega, fun a ha => by rw [gs_ne (by omega), lo _ (by omega), c1 a ha], ⟨F, by rw [gs_ne (by omega), lo _ (by omega)]; exact f1, f2, f3⟩, ⟨_, gs_eq, fun l hl => ?_⟩, ⟨g', by rw [gs_ne (by omega), lo _ (by omega)]; exact c4, c4'⟩, fun l hl => ?_, fun l hl => ?_, fun f hf => absurd hf (Nat.not_lt_zero _), fun f hf => absurd hf (Nat.not_lt_zero _)⟩
  · unfold va_up
    by_cases e : l = i
    · rw [if_pos e, e]
    · rw [if_neg e]
      exact g2 l (by omega)
  · by_cases e : l = i
    · subst e
      exact ⟨_, by rw [gs_ne (by omega)]; exact k3, updV_eq⟩
    · rw [gs_ne (by omega), lo _ (by omega)]
      exact c5 l (by omega)
  · by_cases e : l = i
    · subst e
      exact ⟨_, by rw [gs_ne (by omega), m3 _ (by omega)]; exact k2⟩
    · rw [gs_ne (by omega), lo _ (by omega)]
      exact c6 l (by omega)
theorem SI.snd {b i : Nat} {h0 h : Hp} {C S : Nat} {k : gM Unit} {V : Unit → Hp → Prop} (H : SI b 10 i h0 h) (hi : i < 8) (kk : ∀ u, SI b 10 (i + 1) h0 u → wg k C S V u) : wg (gw_b0 (gw_gr 2 3 b) fun x15 => gw_bc (gw_nw 4 12 tyX5) fun x18 => gw_bc (fx_X5_init x18) fun _ => gw_b0 (gw_sr 7 4 x15 (nI i) x18) fun _ => k) (2 + C) (14 + S) V h := by
  obtain ⟨c0, c1, ⟨F, f1, f2, f3⟩, ⟨g', c4, c4'⟩, ⟨g, g1, g2⟩, c5, c6, c7, c8⟩ := H
  have e0 : h.2 = b + 23 + 2 * i := by omega
  refine wg_b0 (w_gr f1 f3 ?_)
  refine wg_bc 1 12 (by omega) (by omega) (g_nw (by decide) (by decide) ?_)
  refine wg_bc 1 2 (by omega) (by omega) ?_
  unfold fx_X5_init
  refine wg_bc 1 2 (by decide) (by decide) (g_na (n := 2) rfl (by decide) (by decide) (by decide) ?_)
  generalize hv1 : gw_push h (.inr (4, fun j => defaultValue (tyX5 j))) = v1
  have n1 : v1.2 = b + 24 + 2 * i := by rw [← hv1]; show h.2 + 1 = _; omega
  have k1 : v1.1 (b + 23 + 2 * i) = some (.inr (4, fun j => defaultValue (tyX5 j))) := by rw [← hv1, ← e0]; exact gp_eq
  have m1 : ∀ a, a < b + 23 + 2 * i → v1.1 a = h.1 a := fun a ha => by rw [← hv1]; exact gp_ne (by omega)
  rw [e0, n1]
  generalize hv2 : gw_push v1 (.inl (0, 2, .inl fun _ => 0)) = v2
  have n2 : v2.2 = b + 25 + 2 * i := by rw [← hv2]; show v1.2 + 1 = _; omega
  have k2 : v2.1 (b + 24 + 2 * i) = some (.inl (0, 2, .inl fun _ => 0)) := by rw [← hv2, ← n1]; exact gp_eq
  have m2 : ∀ a, a < b + 24 + 2 * i → v2.1 a = v1.1 a := fun a ha => by rw [← hv2]; exact gp_ne (by omega)
  refine wg_b0 (w_pr ((m2 _ (by omega)).trans k1) (wg_rc ?_))
  generalize hv3 : gw_set v2 (b + 23 + 2 * i) (.inr (4, updV (fun j => defaultValue (tyX5 j)) 10 (.ref (b + 24 + 2 * i)))) = v3
  have n3 : v3.2 = b + 25 + 2 * i := by rw [← hv3]; exact n2
  have k3 : v3.1 (b + 23 + 2 * i) = some (.inr (4, updV (fun j => defaultValue (tyX5 j)) 10 (.ref (b + 24 + 2 * i)))) := by rw [← hv3]; exact gs_eq
  have m3 : ∀ a, a ≠ b + 23 + 2 * i → v3.1 a = v2.1 a := fun a ha => by rw [← hv3]; exact gs_ne ha
  have lo : ∀ a, a < b + 23 + 2 * i → v3.1 a = h.1 a := fun a ha => by rw [m3 _ (by omega), m2 _ (by omega), m1 _ ha]
  refine wg_b0 (w_sr ((lo _ (by omega)).trans g1) k3 rfl hi (by decide) ?_)
  refine (kk _ ?_).mono (by omega) (by omega) fun a u q => q
  refine ⟨by show v3.2 = _; omega, fun a ha => by rw [gs_ne (by omega), lo _ (by omega), c1 a ha], ⟨F, by rw [gs_ne (by omega), lo _ (by omega)]; exact f1, f2, f3⟩, ⟨g', by rw [gs_ne (by omega), lo _ (by omega)]; exact c4, c4'⟩, ⟨_, gs_eq, fun l hl => ?_⟩, fun l hl => ?_, fun l hl => ?_, fun l hl => ?_, fun l hl => ?_⟩
  · unfold va_up
    by_cases e : l = i
    · rw [if_pos e, e]
    · rw [if_neg e]
      exact g2 l (by omega)
  · rw [gs_ne (by omega), lo _ (by omega)]
    exact c5 l hl
  · rw [gs_ne (by omega), lo _ (by omega)]
    exact c6 l hl
  · by_cases e : l = i
    · subst e
      exact ⟨_, by rw [gs_ne (by omega)]; exact k3, updV_eq, 0, by rw [updV_ne (by decide)]; rfl⟩
    · rw [gs_ne (by omega), lo _ (by omega)]
      exact c7 l (by omega)
  · by_cases e : l = i
    · subst e
      exact ⟨_, by rw [gs_ne (by omega), m3 _ (by omega)]; exact k2⟩
    · rw [gs_ne (by omega), lo _ (by omega)]
      exact c8 l (by omega)
theorem st_init {b : Nat} {F : Nat → Value} {h : Hp} {V : Unit → Hp → Prop} (h1 : h.1 b = some (.inr (2, F))) (h2 : h.2 = b + 1) (kk : ∀ u : Hp, SB b u → u.2 = b + 39 → (∀ a, a < b → u.1 a = h.1 a) → V () u) : wg (fx_X3_init b) 38 330 V h := by
  unfold fx_X3_init
  refine wg_bc 1 10 (by decide) (by decide) (g_nq (n := 10) rfl (by decide) (by decide) (by decide) ?_)
  rw [h2]
  generalize hv1 : gw_push h (.inl (6, 10, .inr (.inr (.inr (.inr fun _ => none))))) = v1
  have n1 : v1.2 = b + 2 := by rw [← hv1]; show h.2 + 1 = _; omega
  have k1 : v1.1 (b + 1) = some (.inl (6, 10, .inr (.inr (.inr (.inr fun _ => none))))) := by rw [← hv1, ← h2]; exact gp_eq
  have m1 : ∀ a, a < b + 1 → v1.1 a = h.1 a := fun a ha => by rw [← hv1]; exact gp_ne (by omega)
  refine wg_b0 (w_pr ((m1 _ (by omega)).trans h1) ?_)
  generalize hv2 : gw_set v1 b (.inr (2, updV F 2 (.ref (b + 1)))) = v2
  have n2 : v2.2 = b + 2 := by rw [← hv2]; exact n1
  have k2 : v2.1 b = some (.inr (2, updV F 2 (.ref (b + 1)))) := by rw [← hv2]; exact gs_eq
  have m2 : ∀ a, a ≠ b → v2.1 a = v1.1 a := fun a ha => by rw [← hv2]; exact gs_ne ha
  refine wg_bc 1 8 (by decide) (by decide) (g_nq (n := 8) rfl (by decide) (by decide) (by decide) ?_)
  rw [n2]
  generalize hv3 : gw_push v2 (.inl (7, 8, .inr (.inr (.inr (.inr fun _ => none))))) = v3
  have n3 : v3.2 = b + 3 := by rw [← hv3]; show v2.2 + 1 = _; omega
  have k3 : v3.1 (b + 2) = some (.inl (7, 8, .inr (.inr (.inr (.inr fun _ => none))))) := by rw [← hv3, ← n2]; exact gp_eq
  have m3 : ∀ a, a < b + 2 → v3.1 a = v2.1 a := fun a ha => by rw [← hv3]; exact gp_ne (by omega)
  refine wg_b0 (w_pr ((m3 _ (by omega)).trans k2) ?_)
  have st : SI b 0 0 h (gw_set v3 b (.inr (2, updV (updV F 2 (.ref (b + 1))) 3 (.ref (b + 2))))) :=
    ⟨n3, fun a ha => by rw [gs_ne (by omega), m3 _ (by omega), m2 _ (by omega), m1 _ (by omega)], ⟨_, gs_eq, by rw [updV_ne (by decide), updV_eq], updV_eq⟩, ⟨_, by rw [gs_ne (by omega), m3 _ (by omega), m2 _ (by omega)]; exact k1, fun l hl => absurd hl (Nat.not_lt_zero _)⟩, ⟨_, by rw [gs_ne (by omega)]; exact k3, fun l hl => absurd hl (Nat.not_lt_zero _)⟩, fun l hl => absurd hl (Nat.not_lt_zero _), fun l hl => absurd hl (Nat.not_lt_zero _), fun l hl => absurd hl (Nat.not_lt_zero _), fun l hl => absurd hl (Nat.not_lt_zero _)⟩
  generalize gw_set v3 b (.inr (2, updV (updV F 2 (.ref (b + 1))) 3 (.ref (b + 2)))) = v at st
  refine (wg_for 2 20 (8 * 2 + 0) (8 * 14 + 0) (J := fun i u => SI b i 0 h u) 10 (by decide) st rfl ?_ ?_).mono (by decide) (by decide) fun a u q => q
  · rintro i f u X Y hi H hk
    rw [fx_X3_init_L24]
    exact wg_ifF (nI_ge (b := 10) hi (by decide)) (H.end hi hk)
  · rintro f u H
    rw [fx_X3_init_L24]
    refine wg_ifT (Int32.le_refl _) ?_
    refine wg_for 2 14 0 0 (J := fun i u => SI b 10 i h u) 8 (by decide) H rfl ?_ ?_
    · rintro i f u X Y hi H hk
      rw [fx_X3_init_L51]
      exact wg_ifF (nI_ge (b := 8) hi (by decide)) (H.snd hi hk)
    · rintro f u H
      rw [fx_X3_init_L51]
      exact wg_ifT (Int32.le_refl _) (wg_rc (kk u H.sb (by have := H.1; omega) H.2.1))
