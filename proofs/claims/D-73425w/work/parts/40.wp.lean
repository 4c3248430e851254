/-! RUNS: what a program of either world comes to -/
def wp {σ α : Type} (m : σ → Option (α × σ)) (Q : α → σ → Prop) (t : σ) : Prop := ∃ (a : α) (u : σ), m t = some (a, u) ∧ Q a u
/-- with cells made: at most C, of S slots -/
def wg {α : Type} (m : gM α) (C S : Nat) (Q : α → Hp → Prop) (t : Hp) : Prop := ∃ (a : α) (u : Hp) (c s : Nat), m t = some (a, u, c, s) ∧ c ≤ C ∧ s ≤ S ∧ Q a u
theorem wp.mono {σ α : Type} {m : σ → Option (α × σ)} {Q Q' : α → σ → Prop} {t : σ} (h : wp m Q t) (hq : ∀ a u, Q a u → Q' a u) : wp m Q' t := by
  obtain ⟨a, u, h1, h2⟩ := h
  exact ⟨a, u, h1, hq a u h2⟩
theorem wg.mono {α : Type} {m : gM α} {C S C' S' : Nat} {Q Q' : α → Hp → Prop} {t : Hp} (h : wg m C S Q t) (hc : C ≤ C') (hs : S ≤ S') (hq : ∀ a u, Q a u → Q' a u) : wg m C' S' Q' t := by
  obtain ⟨a, u, c, s, h1, h2, h3, h4⟩ := h
  exact ⟨a, u, c, s, h1, Nat.le_trans h2 hc, Nat.le_trans h3 hs, hq a u h4⟩
theorem wp_bd {σ α β : Type} {f : σ → Option (α × σ)} {k : α → σ → Option (β × σ)} {Q : β → σ → Prop} {t : σ} (h : wp f (fun a u => wp (k a) Q u) t) : wp (tw_bd f k) Q t := by
  obtain ⟨a, u, h1, b, v, h2, h3⟩ := h
  refine ⟨b, v, ?_, h3⟩
  unfold tw_bd
  rw [h1]
  exact h2
theorem wg_b0 {α β : Type} {f : HM α} {k : α → gM β} {C S : Nat} {Q : β → Hp → Prop} {t : Hp} (h : wp f (fun a u => wg (k a) C S Q u) t) : wg (gw_b0 f k) C S Q t := by
  obtain ⟨a, u, h1, b, v, c, s, h2, h3⟩ := h
  refine ⟨b, v, c, s, ?_, h3⟩
  unfold gw_b0
  rw [h1]
  exact h2
theorem wp_b0 {σ α β : Type} {f : σ → Option (α × σ)} {k : α → σ → Option (β × σ)} {Q : β → σ → Prop} {t : σ} (h : wp f (fun a u => wp (k a) Q u) t) : wp (gw_b0 f k) Q t := by
  obtain ⟨a, u, h1, b, v, h2, h3⟩ := h
  refine ⟨b, v, ?_, h3⟩
  unfold gw_b0
  rw [h1]
  exact h2
theorem wg_bc {α β : Type} {f : gM α} {k : α → gM β} (C1 S1 : Nat) {C S : Nat} {Q : β → Hp → Prop} {t : Hp} (hC : C1 ≤ C) (hS : S1 ≤ S) (h : wg f C1 S1 (fun a u => wg (k a) (C - C1) (S - S1) Q u) t) : wg (gw_bc f k) C S Q t := by
  obtain ⟨a, u, c, s, h1, h2, h3, b, v, c', s', h4, h5, h6, h7⟩ := h
  refine ⟨b, v, c + c', s + s', ?_, by omega, by omega, h7⟩
  unfold gw_bc
  rw [h1]
  dsimp only
  rw [h4]
theorem wp_rt {σ α : Type} {a : α} {Q : α → σ → Prop} {t : σ} (h : Q a t) : wp (tw_rt a) Q t := ⟨a, t, rfl, h⟩
theorem wg_rc {α : Type} {a : α} {C S : Nat} {Q : α → Hp → Prop} {t : Hp} (h : Q a t) : wg (gw_rc a) C S Q t := ⟨a, t, 0, 0, rfl, Nat.zero_le _, Nat.zero_le _, h⟩
theorem wp_if {σ α : Type} {c : Prop} [Decidable c] {f g : σ → Option (α × σ)} {Q : α → σ → Prop} {t : σ} (h1 : c → wp f Q t) (h2 : ¬ c → wp g Q t) : wp (if c then f else g) Q t := by
  by_cases hc : c
  · rw [if_pos hc]; exact h1 hc
  · rw [if_neg hc]; exact h2 hc
theorem wp_ifT {σ α : Type} {c : Prop} [Decidable c] {f g : σ → Option (α × σ)} {Q : α → σ → Prop} {t : σ} (hc : c) (h1 : wp f Q t) : wp (if c then f else g) Q t := by rw [if_pos hc]; exact h1
theorem wp_ifF {σ α : Type} {c : Prop} [Decidable c] {f g : σ → Option (α × σ)} {Q : α → σ → Prop} {t : σ} (hc : ¬ c) (h1 : wp g Q t) : wp (if c then f else g) Q t := by rw [if_neg hc]; exact h1
theorem wg_if {α : Type} {c : Prop} [Decidable c] {f g : gM α} {C S : Nat} {Q : α → Hp → Prop} {t : Hp} (h1 : c → wg f C S Q t) (h2 : ¬ c → wg g C S Q t) : wg (if c then f else g) C S Q t := by
  by_cases hc : c
  · rw [if_pos hc]; exact h1 hc
  · rw [if_neg hc]; exact h2 hc
theorem wg_ifT {α : Type} {c : Prop} [Decidable c] {f g : gM α} {C S : Nat} {Q : α → Hp → Prop} {t : Hp} (hc : c) (h1 : wg f C S Q t) : wg (if c then f else g) C S Q t := by rw [if_pos hc]; exact h1
theorem wg_ifF {α : Type} {c : Prop} [Decidable c] {f g : gM α} {C S : Nat} {Q : α → Hp → Prop} {t : Hp} (hc : ¬ c) (h1 : wg g C S Q t) : wg (if c then f else g) C S Q t := by rw [if_neg hc]; exact h1
theorem wp_rz {σ : Type} {x : Int32} {Q : Int32 → σ → Prop} {t : σ} (hx : x = 0 ∨ x = 1) (h : Q x t) : wp (tw_rz x) Q t := ⟨x, t, by unfold tw_rz; rw [if_pos hx], h⟩
theorem wg_rz {x : Int32} {C S : Nat} {Q : Int32 → Hp → Prop} {t : Hp} (hx : x = 0 ∨ x = 1) (h : Q x t) : wg (gw_rz x) C S Q t := ⟨x, t, 0, 0, by unfold gw_rz; rw [if_pos hx], Nat.zero_le _, Nat.zero_le _, h⟩
theorem wp_nz {σ : Type} {y : Int32} {Q : Unit → σ → Prop} {t : σ} (hy : ¬ y = 0) (h : Q () t) : wp (tw_nz y) Q t := ⟨(), t, by unfold tw_nz; rw [if_neg hy], h⟩
theorem wp_nl {σ : Type} {y : Int64} {Q : Unit → σ → Prop} {t : σ} (hy : ¬ y = 0) (h : Q () t) : wp (tw_nl y) Q t := ⟨(), t, by unfold tw_nl; rw [if_neg hy], h⟩
/-! loops: by a number that falls -/
theorem lp_run {κ ι : Type} {F : κ → κ} {z : κ} {G : κ → ι → Prop} (I : Nat → ι → Prop) (h : ∀ (k : Nat) (f : κ) (x : ι), I k x → (∀ (k' : Nat) (y : ι), k' < k → I k' y → G f y) → G (F f) x) : ∀ (fu k : Nat) (x : ι), k < fu → I k x → G (tw_lp F z fu) x := by
  intro fu
  induction fu with
  | zero => intro k x hk; exact absurd hk (Nat.not_lt_zero _)
  | succ n ih =>
    intro k x hk hI
    exact h k _ x hI (fun k' y hk' hy => ih k' y (by omega) hy)
theorem tw_fu_lt {k : Nat} (h : k < 1000000) : k < tw_fu := h
/-- a loop of one variable: for i = 0 .. n - 1 -/
theorem wp_for {σ α : Type} {F : (Int32 → σ → Option (α × σ)) → Int32 → σ → Option (α × σ)} {z : Int32 → σ → Option (α × σ)} {Q : α → σ → Prop} {t : σ} {v : Int32} (J : Nat → σ → Prop) (n : Nat) (hn : n < 1000000) (h0 : J 0 t) (hv : v = nI 0)
    (hs : ∀ (i : Nat) (f : Int32 → σ → Option (α × σ)) (t : σ), i < n → J i t → (∀ u, J (i + 1) u → wp (f (nI i + 1)) Q u) → wp (F f (nI i)) Q t) (he : ∀ (f : Int32 → σ → Option (α × σ)) (t : σ), J n t → wp (F f (nI n)) Q t) : wp (tw_lp F z tw_fu v) Q t := by
  rw [hv]
  refine lp_run (ι := Int32 × σ) (G := fun (f : Int32 → σ → Option (α × σ)) x => wp (f x.1) Q x.2) (fun k x => ∃ i, i + k = n ∧ x.1 = nI i ∧ J i x.2) (fun k f x hI hy => ?_) tw_fu n (nI 0, t) (tw_fu_lt hn) ⟨0, Nat.zero_add n, rfl, h0⟩
  obtain ⟨i, hi, hx, hJ⟩ := hI
  rw [hx]
  by_cases hc : i < n
  · exact hs i f x.2 hc hJ (fun u hu => by rw [nI_1]; exact hy (k - 1) (nI (i + 1), u) (by omega) ⟨i + 1, by omega, rfl, hu⟩)
  · have e : i = n := by omega
    subst e
    exact he f x.2 hJ
/-- .. of two, the one that counts in the second place / in the first -/
theorem wp_forB {σ α : Type} {F : (Int32 → Int32 → σ → Option (α × σ)) → Int32 → Int32 → σ → Option (α × σ)} {z : Int32 → Int32 → σ → Option (α × σ)} {Q : α → σ → Prop} {t : σ} {v w : Int32} (J : Nat → Int32 → σ → Prop) (n : Nat) (hn : n < 1000000) (h0 : J 0 w t) (hv : v = nI 0)
    (hs : ∀ (i : Nat) (f : Int32 → Int32 → σ → Option (α × σ)) (w : Int32) (t : σ), i < n → J i w t → (∀ w u, J (i + 1) w u → wp (f w (nI i + 1)) Q u) → wp (F f w (nI i)) Q t) (he : ∀ (f : Int32 → Int32 → σ → Option (α × σ)) (w : Int32) (t : σ), J n w t → wp (F f w (nI n)) Q t) : wp (tw_lp F z tw_fu w v) Q t := by
  rw [hv]
  refine lp_run (ι := Int32 × Int32 × σ) (G := fun (f : Int32 → Int32 → σ → Option (α × σ)) x => wp (f x.1 x.2.1) Q x.2.2) (fun k x => ∃ i, i + k = n ∧ x.2.1 = nI i ∧ J i x.1 x.2.2) (fun k f x hI hy => ?_) tw_fu n (w, nI 0, t) (tw_fu_lt hn) ⟨0, Nat.zero_add n, rfl, h0⟩
  obtain ⟨i, hi, hx, hJ⟩ := hI
  rw [hx]
  by_cases hc : i < n
  · exact hs i f x.1 x.2.2 hc hJ (fun w u hu => by rw [nI_1]; exact hy (k - 1) (w, nI (i + 1), u) (by omega) ⟨i + 1, by omega, rfl, hu⟩)
  · have e : i = n := by omega
    subst e
    exact he f x.1 x.2.2 hJ
theorem wp_forA {σ α : Type} {F : (Int32 → Int32 → σ → Option (α × σ)) → Int32 → Int32 → σ → Option (α × σ)} {z : Int32 → Int32 → σ → Option (α × σ)} {Q : α → σ → Prop} {t : σ} {v w : Int32} (J : Nat → Int32 → σ → Prop) (n : Nat) (hn : n < 1000000) (h0 : J 0 w t) (hv : v = nI 0)
    (hs : ∀ (i : Nat) (f : Int32 → Int32 → σ → Option (α × σ)) (w : Int32) (t : σ), i < n → J i w t → (∀ w u, J (i + 1) w u → wp (f (nI i + 1) w) Q u) → wp (F f (nI i) w) Q t) (he : ∀ (f : Int32 → Int32 → σ → Option (α × σ)) (w : Int32) (t : σ), J n w t → wp (F f (nI n) w) Q t) : wp (tw_lp F z tw_fu v w) Q t := by
  rw [hv]
  refine lp_run (ι := Int32 × Int32 × σ) (G := fun (f : Int32 → Int32 → σ → Option (α × σ)) x => wp (f x.1 x.2.1) Q x.2.2) (fun k x => ∃ i, i + k = n ∧ x.1 = nI i ∧ J i x.2.1 x.2.2) (fun k f x hI hy => ?_) tw_fu n (nI 0, w, t) (tw_fu_lt hn) ⟨0, Nat.zero_add n, rfl, h0⟩
  obtain ⟨i, hi, hx, hJ⟩ := hI
  rw [hx]
  by_cases hc : i < n
  · exact hs i f x.2.1 x.2.2 hc hJ (fun w u hu => by rw [nI_1]; exact hy (k - 1) (nI (i + 1), w, u) (by omega) ⟨i + 1, by omega, rfl, hu⟩)
  · have e : i = n := by omega
    subst e
    exact he f x.2.1 x.2.2 hJ
theorem wp_forC {σ α : Type} {F : (Int32 → Int32 → Int32 → σ → Option (α × σ)) → Int32 → Int32 → Int32 → σ → Option (α × σ)} {z : Int32 → Int32 → Int32 → σ → Option (α × σ)} {Q : α → σ → Prop} {t : σ} {v w x : Int32} (J : Nat → Int32 → Int32 → σ → Prop) (n : Nat) (hn : n < 1000000) (h0 : J 0 w x t) (hv : v = nI 0)
    (hs : ∀ (i : Nat) (f : Int32 → Int32 → Int32 → σ → Option (α × σ)) (w x : Int32) (t : σ), i < n → J i w x t → (∀ w x u, J (i + 1) w x u → wp (f w x (nI i + 1)) Q u) → wp (F f w x (nI i)) Q t) (he : ∀ (f : Int32 → Int32 → Int32 → σ → Option (α × σ)) (w x : Int32) (t : σ), J n w x t → wp (F f w x (nI n)) Q t) : wp (tw_lp F z tw_fu w x v) Q t := by
  rw [hv]
  refine lp_run (ι := Int32 × Int32 × Int32 × σ) (G := fun (f : Int32 → Int32 → Int32 → σ → Option (α × σ)) y => wp (f y.1 y.2.1 y.2.2.1) Q y.2.2.2) (fun k y => ∃ i, i + k = n ∧ y.2.2.1 = nI i ∧ J i y.1 y.2.1 y.2.2.2) (fun k f y hI hy => ?_) tw_fu n (w, x, nI 0, t) (tw_fu_lt hn) ⟨0, Nat.zero_add n, rfl, h0⟩
  obtain ⟨i, hi, hx, hJ⟩ := hI
  rw [hx]
  by_cases hc : i < n
  · exact hs i f y.1 y.2.1 y.2.2.2 hc hJ (fun w x u hu => by rw [nI_1]; exact hy (k - 1) (w, x, nI (i + 1), u) (by omega) ⟨i + 1, by omega, rfl, hu⟩)
  · have e : i = n := by omega
    subst e
    exact he f y.1 y.2.1 y.2.2.2 hJ
/-- by a number that falls: of no variable, of two -/
theorem wp_wh0 {σ α : Type} {F : (σ → Option (α × σ)) → σ → Option (α × σ)} {z : σ → Option (α × σ)} {Q : α → σ → Prop} {t : σ} (I : Nat → σ → Prop) (k : Nat) (hk : k < 1000000) (h0 : I k t)
    (hs : ∀ (k : Nat) (f : σ → Option (α × σ)) (t : σ), I k t → (∀ k' u, k' < k → I k' u → wp f Q u) → wp (F f) Q t) : wp (tw_lp F z tw_fu) Q t :=
  lp_run (ι := σ) (G := fun (f : σ → Option (α × σ)) x => wp f Q x) I (fun k f x hI hy => hs k f x hI hy) tw_fu k t (tw_fu_lt hk) h0
theorem wp_wh1 {σ α : Type} {F : (Int32 → σ → Option (α × σ)) → Int32 → σ → Option (α × σ)} {z : Int32 → σ → Option (α × σ)} {Q : α → σ → Prop} {t : σ} {v : Int32} (I : Nat → Int32 → σ → Prop) (k : Nat) (hk : k < 1000000) (h0 : I k v t)
    (hs : ∀ (k : Nat) (f : Int32 → σ → Option (α × σ)) (v : Int32) (t : σ), I k v t → (∀ k' v u, k' < k → I k' v u → wp (f v) Q u) → wp (F f v) Q t) : wp (tw_lp F z tw_fu v) Q t :=
  lp_run (ι := Int32 × σ) (G := fun (f : Int32 → σ → Option (α × σ)) x => wp (f x.1) Q x.2) (fun k x => I k x.1 x.2) (fun k f x hI hy => hs k f x.1 x.2 hI (fun k' v u h1 h2 => hy k' (v, u) h1 h2)) tw_fu k (v, t) (tw_fu_lt hk) h0
theorem wp_wh2 {σ α : Type} {F : (Int32 → Int32 → σ → Option (α × σ)) → Int32 → Int32 → σ → Option (α × σ)} {z : Int32 → Int32 → σ → Option (α × σ)} {Q : α → σ → Prop} {t : σ} {v w : Int32} (I : Nat → Int32 → Int32 → σ → Prop) (k : Nat) (hk : k < 1000000) (h0 : I k v w t)
    (hs : ∀ (k : Nat) (f : Int32 → Int32 → σ → Option (α × σ)) (v w : Int32) (t : σ), I k v w t → (∀ k' v w u, k' < k → I k' v w u → wp (f v w) Q u) → wp (F f v w) Q t) : wp (tw_lp F z tw_fu v w) Q t :=
  lp_run (ι := Int32 × Int32 × σ) (G := fun (f : Int32 → Int32 → σ → Option (α × σ)) x => wp (f x.1 x.2.1) Q x.2.2) (fun k x => I k x.1 x.2.1 x.2.2) (fun k f x hI hy => hs k f x.1 x.2.1 x.2.2 hI (fun k' v w u h1 h2 => hy k' (v, w, u) h1 h2)) tw_fu k (v, w, t) (tw_fu_lt hk) h0
theorem lp_un {κ : Type} (F : κ → κ) (z : κ) (n : Nat) : tw_lp F z (n + 1) = F (tw_lp F z n) := rfl
/-- .. that makes cells: at most C of S slots a turn, and C0, S0 behind it -/
theorem wg_for {α : Type} {F : (Int32 → gM α) → Int32 → gM α} {z : Int32 → gM α} {Q : α → Hp → Prop} {t : Hp} {v : Int32} (C S C0 S0 : Nat) (J : Nat → Hp → Prop) (n : Nat) (hn : n < 1000000) (h0 : J 0 t) (hv : v = nI 0)
    (hs : ∀ (i : Nat) (f : Int32 → gM α) (t : Hp) (X Y : Nat), i < n → J i t → (∀ u, J (i + 1) u → wg (f (nI i + 1)) X Y Q u) → wg (F f (nI i)) (C + X) (S + Y) Q t) (he : ∀ (f : Int32 → gM α) (t : Hp), J n t → wg (F f (nI n)) C0 S0 Q t) : wg (tw_lp F z tw_fu v) (n * C + C0) (n * S + S0) Q t := by
  rw [hv]
  refine lp_run (ι := Int32 × Hp × Nat) (G := fun (f : Int32 → gM α) x => wg (f x.1) (x.2.2 * C + C0) (x.2.2 * S + S0) Q x.2.1) (fun k x => k = x.2.2 ∧ ∃ i, i + k = n ∧ x.1 = nI i ∧ J i x.2.1) (fun k f x hI hy => ?_) tw_fu n (nI 0, t, n) (tw_fu_lt hn) ⟨rfl, 0, Nat.zero_add n, rfl, h0⟩
  obtain ⟨hk, i, hi, hx, hJ⟩ := hI
  rw [hx, ← hk]
  by_cases hc : i < n
  · obtain ⟨j, rfl⟩ : ∃ j, k = j + 1 := ⟨k - 1, by omega⟩
    have e1 : (j + 1) * C + C0 = C + (j * C + C0) := by rw [Nat.succ_mul]; omega
    have e2 : (j + 1) * S + S0 = S + (j * S + S0) := by rw [Nat.succ_mul]; omega
    rw [e1, e2]
    exact hs i f x.2.1 _ _ hc hJ (fun u hu => by rw [nI_1]; exact hy j (nI (i + 1), u, j) (by omega) ⟨rfl, i + 1, by omega, rfl, hu⟩)
  · have e : i = n := by omega
    subst e
    have e : k = 0 := by omega
    subst e
    have h := he f x.2.1 hJ
    rw [Nat.zero_mul, Nat.zero_mul, Nat.zero_add, Nat.zero_add]
    exact h
