theorem gw_rzE {x r : Int32} {t u : Hp} {C S C0 S0 c s : Nat} (h : gw_rz x t = some (r, u, C, S)) (hk : c + C = C0) (hn : s + S = S0) : (x = 0 ∨ x = 1) ∧ x = r ∧ t = u ∧ c = C0 ∧ s = S0 := by
  unfold gw_rz at h
  split at h
  · next hx => cases h; exact ⟨hx, rfl, rfl, hk, hn⟩
  · cases h
theorem tw_rzE {σ : Type} {x r : Int32} {t u : σ} (h : tw_rz x t = some (r, u)) : (x = 0 ∨ x = 1) ∧ x = r ∧ t = u := by
  unfold tw_rz at h
  split at h
  · next hx => cases h; exact ⟨hx, rfl, rfl⟩
  · cases h
