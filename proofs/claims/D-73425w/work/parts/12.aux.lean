theorem tw_no {α : Type} {r : α} (h : (none : Option α) = some r) : False := by cases h
/-- a switch's default: none of 0 .. hi -/
theorem tw_swo {x : Int32} (hi : Nat) (h : ∀ i : Nat, i < hi + 1 → ¬ x = nI i) (hb : hi < 2 ^ 30 := by decide) : x.toInt < 0 ∨ (hi : Int) < x.toInt := by
  refine Decidable.byContradiction fun hn => ?_
  refine h x.toInt.toNat (by omega) ?_
  apply Int32.toInt_inj.mp
  rw [nI_toInt (by omega)]
  omega
