/-! THE COMPONENT: its whole state. o: the object, q5: the lambda that is one for all; tb, la, fa: the net; ka rows laid by for acts, at kb -/
def co_z (o ka : Nat) (kb : Nat → Nat) (h : Hp) (a : Nat) : Prop := a < h.2 ∧ (o + 2 ≤ a ∧ a ≤ o + 4 ∨ o + 128 ≤ a) ∧ ∀ i, i < ka → ¬ (kb i ≤ a ∧ a < kb i + 39)
/-- the object's own cells -/
def CoR (o q5 tb : Nat) (U : (Nat → Nat) × Nat × Int32 × Int32) (p : Nat) (i : Bool) (h : Hp) : Prop :=
  (∃ F, h.1 o = some (.inr (0, F)) ∧ md_rf o tb F ∧ F 1 = .int (nI U.2.1) ∧ F 2 = .int U.2.2.1 ∧ F 3 = .int U.2.2.2 ∧ (∃ x, F 9 = .int x) ∧ F 15 = .int (nI p) ∧ F 16 = .int (md_bi i) ∧ ∃ y, F 17 = .long y) ∧
  (∃ g, h.1 (o + 1) = some (.inl (3, 700, .inl g)) ∧ ∀ k, k < 700 → g k &&& 255 = nI (U.1 k)) ∧
  (∃ rd gv co, h.1 (o + 5) = some (.inl (0, 80, .inl rd)) ∧ h.1 (o + 6) = some (.inl (0, 80, .inl gv)) ∧ h.1 (o + 7) = some (.inl (0, 80, .inl co))) ∧
  (∃ g, h.1 (o + 8) = some (.inl (9, 10, .inr (.inr (.inr (.inr g)))))) ∧ (∃ F, h.1 (o + 9) = some (.inr (100, F)) ∧ F 0 = .ref o) ∧ (q5 < o ∧ ∃ F, h.1 q5 = some (.inr (105, F))) ∧ o + 128 ≤ h.2
def CoK (o ka : Nat) (kb : Nat → Nat) (h : Hp) : Prop :=
  (∃ g, h.1 (o + 127) = some (.inl (8, 20, .inr (.inr (.inr (.inr g))))) ∧ (∀ i, i < ka → g i = some (kb i)) ∧ ∀ i, ka ≤ i → i < 20 → g i = none) ∧ ka ≤ 20 ∧
  (∀ i, i < ka → SB (kb i) h ∧ o + 128 ≤ kb i ∧ kb i + 39 ≤ h.2) ∧ ∀ i j, i < ka → j < ka → i ≠ j → kb i + 39 ≤ kb j ∨ kb j + 39 ≤ kb i
def CoD (o q5 : Nat) (U : (Nat → Nat) × Nat × Int32 × Int32) (N : Nt) (R : Rw) (P : Nat × (Nat → Rw)) (I : Bool × Rw) (tb : Nat) (la fa : Nat → Nat) (ka : Nat) (kb : Nat → Nat) (h : Hp) : Prop :=
  md_ok N ∧ CoR o q5 tb U P.1 I.1 h ∧ CN N tb la fa h ∧ md_nz N tb la fa (co_z o ka kb h) ∧ CQ (o + 10) tb N R h ∧ SB (o + 49) h ∧ SB (o + 88) h ∧ (I.1 = true → CQ (o + 49) tb N I.2 h) ∧ CoK o ka kb h ∧ P.1 ≤ ka ∧ ∀ i, i < P.1 → CQ (kb i) tb N (P.2 i) h
def CoA (o q5 : Nat) (U : (Nat → Nat) × Nat × Int32 × Int32) (N : Nt) (R : Rw) (P : Nat × (Nat → Rw)) (I : Bool × Rw) (h : Hp) : Prop := ∃ tb la fa ka kb, CoD o q5 U N R P I tb la fa ka kb h
section Co
variable {o q5 : Nat} {U : (Nat → Nat) × Nat × Int32 × Int32} {N : Nt} {R X : Rw} {P : Nat × (Nat → Rw)} {I : Bool × Rw} {tb : Nat} {la fa : Nat → Nat} {ka : Nat} {kb : Nat → Nat} {h u : Hp} {Q : Int32 → Hp → Prop} {V : Unit → Hp → Prop} {m : Nat}
/-- the world of a tick on the block at b -/
theorem CoD.tk {b : Nat} (H : CoD o q5 U N R P I tb la fa ka kb h) (hb : b = o + 10 ∨ b = o + 88) (HQ : CQ b tb N X h) : ∃ F0 R0 rd gv co ns, md_eqv X R0 ∧ TK o N tb la fa b F0 h R0 rd gv co ns h ∧ h.1 o = some (.inr (0, F0)) := by
  obtain ⟨hN, ⟨⟨F, r1, r2, r3, r4, r5, r6, r7, r8, r9⟩, r10, ⟨rd, gv, co, a1, a2, a3⟩, ⟨g, a4⟩, a5, a6, a7⟩, hn, hz, h1, h2, h3, h4, hk, hk2, hk3⟩ := H
  obtain ⟨R0, e1, e2⟩ := HQ.cb
  refine ⟨F, R0, rd, gv, co, (77, fun _ => (0, 0)), e1, ⟨⟨hN, hn, ?_, r2, a5, by omega, by omega⟩, e2, ⟨Nat.le_refl _, fun _ _ => rfl⟩, ⟨F, r1, fun q => absurd rfl q, fun _ _ => rfl⟩, ⟨a1, a2, a3⟩, g, a4, fun k _ q => absurd rfl q⟩, r1⟩
  obtain ⟨z0, z1, z2, z3, z4⟩ := hz
  have cv : ∀ a, co_z o ka kb h a → md_al o b h a := fun a q => ⟨q.1, by have := q.2.1; omega, by have := q.2.1; omega, by have := q.2.1; omega⟩
  exact ⟨cv _ z0, cv _ z1, cv _ z2, fun l hl => cv _ (z3 l hl), fun f hf => ⟨cv _ (z4 f hf).1, cv _ (z4 f hf).2⟩⟩
/-- what a heap keeps that differs in the block at b, the tick's own cells and new ones alone -/
theorem CoD.back {b : Nat} {F0 : Nat → Value} {R0 : Rw} {rd gv co : Nat → Int32} {ns : Ns} (H : CoD o q5 U N R P I tb la fa ka kb h) (hb : b = o + 10 ∨ b = o + 88) (HT : TK o N tb la fa b F0 h X rd gv co ns u) (h0 : h.1 o = some (.inr (0, F0))) (h9 : ∃ x, ∀ F, u.1 o = some (.inr (0, F)) → F 9 = .int x) : (b = o + 10 → CoD o q5 U N X P I tb la fa ka kb u) ∧ (b = o + 88 → CoD o q5 U N R P I tb la fa ka kb u ∧ CQ (o + 88) tb N X u) := by
  obtain ⟨hN, ⟨⟨F, r1, r2, r3, r4, r5, r6, r7, r8, r9⟩, ⟨tg, t1, t2⟩, ar, ⟨ng, a4⟩, ⟨cF, c1, c2⟩, ⟨q51, qF, q52⟩, a7⟩, hn, hz, h1, h2, h3, h4, ⟨⟨kg, k1, k2, k3⟩, k4, k5, k6⟩, hk2, hk3⟩ := H
  have HQ := HT.2.1.cq
  obtain ⟨hCS, hCB, ⟨⟨f1, f2⟩, ⟨F', g1, g2, g3⟩, g4, ng', g5, g6⟩⟩ := HT
  rw [r1] at h0
  obtain rfl : F = F0 := by cases h0; rfl
  obtain ⟨x9, h9⟩ := h9
  have far : ∀ a, a < h.2 → a ≠ o → ¬ (o + 5 ≤ a ∧ a ≤ o + 8) → ¬ (b ≤ a ∧ a < b + 39) → u.1 a = h.1 a := fun a q1 q2 q3 q4 => f2 a ⟨q1, q2, q3, q4⟩
  have blk : ∀ c, o + 10 ≤ c → c + 39 ≤ h.2 → (c + 39 ≤ b ∨ b + 39 ≤ c) → ∀ a, c ≤ a → a < c + 39 → u.1 a = h.1 a := fun c q1 q2 q3 a q4 q5 => far a (by omega) (by omega) (by omega) (by omega)
  have root : CoR o q5 tb U P.1 I.1 u := by
    refine ⟨⟨F', g1, ?_, by rw [g3 1 (by decide)]; exact r3, by rw [g3 2 (by decide)]; exact r4, by rw [g3 3 (by decide)]; exact r5, ⟨x9, h9 F' g1⟩, by rw [g3 15 (by decide)]; exact r7, by rw [g3 16 (by decide)]; exact r8, by rw [g3 17 (by decide)]; exact r9⟩, ⟨tg, by rw [far _ (by omega) (by omega) (by omega) (by omega)]; exact t1, t2⟩, ⟨rd, gv, co, g4⟩, ⟨ng', g5⟩, ⟨cF, by rw [far _ (by omega) (by omega) (by omega) (by omega)]; exact c1, c2⟩, ⟨q51, qF, by rw [far _ (by omega) (by omega) (by omega) (by omega)]; exact q52⟩, by omega⟩
    obtain ⟨m0, m4, m5, m6, m7, m8, m10, m11, m12, m13, m14⟩ := r2
    exact ⟨by rw [g3 0 (by decide)]; exact m0, by rw [g3 4 (by decide)]; exact m4, by rw [g3 5 (by decide)]; exact m5, by rw [g3 6 (by decide)]; exact m6, by rw [g3 7 (by decide)]; exact m7, by rw [g3 8 (by decide)]; exact m8, by rw [g3 10 (by decide)]; exact m10, by rw [g3 11 (by decide)]; exact m11, by rw [g3 12 (by decide)]; exact m12, by rw [g3 13 (by decide)]; exact m13, by rw [g3 14 (by decide)]; exact m14⟩
  have net : CN N tb la fa u := hn.kept hz fun a q => far a q.1 (by have := q.2.1; omega) (by have := q.2.1; omega) (by have := q.2.1; omega)
  have zon : md_nz N tb la fa (co_z o ka kb u) := by
    obtain ⟨z0, z1, z2, z3, z4⟩ := hz
    have cv : ∀ a, co_z o ka kb h a → co_z o ka kb u a := fun a q => ⟨by have := q.1; omega, q.2⟩
    exact ⟨cv _ z0, cv _ z1, cv _ z2, fun l hl => cv _ (z3 l hl), fun f hf => ⟨cv _ (z4 f hf).1, cv _ (z4 f hf).2⟩⟩
  have img : SB (o + 49) u ∧ (I.1 = true → CQ (o + 49) tb N I.2 u) := ⟨CG.kept h2 (blk _ (by omega) (by omega) (by omega)), fun q => (h4 q).kept (blk _ (by omega) (by omega) (by omega))⟩
  have kpt : CoK o ka kb u := ⟨⟨kg, by rw [far _ (by omega) (by omega) (by omega) (by omega)]; exact k1, k2, k3⟩, k4, fun i hi => by
    obtain ⟨q1, q2, q3⟩ := k5 i hi
    exact ⟨CG.kept q1 (blk _ (by omega) (by omega) (by omega)), q2, by omega⟩, k6⟩
  have pst : ∀ i, i < P.1 → CQ (kb i) tb N (P.2 i) u := fun i hi => by
    obtain ⟨q1, q2, q3⟩ := k5 i (by omega)
    exact (hk3 i hi).kept (blk _ (by omega) (by omega) (by omega))
  refine ⟨fun e => ?_, fun e => ?_⟩
  · subst e
    exact ⟨hN, root, net, zon, HQ, img.1, CG.kept h3 (blk _ (by omega) (by omega) (by omega)), img.2, kpt, hk2, pst⟩
  · subst e
    exact ⟨⟨hN, root, net, zon, h1.kept (blk _ (by omega) (by omega) (by omega)), img.1, HQ.1.sb, img.2, kpt, hk2, pst⟩, HQ⟩
end Co
