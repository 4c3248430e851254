/-! THE COMPONENT's TICK: its world. o: the object; b: the state's block; tb: what is told, with the links at la, the flows at fa; h0: the heap as it was -/
/-- the net lies there -/
def CN (N : Nt) (tb : Nat) (la fa : Nat → Nat) (h : Hp) : Prop :=
  (∃ F, h.1 tb = some (.inr (1, F)) ∧ F 0 = .ref (tb + 1) ∧ F 1 = .ref (tb + 2) ∧ ∀ k, k < 9 → F (k + 2) = .int (nI (N.1 k))) ∧
  (∃ g, h.1 (tb + 1) = some (.inl (4, 10, .inr (.inr (.inr (.inr g))))) ∧ ∀ l, l < md_nl N → g l = some (la l)) ∧
  (∃ g, h.1 (tb + 2) = some (.inl (5, 8, .inr (.inr (.inr (.inr g))))) ∧ ∀ f, f < md_nf N → g f = some (fa f)) ∧
  (∀ l, l < md_nl N → ∃ F, h.1 (la l) = some (.inr (8, F)) ∧ ∀ k, k < 6 → F k = .int (nI (N.2.1 l k))) ∧
  (∀ f, f < md_nf N → (∃ F, h.1 (fa f) = some (.inr (9, F)) ∧ F 0 = .int (nI (N.2.2.1 f 0)) ∧ F 1 = .int (nI (N.2.2.1 f 1)) ∧ F 2 = .ref (fa f + 1) ∧ F 3 = .int (nI (md_ho N f)) ∧ F 4 = .int (nI (N.2.2.1 f 2))) ∧ ∃ g, h.1 (fa f + 1) = some (.inl (0, 5, .inl g)) ∧ ∀ i, i < md_ho N f → g i = nI (md_pa N f i))
/-- where the net's cells lie -/
def md_nz (N : Nt) (tb : Nat) (la fa : Nat → Nat) (z : Nat → Prop) : Prop := z tb ∧ z (tb + 1) ∧ z (tb + 2) ∧ (∀ l, l < md_nl N → z (la l)) ∧ ∀ f, f < md_nf N → z (fa f) ∧ z (fa f + 1)
theorem CN.kept {N : Nt} {tb : Nat} {la fa : Nat → Nat} {h u : Hp} {z : Nat → Prop} (H : CN N tb la fa h) (hz : md_nz N tb la fa z) (e : ∀ a, z a → u.1 a = h.1 a) : CN N tb la fa u := by
  obtain ⟨c0, c1, c2, c3, c4⟩ := H
  obtain ⟨z0, z1, z2, z3, z4⟩ := hz
  exact ⟨by rw [e _ z0]; exact c0, by rw [e _ z1]; exact c1, by rw [e _ z2]; exact c2, fun l hl => by rw [e _ (z3 l hl)]; exact c3 l hl, fun f hf => by rw [e _ (z4 f hf).1, e _ (z4 f hf).2]; exact c4 f hf⟩
/-- what the object refers to -/
def md_rf (o tb : Nat) (F : Nat → Value) : Prop := F 0 = .ref (o + 1) ∧ F 4 = .ref tb ∧ F 5 = .ref (o + 5) ∧ F 6 = .ref (o + 6) ∧ F 7 = .ref (o + 7) ∧ F 8 = .ref (o + 8) ∧ F 10 = .ref (o + 9) ∧ F 11 = .ref (o + 10) ∧ F 12 = .ref (o + 49) ∧ F 13 = .ref (o + 88) ∧ F 14 = .ref (o + 127)
/-- an address that a tick leaves alone -/
def md_al (o b : Nat) (h0 : Hp) (a : Nat) : Prop := a < h0.2 ∧ a ≠ o ∧ ¬ (o + 5 ≤ a ∧ a ≤ o + 8) ∧ ¬ (b ≤ a ∧ a < b + 39)
/-- what stands from the start -/
def CS (o : Nat) (N : Nt) (tb : Nat) (la fa : Nat → Nat) (b : Nat) (F0 : Nat → Value) (h0 : Hp) : Prop :=
  md_ok N ∧ CN N tb la fa h0 ∧ md_nz N tb la fa (md_al o b h0) ∧ md_rf o tb F0 ∧ (∃ F, h0.1 (o + 9) = some (.inr (100, F)) ∧ F 0 = .ref o) ∧ o + 10 ≤ b ∧ b + 39 ≤ h0.2
def CR (o b : Nat) (F0 : Nat → Value) (h0 : Hp) (rd gv co : Nat → Int32) (ns : Ns) (h : Hp) : Prop :=
  (h0.2 ≤ h.2 ∧ ∀ a, md_al o b h0 a → h.1 a = h0.1 a) ∧
  (∃ F, h.1 o = some (.inr (0, F)) ∧ (ns.1 ≠ 77 → F 9 = .int (nI ns.1)) ∧ ∀ k, k ≠ 9 → F k = F0 k) ∧
  (h.1 (o + 5) = some (.inl (0, 80, .inl rd)) ∧ h.1 (o + 6) = some (.inl (0, 80, .inl gv)) ∧ h.1 (o + 7) = some (.inl (0, 80, .inl co))) ∧
  ∃ g, h.1 (o + 8) = some (.inl (9, 10, .inr (.inr (.inr (.inr g))))) ∧ ∀ k, k < ns.1 → ns.1 ≠ 77 → ∃ (a c : Nat) (F G : Nat → Value), g k = some a ∧ (h0.2 ≤ a ∧ a < h.2) ∧ (h0.2 ≤ c ∧ c < h.2) ∧ h.1 a = some (.inr (10, F)) ∧ F 0 = .ref c ∧ h.1 c = some (.inr (101, G)) ∧ G 0 = .int (nI (ns.2 k).1) ∧ G 1 = .int (ns.2 k).2
def TK (o : Nat) (N : Nt) (tb : Nat) (la fa : Nat → Nat) (b : Nat) (F0 : Nat → Value) (h0 : Hp) (R : Rw) (rd gv co : Nat → Int32) (ns : Ns) (h : Hp) : Prop :=
  CS o N tb la fa b F0 h0 ∧ CB b tb N R h ∧ CR o b F0 h0 rd gv co ns h
section TKrows
variable {o tb b : Nat} {N : Nt} {la fa : Nat → Nat} {F0 : Nat → Value} {h0 h : Hp} {R R' : Rw} {rd gv co : Nat → Int32} {ns : Ns} {Q : Int32 → Hp → Prop} {P : Unit → Hp → Prop} {A : Nat → Hp → Prop} {l f k j : Nat} {x : Int32}
/-- a write in the block -/
theorem CR.blk {a : Nat} {y : gE} (hb : o + 10 ≤ b) (hb2 : b + 39 ≤ h0.2) (H : CR o b F0 h0 rd gv co ns h) (h1 : b ≤ a) (h2 : a < b + 39) : CR o b F0 h0 rd gv co ns (gw_set h a y) := by
  obtain ⟨⟨c1, c2⟩, c3, c4, g, c5, c6⟩ := H
  refine ⟨⟨c1, fun q hq => by rw [gs_ne (fun e => hq.2.2.2 (by omega))]; exact c2 q hq⟩, by rw [gs_ne (by omega)]; exact c3, by rw [gs_ne (by omega), gs_ne (by omega), gs_ne (by omega)]; exact c4, g, by rw [gs_ne (by omega)]; exact c5, fun k hk h7 => ?_⟩
  obtain ⟨a', c', F, G, d1, d2, d3, d4, d5, d6, d7⟩ := c6 k hk h7
  exact ⟨a', c', F, G, d1, d2, d3, by rw [gs_ne (by omega)]; exact d4, d5, by rw [gs_ne (by omega)]; exact d6, d7⟩
/-! reads of the object and of what is told -/
theorem tk_gr (H : TK o N tb la fa b F0 h0 R rd gv co ns h) (hk : k ≠ 9) {y : Nat} (hy : F0 k = .ref y) (kk : A y h) : wp (gw_gr 0 k o) A h := by
  obtain ⟨F, e1, e2, e3⟩ := H.2.2.2.1
  exact w_gr e1 ((e3 k hk).trans hy) kk
theorem tk_told (H : TK o N tb la fa b F0 h0 R rd gv co ns h) (kk : A tb h) : wp (gw_gr 0 4 o) A h := tk_gr H (by decide) H.1.2.2.2.1.2.1 kk
theorem tk_rd (H : TK o N tb la fa b F0 h0 R rd gv co ns h) (kk : A (o + 5) h) : wp (gw_gr 0 5 o) A h := tk_gr H (by decide) H.1.2.2.2.1.2.2.1 kk
theorem tk_gv (H : TK o N tb la fa b F0 h0 R rd gv co ns h) (kk : A (o + 6) h) : wp (gw_gr 0 6 o) A h := tk_gr H (by decide) H.1.2.2.2.1.2.2.2.1 kk
theorem tk_co (H : TK o N tb la fa b F0 h0 R rd gv co ns h) (kk : A (o + 7) h) : wp (gw_gr 0 7 o) A h := tk_gr H (by decide) H.1.2.2.2.1.2.2.2.2.1 kk
theorem tk_nts (H : TK o N tb la fa b F0 h0 R rd gv co ns h) (kk : A (o + 8) h) : wp (gw_gr 0 8 o) A h := tk_gr H (by decide) H.1.2.2.2.1.2.2.2.2.2.1 kk
theorem tk_clm (H : TK o N tb la fa b F0 h0 R rd gv co ns h) (kk : A (o + 9) h) : wp (gw_gr 0 10 o) A h := tk_gr H (by decide) H.1.2.2.2.1.2.2.2.2.2.2.1 kk
theorem tk_nm (H : TK o N tb la fa b F0 h0 R rd gv co ns h) (hn : ns.1 ≠ 77) (kk : Q (nI ns.1) h) : wp (gw_gi 0 9 o) Q h := by
  obtain ⟨F, e1, e2, e3⟩ := H.2.2.2.1
  exact w_gi e1 (e2 hn) kk
theorem TK.root (H : TK o N tb la fa b F0 h0 R rd gv co ns h) : ∃ F, h.1 o = some (.inr (0, F)) := by
  obtain ⟨F, e1, e2, e3⟩ := H.2.2.2.1
  exact ⟨F, e1⟩
theorem TK.cn (H : TK o N tb la fa b F0 h0 R rd gv co ns h) : CN N tb la fa h := H.1.2.1.kept H.1.2.2.1 H.2.2.1.2
theorem tk_num (H : TK o N tb la fa b F0 h0 R rd gv co ns h) (hk : k < 9) (kk : Q (nI (N.1 k)) h) : wp (gw_gi 1 (k + 2) tb) Q h := by
  obtain ⟨F, e1, e2, e3, e4⟩ := H.cn.1
  exact w_gi e1 (e4 k hk) kk
theorem tk_links (H : TK o N tb la fa b F0 h0 R rd gv co ns h) (kk : A (tb + 1) h) : wp (gw_gr 1 0 tb) A h := by
  obtain ⟨F, e1, e2, e3, e4⟩ := H.cn.1
  exact w_gr e1 e2 kk
theorem tk_flows (H : TK o N tb la fa b F0 h0 R rd gv co ns h) (kk : A (tb + 2) h) : wp (gw_gr 1 1 tb) A h := by
  obtain ⟨F, e1, e2, e3, e4⟩ := H.cn.1
  exact w_gr e1 e3 kk
theorem tk_link (H : TK o N tb la fa b F0 h0 R rd gv co ns h) (hl : l < md_nl N) (kk : A (la l) h) : wp (gw_lr 4 (tb + 1) (nI l)) A h := by
  obtain ⟨g, e1, e2⟩ := H.cn.2.1
  exact w_lr e1 rfl (by have := H.1.1.nl; omega) (by decide) (e2 l hl) kk
theorem tk_flow (H : TK o N tb la fa b F0 h0 R rd gv co ns h) (hf : f < md_nf N) (kk : A (fa f) h) : wp (gw_lr 5 (tb + 2) (nI f)) A h := by
  obtain ⟨g, e1, e2⟩ := H.cn.2.2.1
  exact w_lr e1 rfl (by have := H.1.1.nf; omega) (by decide) (e2 f hf) kk
theorem tk_gL (H : TK o N tb la fa b F0 h0 R rd gv co ns h) (hl : l < md_nl N) (hk : k < 6) (kk : Q (nI (N.2.1 l k)) h) : wp (gw_gi 8 k (la l)) Q h := by
  obtain ⟨F, e1, e2⟩ := H.cn.2.2.2.1 l hl
  exact w_gi e1 (e2 k hk) kk
theorem TK.flow (H : TK o N tb la fa b F0 h0 R rd gv co ns h) (hf : f < md_nf N) : ∃ F, h.1 (fa f) = some (.inr (9, F)) := by
  obtain ⟨⟨F, e1, e2⟩, -⟩ := H.cn.2.2.2.2 f hf
  exact ⟨F, e1⟩
theorem tk_ho (H : TK o N tb la fa b F0 h0 R rd gv co ns h) (hf : f < md_nf N) (kk : Q (nI (md_ho N f)) h) : wp (gw_gi 9 3 (fa f)) Q h := by
  obtain ⟨⟨F, e1, e2, e3, e4, e5, e6⟩, -⟩ := H.cn.2.2.2.2 f hf
  exact w_gi e1 e5 kk
theorem tk_path (H : TK o N tb la fa b F0 h0 R rd gv co ns h) (hf : f < md_nf N) (kk : A (fa f + 1) h) : wp (gw_gr 9 2 (fa f)) A h := by
  obtain ⟨⟨F, e1, e2, e3, e4, e5, e6⟩, -⟩ := H.cn.2.2.2.2 f hf
  exact w_gr e1 e4 kk
theorem tk_pa {i : Int32} (H : TK o N tb la fa b F0 h0 R rd gv co ns h) (hf : f < md_nf N) (hk : k < md_ho N f) (hi : i = nI k) (kk : Q (nI (md_pa N f k)) h) : wp (gw_ld 0 (fa f + 1) i) Q h := by
  obtain ⟨-, g, e1, e2⟩ := H.cn.2.2.2.2 f hf
  have := H.1.1.ho hf
  exact w_ld e1 hi (by omega) (by decide) (by rw [e2 k hk]; exact kk)
/-! the state -/
theorem TK.st (H : TK o N tb la fa b F0 h0 R rd gv co ns h) : ∃ F, h.1 b = some (.inr (2, F)) := by
  obtain ⟨F, e1, -⟩ := H.2.1.1
  exact ⟨F, e1⟩
theorem tk_t (H : TK o N tb la fa b F0 h0 R rd gv co ns h) (kk : A tb h) : wp (gw_gr 2 0 b) A h := by
  obtain ⟨F, e1, e2, e3, e4, e5⟩ := H.2.1.1
  exact w_gr e1 e2 kk
theorem tk_tick (H : TK o N tb la fa b F0 h0 R rd gv co ns h) (kk : Q R.2.2 h) : wp (gw_gi 2 1 b) Q h := by
  obtain ⟨F, e1, e2, e3, e4, e5⟩ := H.2.1.1
  exact w_gi e1 e3 kk
theorem tk_ends (H : TK o N tb la fa b F0 h0 R rd gv co ns h) (kk : A (b + 1) h) : wp (gw_gr 2 2 b) A h := by
  obtain ⟨F, e1, e2, e3, e4, e5⟩ := H.2.1.1
  exact w_gr e1 e4 kk
theorem tk_snds (H : TK o N tb la fa b F0 h0 R rd gv co ns h) (kk : A (b + 2) h) : wp (gw_gr 2 3 b) A h := by
  obtain ⟨F, e1, e2, e3, e4, e5⟩ := H.2.1.1
  exact w_gr e1 e5 kk
theorem tk_end (H : TK o N tb la fa b F0 h0 R rd gv co ns h) (hl : l < 10) (kk : A (b + 3 + 2 * l) h) : wp (gw_lr 6 (b + 1) (nI l)) A h := by
  obtain ⟨g, e1, e2⟩ := H.2.1.2.1
  exact w_lr e1 rfl hl (by decide) (e2 l hl) kk
theorem tk_snd (H : TK o N tb la fa b F0 h0 R rd gv co ns h) (hf : f < 8) (kk : A (b + 23 + 2 * f) h) : wp (gw_lr 7 (b + 2) (nI f)) A h := by
  obtain ⟨g, e1, e2⟩ := H.2.1.2.2.1
  exact w_lr e1 rfl hf (by decide) (e2 f hf) kk
theorem TK.end (H : TK o N tb la fa b F0 h0 R rd gv co ns h) (hl : l < 10) : ∃ F, h.1 (b + 3 + 2 * l) = some (.inr (3, F)) := by
  obtain ⟨F, e1, -⟩ := H.2.1.2.2.2.1 l hl
  exact ⟨F, e1⟩
theorem TK.snd (H : TK o N tb la fa b F0 h0 R rd gv co ns h) (hf : f < 8) : ∃ F, h.1 (b + 23 + 2 * f) = some (.inr (4, F)) := by
  obtain ⟨F, e1, -⟩ := H.2.1.2.2.2.2.2.1 f hf
  exact ⟨F, e1⟩
theorem tk_gE (j k : Nat) (H : TK o N tb la fa b F0 h0 R rd gv co ns h) (hl : l < md_nl N) (hj : md_ek j = k ∧ 1 ≤ j ∧ j < 12 ∧ j ≠ 4) (kk : Q (R.1 l k) h) : wp (gw_gi 3 j (b + 3 + 2 * l)) Q h := by
  obtain ⟨rfl, h1, h2, h4⟩ := hj
  obtain ⟨F, e1, e2, e3⟩ := H.2.1.2.2.2.1 l (by have := H.1.1.nl; omega)
  exact w_gi e1 ((e3 hl).1 j h1 h2 h4) kk
theorem tk_gA (H : TK o N tb la fa b F0 h0 R rd gv co ns h) (hl : l < md_nl N) (kk : Q (md_as (R.1 l)) h) : wp (gw_gi 3 4 (b + 3 + 2 * l)) Q h := by
  obtain ⟨F, e1, e2, e3⟩ := H.2.1.2.2.2.1 l (by have := H.1.1.nl; omega)
  exact w_gi e1 (e3 hl).2 kk
theorem tk_cells (H : TK o N tb la fa b F0 h0 R rd gv co ns h) (hl : l < 10) (kk : A (b + 4 + 2 * l) h) : wp (gw_gr 3 0 (b + 3 + 2 * l)) A h := by
  obtain ⟨F, e1, e2, e3⟩ := H.2.1.2.2.2.1 l hl
  exact w_gr e1 e2 kk
theorem tk_ldQ (H : TK o N tb la fa b F0 h0 R rd gv co ns h) (hl : l < md_nl N) (hf : f < 8) (kk : Q (R.1 l (15 + f)) h) : wp (gw_ld 0 (b + 4 + 2 * l) (nI f)) Q h := by
  obtain ⟨g, e1, e2⟩ := H.2.1.2.2.2.2.1 l (by have := H.1.1.nl; omega)
  exact w_ld e1 rfl hf (by decide) (by rw [e2 hl f hf]; exact kk)
theorem tk_gS (j k : Nat) (H : TK o N tb la fa b F0 h0 R rd gv co ns h) (hf : f < md_nf N) (hj : md_sk j = k ∧ j < 12 ∧ j ≠ 10) (kk : Q (R.2.1 f k) h) : wp (gw_gi 4 j (b + 23 + 2 * f)) Q h := by
  obtain ⟨rfl, h2, h4⟩ := hj
  obtain ⟨F, e1, e2, e9, e3⟩ := H.2.1.2.2.2.2.2.1 f (by have := H.1.1.nf; omega)
  exact w_gi e1 (e3 hf j h2 h4) kk
theorem tk_stg (H : TK o N tb la fa b F0 h0 R rd gv co ns h) (hf : f < 8) (kk : A (b + 24 + 2 * f) h) : wp (gw_gr 4 10 (b + 23 + 2 * f)) A h := by
  obtain ⟨F, e1, e2, e3⟩ := H.2.1.2.2.2.2.2.1 f hf
  exact w_gr e1 e2 kk
theorem tk_ldG (j k : Nat) {i : Int32} (H : TK o N tb la fa b F0 h0 R rd gv co ns h) (hf : f < md_nf N) (hj : 2 + j = k ∧ j < 2) (hi : i = nI j) (kk : Q (R.2.1 f k) h) : wp (gw_ld 0 (b + 24 + 2 * f) i) Q h := by
  obtain ⟨rfl, hj⟩ := hj
  obtain ⟨g, e1, e2⟩ := H.2.1.2.2.2.2.2.2 f (by have := H.1.1.nf; omega)
  refine w_ld e1 hi hj (by decide) ?_
  obtain ⟨v1, v2⟩ := e2 hf
  match j, hj with
  | 0, _ => rw [v1]; exact kk
  | 1, _ => rw [v2]; exact kk
  | j + 2, h => omega
theorem tk_pE (j k : Nat) (H : TK o N tb la fa b F0 h0 R rd gv co ns h) (hl : l < md_nl N) (hj : md_ek j = k ∧ 1 ≤ j ∧ j < 12 ∧ j ≠ 4) (kk : ∀ u, TK o N tb la fa b F0 h0 (md_E R l k x) rd gv co ns u → P () u) : wp (gw_pi 3 j (b + 3 + 2 * l) x) P h := by
  obtain ⟨rfl, h1, h2, h4⟩ := hj
  have hL := H.1.1.nl
  obtain ⟨F, e1⟩ := H.end (show l < 10 by omega)
  have hb := H.1.2.2.2.2.2
  exact w_pv e1 (kk _ ⟨H.1, H.2.1.pE H.1.1 hl h1 h2 h4 e1, H.2.2.blk hb.1 hb.2 (by omega) (by omega)⟩)
theorem tk_pA (H : TK o N tb la fa b F0 h0 R rd gv co ns h) (hl : l < md_nl N) (q1 : ∀ a k, k < 10 ∨ 14 < k → R'.1 a k = R.1 a k) (q2 : ∀ a k, a ≠ l → R'.1 a k = R.1 a k) (q3 : R'.2 = R.2) (q4 : md_as (R'.1 l) = x) (kk : ∀ u, TK o N tb la fa b F0 h0 R' rd gv co ns u → P () u) : wp (gw_pi 3 4 (b + 3 + 2 * l) x) P h := by
  have hL := H.1.1.nl
  obtain ⟨F, e1⟩ := H.end (show l < 10 by omega)
  have hb := H.1.2.2.2.2.2
  exact w_pv e1 (kk _ ⟨H.1, H.2.1.pA H.1.1 hl e1 q1 q2 q3 q4, H.2.2.blk hb.1 hb.2 (by omega) (by omega)⟩)
theorem tk_pQ (H : TK o N tb la fa b F0 h0 R rd gv co ns h) (hl : l < md_nl N) (hf : f < 8) (kk : ∀ u, TK o N tb la fa b F0 h0 (md_E R l (15 + f) x) rd gv co ns u → P () u) : wp (gw_st (b + 4 + 2 * l) (nI f) x) P h := by
  have hL := H.1.1.nl
  obtain ⟨g, e1, -⟩ := H.2.1.2.2.2.2.1 l (by omega)
  have hb := H.1.2.2.2.2.2
  exact w_st e1 rfl hf (by decide) (kk _ ⟨H.1, H.2.1.pQ H.1.1 hl hf e1, H.2.2.blk hb.1 hb.2 (by omega) (by omega)⟩)
theorem tk_pS (j k : Nat) (H : TK o N tb la fa b F0 h0 R rd gv co ns h) (hf : f < md_nf N) (hj : md_sk j = k ∧ j < 12 ∧ j ≠ 10) (kk : ∀ u, TK o N tb la fa b F0 h0 (md_S R f k x) rd gv co ns u → P () u) : wp (gw_pi 4 j (b + 23 + 2 * f) x) P h := by
  obtain ⟨rfl, h2, h4⟩ := hj
  have hL := H.1.1.nf
  obtain ⟨F, e1⟩ := H.snd (show f < 8 by omega)
  have hb := H.1.2.2.2.2.2
  exact w_pv e1 (kk _ ⟨H.1, H.2.1.pS H.1.1 hf h2 h4 e1, H.2.2.blk hb.1 hb.2 (by omega) (by omega)⟩)
theorem tk_pG (j k : Nat) {i : Int32} (H : TK o N tb la fa b F0 h0 R rd gv co ns h) (hf : f < md_nf N) (hj : 2 + j = k ∧ j < 2) (hi : i = nI j) (kk : ∀ u, TK o N tb la fa b F0 h0 (md_S R f k x) rd gv co ns u → P () u) : wp (gw_st (b + 24 + 2 * f) i x) P h := by
  obtain ⟨rfl, hj⟩ := hj
  have hL := H.1.1.nf
  obtain ⟨g, e1, -⟩ := H.2.1.2.2.2.2.2.2 f (by omega)
  have hb := H.1.2.2.2.2.2
  exact w_st e1 hi hj (by decide) (kk _ ⟨H.1, H.2.1.pG H.1.1 hf hj e1, H.2.2.blk hb.1 hb.2 (by omega) (by omega)⟩)
theorem tk_pT (H : TK o N tb la fa b F0 h0 R rd gv co ns h) (kk : ∀ u, TK o N tb la fa b F0 h0 (R.1, R.2.1, x) rd gv co ns u → P () u) : wp (gw_pi 2 1 b x) P h := by
  obtain ⟨F, e1⟩ := H.st
  have hb := H.1.2.2.2.2.2
  exact w_pv e1 (kk _ ⟨H.1, H.2.1.pT e1, H.2.2.blk hb.1 hb.2 (by omega) (by omega)⟩)
/-! the arrays of a tick -/
theorem tk_ldr (H : TK o N tb la fa b F0 h0 R rd gv co ns h) (hl : l < 10) (hf : f < 8) (kk : Q (rd (8 * l + f)) h) : wp (gw_ld 0 (o + 5) ((8 : Int32) * nI l + nI f)) Q h := w_ld H.2.2.2.2.1.1 (ix_8 l f) (by omega) (by decide) kk
theorem tk_ldg (H : TK o N tb la fa b F0 h0 R rd gv co ns h) (hl : l < 10) (hf : f < 8) (kk : Q (gv (8 * l + f)) h) : wp (gw_ld 0 (o + 6) ((8 : Int32) * nI l + nI f)) Q h := w_ld H.2.2.2.2.1.2.1 (ix_8 l f) (by omega) (by decide) kk
theorem tk_ldc (H : TK o N tb la fa b F0 h0 R rd gv co ns h) (hl : l < 10) (hf : f < 8) (kk : Q (co (8 * l + f)) h) : wp (gw_ld 0 (o + 7) ((8 : Int32) * nI l + nI f)) Q h := w_ld H.2.2.2.2.1.2.2 (ix_8 l f) (by omega) (by decide) kk
theorem CR.arr {a : Nat} {y : gE} (hb : o + 10 ≤ b) (hb2 : b + 39 ≤ h0.2) (H : CR o b F0 h0 rd gv co ns h) (h1 : o + 5 ≤ a) (h2 : a ≤ o + 7) {rd' gv' co' : Nat → Int32} (e : (gw_set h a y).1 (o + 5) = some (.inl (0, 80, .inl rd')) ∧ (gw_set h a y).1 (o + 6) = some (.inl (0, 80, .inl gv')) ∧ (gw_set h a y).1 (o + 7) = some (.inl (0, 80, .inl co'))) : CR o b F0 h0 rd' gv' co' ns (gw_set h a y) := by
  obtain ⟨⟨c1, c2⟩, c3, c4, g, c5, c6⟩ := H
  refine ⟨⟨c1, fun q hq => by rw [gs_ne (fun e => hq.2.2.1 (by omega))]; exact c2 q hq⟩, by rw [gs_ne (by omega)]; exact c3, e, g, by rw [gs_ne (by omega)]; exact c5, fun k hk h7 => ?_⟩
  obtain ⟨a', c', F, G, d1, d2, d3, d4, d5, d6, d7⟩ := c6 k hk h7
  exact ⟨a', c', F, G, d1, d2, d3, by rw [gs_ne (by omega)]; exact d4, d5, by rw [gs_ne (by omega)]; exact d6, d7⟩
theorem tk_str (H : TK o N tb la fa b F0 h0 R rd gv co ns h) (hl : l < 10) (hf : f < 8) (kk : ∀ u, TK o N tb la fa b F0 h0 R (upd rd (8 * l + f) x) gv co ns u → P () u) : wp (gw_st (o + 5) ((8 : Int32) * nI l + nI f) x) P h := by
  have hb := H.1.2.2.2.2.2
  obtain ⟨q1, q2, q3⟩ := H.2.2.2.2.1
  exact w_st q1 (ix_8 l f) (by omega) (by decide) (kk _ ⟨H.1, H.2.1.kept fun a h1 h2 => gs_ne (by omega), H.2.2.arr hb.1 hb.2 (by omega) (by omega) ⟨gs_eq, by rw [gs_ne (by omega)]; exact q2, by rw [gs_ne (by omega)]; exact q3⟩⟩)
theorem tk_stv (H : TK o N tb la fa b F0 h0 R rd gv co ns h) (hl : l < 10) (hf : f < 8) (kk : ∀ u, TK o N tb la fa b F0 h0 R rd (upd gv (8 * l + f) x) co ns u → P () u) : wp (gw_st (o + 6) ((8 : Int32) * nI l + nI f) x) P h := by
  have hb := H.1.2.2.2.2.2
  obtain ⟨q1, q2, q3⟩ := H.2.2.2.2.1
  exact w_st q2 (ix_8 l f) (by omega) (by decide) (kk _ ⟨H.1, H.2.1.kept fun a h1 h2 => gs_ne (by omega), H.2.2.arr hb.1 hb.2 (by omega) (by omega) ⟨by rw [gs_ne (by omega)]; exact q1, gs_eq, by rw [gs_ne (by omega)]; exact q3⟩⟩)
theorem tk_stc (H : TK o N tb la fa b F0 h0 R rd gv co ns h) (hl : l < 10) (hf : f < 8) (kk : ∀ u, TK o N tb la fa b F0 h0 R rd gv (upd co (8 * l + f) x) ns u → P () u) : wp (gw_st (o + 7) ((8 : Int32) * nI l + nI f) x) P h := by
  have hb := H.1.2.2.2.2.2
  obtain ⟨q1, q2, q3⟩ := H.2.2.2.2.1
  exact w_st q3 (ix_8 l f) (by omega) (by decide) (kk _ ⟨H.1, H.2.1.kept fun a h1 h2 => gs_ne (by omega), H.2.2.arr hb.1 hb.2 (by omega) (by omega) ⟨by rw [gs_ne (by omega)]; exact q1, by rw [gs_ne (by omega)]; exact q2, gs_eq⟩⟩)
/-- no notices -/
theorem tk_nm0 {g : Nat → Nat × Int32} (H : TK o N tb la fa b F0 h0 R rd gv co ns h) (kk : ∀ u, TK o N tb la fa b F0 h0 R rd gv co (0, g) u → P () u) : wp (gw_pi 0 9 o (0 : Int32)) P h := by
  have hb := H.1.2.2.2.2.2
  obtain ⟨⟨c1, c2⟩, ⟨F, e1, e2, e3⟩, c4, g', c5, c6⟩ := H.2.2
  refine w_pv e1 (kk _ ⟨H.1, H.2.1.kept fun a h1 h2 => gs_ne (by omega), ⟨c1, fun q hq => by rw [gs_ne hq.2.1]; exact c2 q hq⟩, ⟨_, gs_eq, fun _ => updV_eq, fun k hk => by rw [updV_ne hk]; exact e3 k hk⟩, by rw [gs_ne (by omega), gs_ne (by omega), gs_ne (by omega)]; exact c4, g', by rw [gs_ne (by omega)]; exact c5, fun k hk => absurd hk (Nat.not_lt_zero _)⟩)
end TKrows
