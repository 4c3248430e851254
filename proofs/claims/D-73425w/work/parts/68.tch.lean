/-! by chance -/
def md_dr (d : Nat) : Nat := (12345 + 1103515245 * d) % 2147483648
/-- one turn: the number drawn, the row, how often it stalled -/
def md_ch (N : Nt) (p : Nat) (x : Nat × Rw × Int32) : Nat × Rw × Int32 :=
  if md_nf N = 0 then (x.1, md_tk N x.2.1, x.2.2 + md_bi (md_stl N (md_tk N x.2.1)))
  else if md_dr (md_dr x.1) / 65536 % 100 < p then (md_dr (md_dr x.1), md_tk N (md_S x.2.1 (md_dr x.1 / 65536 % md_nf N) 7 (1 - x.2.1.2.1 (md_dr x.1 / 65536 % md_nf N) 7)), x.2.2 + md_bi (md_stl N (md_tk N (md_S x.2.1 (md_dr x.1 / 65536 % md_nf N) 7 (1 - x.2.1.2.1 (md_dr x.1 / 65536 % md_nf N) 7)))))
  else (md_dr (md_dr x.1), md_tk N x.2.1, x.2.2 + md_bi (md_stl N (md_tk N x.2.1)))
def md_chn (N : Nt) (R : Rw) (d p n : Nat) : Nat × Rw × Int32 := md_it (fun _ => md_ch N p) n (d, R, 0)
/-- the seed -/
def md_sd (N : Nt) (a : Int32) : Nat := if a = -1 then N.1 8 else a.toNatClampNeg
def an_ch (N : Nt) (R : Rw) (a b c e : Int32) : Int32 := if a < -1 then -1 else match md_op (b - 1) 200, md_op c 101, md_op e 4 with
  | some j, some p, some w => if w = 2 then (md_chn N R (md_sd N a) p (j + 1)).2.2 else if w = 1 then md_lo N (md_chn N R (md_sd N a) p (j + 1)).2.1 - md_lo N R else if w = 3 then md_on N (md_chn N R (md_sd N a) p (j + 1)).2.1 6 - md_on N R 6 else md_on N (md_chn N R (md_sd N a) p (j + 1)).2.1 5 - md_on N R 5
  | _, _, _ => -1
theorem md_dr_lt (d : Nat) : md_dr d < 2147483648 := Nat.mod_lt _ (by decide)
theorem md_chn_iv {N : Nt} {R : Rw} {m d p n : Nat} (hN : md_ok N) (h : md_iv N m R) (hd : d < 2147483648) (hm : m + n ≤ 20001) : (md_chn N R d p n).1 < 2147483648 ∧ md_iv N (m + n) (md_chn N R d p n).2.1 := by
  induction n with
  | zero => exact ⟨hd, h⟩
  | succ n ih =>
    obtain ⟨i1, i2⟩ := ih (by omega)
    show (md_ch N p (md_chn N R d p n)).1 < _ ∧ md_iv N (m + (n + 1)) (md_ch N p (md_chn N R d p n)).2.1
    generalize md_chn N R d p n = x at i1 i2
    have hm' : m + n ≤ 20000 := by omega
    unfold md_ch
    split
    · exact ⟨i1, i2.tk hN hm'⟩
    · next e =>
      split
      · refine ⟨md_dr_lt _, (i2.S7 ?_).tk hN hm'⟩
        rcases (i2.2.2.1 (md_dr x.1 / 65536 % md_nf N) (Nat.mod_lt _ (by omega))).1 with q | q
        · rw [q]; exact Or.inr (by decide)
        · rw [q]; exact Or.inl (by decide)
      · exact ⟨md_dr_lt _, i2.tk hN hm'⟩
theorem dr_m : (2147483647 : Int32).toBitVec.toNat = 2 ^ 31 - 1 := by decide +kernel
theorem dr_n (z : Nat) : (nI z).toBitVec.toNat % 2 ^ 31 = z % 2147483648 := by
  have h : (nI z).toBitVec.toNat = z % 2 ^ 32 := BitVec.toNat_ofNat _ _
  rw [h]
  omega
theorem dr_nI {d : Nat} : ((nI d * (1103515245 : Int32)) + (12345 : Int32)) &&& (2147483647 : Int32) = nI (md_dr d) := by
  rw [show (1103515245 : Int32) = nI 1103515245 from rfl, show (12345 : Int32) = nI 12345 from rfl, pk_mul, nI_add, pk_and _ 31 dr_m]
  rw [show d * 1103515245 + 12345 = 12345 + 1103515245 * d by omega]
  unfold md_dr
  generalize 12345 + 1103515245 * d = z
  rw [dr_n]
section Tch
variable {U : (Nat → Nat) × Nat × Int32 × Int32} {N : Nt} {R X : Rw} {P : Nat × (Nat → Rw)} {I : Bool × Rw} {t t0 : TS} {cn cr co : Nat → Int32} {ns : Ns} {Q : Int32 → TS → Prop} {V : Unit → TS → Prop} {a b c e : Int32} {m k d : Nat}
theorem tt_draw {n : Nat} (h : t.1 48 = nI d) (hn0 : 0 < n) (hn : n < 2 ^ 31) (kk : Q (nI (md_dr d / 65536 % n)) (upd t.1 48 (nI (md_dr d)), t.2)) : wp (fm_draw (nI n)) Q t := by
  unfold fm_draw
  refine wp_bd (wp_gi ?_)
  rw [h, dr_nI]
  refine wp_bd (wp_pi (wp_bd (wp_gi (wp_bd (wp_nz (nI_ne0 hn0 hn) (wp_rt ?_))))))
  have hl := md_dr_lt d
  dsimp only
  rw [upd_eq, pk_shrN (by omega) _ 16 (by decide), pk_rem (by omega) hn0 hn]
  exact kk
theorem TwS.p48 (hk : k = 27 ∨ k = 28) {x : Int32} (h : TwS k U N R P I X t) : TwS k U N R P I X (upd t.1 48 x, t.2) := by
  obtain ⟨⟨cn, cr, co, ns, hT⟩, hB, hR⟩ := h
  exact ⟨⟨cn, cr, co, ns, hT.oth (fun _ _ => rfl) (by dsimp only; rw [upd_ne (by decide)])⟩, hB.kept rfl rfl rfl (by dsimp only; rw [upd_ne (by decide)]) (by dsimp only; rw [upd_ne (by decide)]) (by dsimp only; rw [upd_ne (by decide)]) (by dsimp only; rw [upd_ne (by decide)]) (by dsimp only; rw [upd_ne (by decide)]), hR⟩
theorem ts_tickS (hk : k = 27 ∨ k = 28) (hN : md_ok N) (hI : md_iv N m X) (hm : m ≤ 20000) (h : TwS k U N R P I X t) (kk : ∀ u, TwS k U N R P I (md_tk N X) u → tw_sm t u → V () u) : wp fm_tickGoes V t := by
  obtain ⟨cn, cr, co, ns, hT⟩ := h.1
  exact tt_tick hN hI hm hT fun u cn cr co ns hT _ => kk u (h.w hk hT) hT.2.2.2.2
theorem tq_ch (hN : md_ok N) (hI : md_iv N m R) (hm : m ≤ 9999) (h : TwA U N R P I t) : wp (fm_chance a b c e) (fun r u => r = an_ch N R a b c e ∧ TwA U N R P I u) t := by
  have hF := hN.nf
  have hL := hN.nl
  unfold fm_chance fm_chance_J43
  refine tq_0 h fun u hu => ?_
  unfold an_ch
  refine wp_if (fun hc => ?_) (fun hc => ?_)
  · rw [if_pos hc]; exact wp_rt ⟨rfl, hu⟩
  rw [if_neg hc]
  rcases md_op_1 b (n := 200) (by decide) with ⟨e1, e2⟩ | ⟨j, hj, rfl, e1⟩
  · rw [e1]
    refine wp_if (fun hc => wp_rt ⟨rfl, hu⟩) (fun hc => ?_)
    rcases e2 with e2 | e2
    · exact absurd e2 hc
    · exact wp_ifT e2 (wp_rt ⟨rfl, hu⟩)
  rw [e1]
  refine wp_ifF (nI_nlt (b := 1) (by omega) (by omega)) (wp_ifF (nI_nlt (a := 200) (by omega) (by decide)) ?_)
  rcases md_op_c c (n := 101) (by decide) with ⟨e3, e4⟩ | ⟨p, hp, rfl, e3⟩
  · rw [e3]
    refine wp_if (fun hc => wp_rt ⟨rfl, hu⟩) (fun hc => ?_)
    rcases e4 with e4 | e4
    · exact absurd e4 hc
    · exact wp_ifT (Int32.lt_of_lt_of_le (show (100 : Int32) < nI 101 by decide) e4) (wp_rt ⟨rfl, hu⟩)
  rw [e3]
  refine wp_ifF (nI_pos (by omega)) (wp_ifF (nI_nlt (a := 100) (by omega) (by decide)) ?_)
  rcases md_op_c e (n := 4) (by decide) with ⟨e5, e6⟩ | ⟨w, hw, rfl, e5⟩
  · rw [e5]
    refine wp_if (fun hc => wp_rt ⟨rfl, hu⟩) (fun hc => ?_)
    rcases e6 with e6 | e6
    · exact absurd e6 hc
    · exact wp_ifF (fun q => absurd (Int32.le_trans e6 q) (by decide)) (wp_rt ⟨rfl, hu⟩)
  rw [e5]
  dsimp only
  refine wp_ifF (nI_pos (by omega)) (wp_ifT (nI_le (b := 3) (by omega) (by decide)) ?_)
  obtain ⟨⟨cn, cr, co, ns, hT⟩, hB⟩ := id hu
  have go : ∀ s : Nat, s = md_sd N a → s < 2147483648 → wp (fm_chance_J62 (nI w) (nI (j + 1)) (nI p) (nI s)) (fun r u => r = (if w = 2 then (md_chn N R s p (j + 1)).2.2 else if w = 1 then md_lo N (md_chn N R s p (j + 1)).2.1 - md_lo N R else if w = 3 then md_on N (md_chn N R s p (j + 1)).2.1 6 - md_on N R 6 else md_on N (md_chn N R s p (j + 1)).2.1 5 - md_on N R 5) ∧ TwA U N R P I u) u := by
    intro s _ hs
    unfold fm_chance_J62
    refine wp_bd (wp_pi ?_)
    have hu2 : TwA U N R P I (upd u.1 48 (nI s), u.2) := ⟨⟨cn, cr, co, ns, hT.oth (fun _ _ => rfl) (by dsimp only; rw [upd_ne (by decide)])⟩, hB.kept rfl rfl rfl (by dsimp only; rw [upd_ne (by decide)]) (by dsimp only; rw [upd_ne (by decide)]) (by dsimp only; rw [upd_ne (by decide)]) (by dsimp only; rw [upd_ne (by decide)]) (by dsimp only; rw [upd_ne (by decide)])⟩
    have z48 : (upd u.1 48 (nI s), u.2).1 48 = nI s := by dsimp only; exact upd_eq _ _ _
    generalize (upd u.1 48 (nI s), u.2) = u2 at hu2 z48
    obtain ⟨⟨cn, cr, co, ns, hT⟩, hB⟩ := id hu2
    refine wp_bd (tt_copies (p := 26) (q := 28) (i := 0) (k := 0) rfl rfl (by decide) (by decide) (by decide) (by decide) (by decide) rfl rfl fun u3 h1 h2 h3 h4 h5 => ?_)
    have hS : TwS 28 U N R P I R u3 := ⟨⟨cn, cr, co, ns, hT.oth (fun q hq => h2 q (by omega)) (by rw [h3])⟩, hB.kept (h2 1 (by omega)) (h2 29 (by omega)) (h2 30 (by omega)) (by rw [h3]) (by rw [h3]) (by rw [h3]) (by rw [h3]) (by rw [h3]), hT.1.ext fun j hj => by rw [h1, if_pos (by omega)]; exact congrArg (u2.2.2.1 26) (by omega)⟩
    have z48 : u3.1 48 = nI s := by rw [h3]; exact z48
    obtain ⟨cn, cr, co, ns, hT⟩ := hS.1
    -- the turns
    have run : ∀ (y : Int32) (K : Nat × Rw × Int32 → Int32), (∀ (x : Nat × Rw × Int32) (v : TS), TwS 28 U N R P I x.2.1 v → wp (if nI w = (2 : Int32) then (fm_chance_J246 x.2.2) else (if nI w = (1 : Int32) then (tw_bd (fm_lostAll) fun x23 => fm_chance_J243 y x23) else (if nI w = (3 : Int32) then (fm_chance_J240 y (6 : Int32)) else (fm_chance_J240 y (5 : Int32))))) (fun r u => r = K x ∧ TwA U N R P I u) v) → wp (fm_chance_J107 (nI (j + 1)) (nI w) (nI p) y) (fun r u => r = K (md_chn N R s p (j + 1)) ∧ TwA U N R P I u) u3 := by
      intro y K hK
      unfold fm_chance_J107
      refine wp_forB (J := fun i z v => z = (md_chn N R s p i).2.2 ∧ TwS 28 U N R P I (md_chn N R s p i).2.1 v ∧ v.1 48 = nI (md_chn N R s p i).1) (j + 1) (by omega) ⟨rfl, hS, z48⟩ rfl ?_ ?_
      · rintro i g z v hi ⟨rfl, hv, hv48⟩ hk
        obtain ⟨c1, c2⟩ := md_chn_iv (p := p) (n := i) hN hI hs (by omega)
        have hstep : md_chn N R s p (i + 1) = md_ch N p (md_chn N R s p i) := rfl
        rw [hstep] at hk
        generalize md_chn N R s p i = x at hv hv48 hk c1 c2
        obtain ⟨cn, cr, co, ns, hT⟩ := hv.1
        have tickS : ∀ (Y : Rw) (d : Nat) (v : TS), md_iv N (m + i) Y → TwS 28 U N R P I Y v → v.1 48 = nI d → md_ch N p x = (d, md_tk N Y, x.2.2 + md_bi (md_stl N (md_tk N Y))) → wp (fm_chance_J176 g x.2.2 (nI i)) (fun r u => r = K (md_chn N R s p (j + 1)) ∧ TwA U N R P I u) v := by
          intro Y d v hY hv hv48 hx
          rw [hx] at hk
          unfold fm_chance_J176 fm_chance_J194
          refine wp_bd (ts_tickS (Or.inr rfl) hN hY (by omega) hv fun v hv hsm => ?_)
          obtain ⟨cn, cr, co, ns, hT⟩ := hv.1
          refine wp_bd (tt_stl hN hT fun v' hc' => ?_)
          have hv' := hv.fc (Or.inr rfl) hc'
          have h48 : v'.1 48 = nI d := by rw [hc'.2.1 48 (by decide), hsm.1 48 (by decide)]; exact hv48
          cases hst : md_stl N (md_tk N Y) with
          | false => rw [hst] at hk; exact wp_ifT rfl (hk _ _ ⟨rfl, hv', h48⟩)
          | true => rw [hst] at hk; exact wp_ifF (by decide) (hk _ _ ⟨rfl, hv', h48⟩)
        rw [fm_chance_L115]
        refine wp_ifF (nI_ge hi (by omega)) (wp_bd (tt_flows hT ?_))
        by_cases e0 : md_nf N = 0
        · rw [e0]
          refine wp_ifT (by decide) (tickS x.2.1 x.1 v c2 hv hv48 ?_)
          rw [md_ch, if_pos e0]
        · refine wp_ifF (nI_nle (by omega) (by omega)) (wp_bd (tt_flows hT (wp_bd (tt_draw hv48 (by omega) (by omega) ?_))))
          have hv1 := hv.p48 (Or.inr rfl) (x := nI (md_dr x.1))
          have hf : md_dr x.1 / 65536 % md_nf N < md_nf N := Nat.mod_lt _ (by omega)
          refine wp_bd (tt_draw (n := 100) (d := md_dr x.1) (by dsimp only; exact upd_eq _ _ _) (by decide) (by decide) ?_)
          have hv2 := hv1.p48 (Or.inr rfl) (x := nI (md_dr (md_dr x.1)))
          have k48 : (upd (upd v.1 48 (nI (md_dr x.1)), v.2).1 48 (nI (md_dr (md_dr x.1))), (upd v.1 48 (nI (md_dr x.1)), v.2).2).1 48 = nI (md_dr (md_dr x.1)) := by dsimp only; exact upd_eq _ _ _
          generalize (upd (upd v.1 48 (nI (md_dr x.1)), v.2).1 48 (nI (md_dr (md_dr x.1))), (upd v.1 48 (nI (md_dr x.1)), v.2).2) = v2 at hv2 k48
          have hm100 : md_dr (md_dr x.1) / 65536 % 100 < 100 := Nat.mod_lt _ (by decide)
          by_cases ep : md_dr (md_dr x.1) / 65536 % 100 < p
          · refine wp_ifF (nI_ge ep (by omega)) ?_
            obtain ⟨cn, cr, co, ns, hT⟩ := hv2.1
            refine wp_bd (tt_flowAt (wp_bd (tt_flowAt (wp_bd (tt_S (k := 7) hT (by omega) (by decide) (wp_bd (tt_wS (k := 7) hT (by omega) (by decide) fun v3 hT3 => ?_)))))))
            refine tickS _ (md_dr (md_dr x.1)) v3 (c2.S7 ?_) (hv2.w (Or.inr rfl) hT3) ?_ ?_
            · rcases (c2.2.2.1 _ hf).1 with q | q
              · rw [q]; exact Or.inr (by decide)
              · rw [q]; exact Or.inl (by decide)
            · rw [hT3.2.2.2.2.1 48 (by decide)]; exact k48
            · rw [md_ch, if_neg e0, if_pos ep]
          · refine wp_ifT (nI_le (by omega) (by omega)) (tickS x.2.1 _ v2 c2 hv2 k48 ?_)
            rw [md_ch, if_neg e0, if_neg ep]
      · rintro g z v ⟨rfl, hv, hv48⟩
        rw [fm_chance_L115]
        exact wp_ifT (Int32.le_refl _) (hK _ v hv)
    have sum6 : ∀ (y : Int32) (q : Nat) (x : Nat × Rw × Int32) (v : TS), q < 12 → TwS 28 U N R P I x.2.1 v → wp (fm_chance_J240 y (nI q)) (fun r u => r = md_on N x.2.1 q - y ∧ TwA U N R P I u) v := fun y q x v hq hv => by
      obtain ⟨cn, cr, co, ns, hT⟩ := hv.1
      unfold fm_chance_J240 fm_chance_J243 fm_chance_J246
      exact wp_bd (tt_sum hN hT hq rfl (ts_end (Or.inr rfl) hv rfl))
    have hw4 : w = 0 ∨ w = 1 ∨ w = 2 ∨ w = 3 := by omega
    rcases hw4 with rfl | rfl | rfl | rfl
    · rw [if_neg (show ¬ (0 : Nat) = 2 by decide), if_neg (show ¬ (0 : Nat) = 1 by decide), if_neg (show ¬ (0 : Nat) = 3 by decide)]
      refine wp_ifF (by decide) (wp_ifF (by decide) ?_)
      unfold fm_chance_J104
      refine wp_bd (tt_sum (k := 5) hN hT (by decide) rfl (run _ (fun x => md_on N x.2.1 5 - md_on N R 5) fun x v hv => wp_ifF (by decide) (wp_ifF (by decide) (wp_ifF (by decide) (sum6 _ 5 x v (by decide) hv)))))
    · rw [if_neg (show ¬ (1 : Nat) = 2 by decide), if_pos (show (1 : Nat) = 1 from rfl)]
      refine wp_ifT rfl (wp_bd (tt_lost hN hT (run _ (fun x => md_lo N x.2.1 - md_lo N R) fun x v hv => wp_ifF (by decide) (wp_ifT rfl ?_))))
      obtain ⟨cn, cr, co, ns, hT⟩ := hv.1
      unfold fm_chance_J243 fm_chance_J246
      exact wp_bd (tt_lost hN hT (ts_end (Or.inr rfl) hv rfl))
    · rw [if_pos (show (2 : Nat) = 2 from rfl)]
      refine wp_ifF (by decide) (wp_ifF (by decide) ?_)
      unfold fm_chance_J104
      refine wp_bd (tt_sum (k := 5) hN hT (by decide) rfl (run _ (fun x => x.2.2) fun x v hv => wp_ifT rfl ?_))
      unfold fm_chance_J246
      exact ts_end (Or.inr rfl) hv rfl
    · rw [if_neg (show ¬ (3 : Nat) = 2 by decide), if_neg (show ¬ (3 : Nat) = 1 by decide), if_pos (show (3 : Nat) = 3 from rfl)]
      refine wp_ifF (by decide) (wp_ifT rfl ?_)
      unfold fm_chance_J104
      refine wp_bd (tt_sum (k := 6) hN hT (by decide) rfl (run _ (fun x => md_on N x.2.1 6 - md_on N R 6) fun x v hv => wp_ifF (by decide) (wp_ifF (by decide) (wp_ifT rfl (sum6 _ 6 x v (by decide) hv)))))
  by_cases ea : a = -1
  · refine wp_ifT ea (wp_bd (tt_num (k := 8) hT (by decide) ?_))
    have := go (N.1 8) (by rw [md_sd, if_pos ea]) (by have := hN.num (k := 8) (by decide); omega)
    rw [md_sd, if_pos ea]
    exact this
  · refine wp_ifF ea ?_
    have hneg : ¬ a < 0 := fun q => by
      rw [Int32.lt_iff_toInt_lt] at q hc
      refine ea (Int32.toInt_inj.mp ?_)
      rw [show (-1 : Int32).toInt = -1 from by decide] at hc ⊢
      rw [show (0 : Int32).toInt = 0 from rfl] at q
      omega
    obtain ⟨s, hs, rfl⟩ := nI_of hneg
    have := go s (by rw [md_sd, if_neg ea, nI_clamp hs]) (by omega)
    rw [md_sd, if_neg ea, nI_clamp hs]
    exact this
end Tch
