/-! trials: what is answered -/
def md_am (N : Nt) (R : Rw) (l : Nat) : Nat → Int32
  | 0 => md_q R l
  | n + 1 => md_mx (md_am N R l n) (md_q (md_tn N (n + 1) R) l)
def an_ahead (N : Nt) (R : Rw) (a n w : Int32) : Int32 := match md_op a (md_nl N), md_op n 301, md_op w 3 with
  | some l, some n, some w => if w = 0 then md_q (md_tn N n R) l else if w = 1 then md_am N R l n else (md_tn N n R).1 l 3 - R.1 l 3
  | _, _, _ => -1
def an_flows (N : Nt) (R : Rw) (a n w : Int32) : Int32 := match md_op a (md_nf N), md_op n 301, md_op w 3 with
  | some f, some n, some w => if w = 0 then (md_tn N n R).2.1 f 0 else if w = 1 then (md_tn N n R).2.1 f 5 - R.2.1 f 5 else (md_tn N n R).2.1 f 4 - R.2.1 f 4
  | _, _, _ => -1
def md_em (N : Nt) (R : Rw) : Bool := decide (md_fd (fun l => decide (¬ md_q R l ≤ 0)) (md_nl N) = md_nl N)
def md_off (N : Nt) (R : Rw) : Rw := md_it (fun f R => md_S R f 7 0) (md_nf N) R
/-- the first of 301 -/
def md_un (p : Nat → Bool) : Int32 := if md_fd p 301 = 301 then -2 else nI (md_fd p 301)
def an_quiet (N : Nt) (R : Rw) : Int32 := md_un (fun n => md_em N (md_tn N n (md_off N R)))
def md_wo (N : Nt) (R : Rw) (n f : Nat) : Int32 := (md_on N (md_tn N n (md_S R f 7 0)) 5 - (md_tn N n (md_S R f 7 0)).2.1 f 5) - (md_on N R 5 - R.2.1 f 5)
def md_w1 (N : Nt) (R : Rw) (n f : Nat) (x : Nat × Int32) : Nat × Int32 := if R.2.1 f 7 = 0 then x else if x.1 = 99 ∨ x.2 < md_wo N R n f then (f, md_wo N R n f) else x
def an_worst (N : Nt) (R : Rw) (a : Int32) : Int32 := match md_op (a - 1) 40 with
  | some j => if (md_it (md_w1 N R (j + 1)) (md_nf N) (99, 0)).1 = 99 then -2 else nI (md_it (md_w1 N R (j + 1)) (md_nf N) (99, 0)).1
  | none => -1
def md_l1 (N : Nt) (R0 : Rw) (l i : Nat) (x : Int32) : Int32 := if 0 < md_sum (fun f => md_tc N (md_tn N i R0) l f) (md_nf N) then md_mx x (md_q (md_tn N (i + 1) R0) l) else x
def an_least (N : Nt) (R : Rw) (a b : Int32) : Int32 := match md_op a (md_nl N), md_op (b - 1) 100 with
  | some l, some j => if (md_tn N (j + 1) (md_E R l 2 1999)).1 l 3 = R.1 l 3 then md_it (md_l1 N (md_E R l 2 1999) l) (j + 1) 1 else -2
  | _, _ => -1
/-! the law of a row under small changes -/
theorem md_iv.S7 {N : Nt} {m f : Nat} {R : Rw} {x : Int32} (h : md_iv N m R) (hx : x = 0 ∨ x = 1) : md_iv N m (md_S R f 7 x) := by
  obtain ⟨h1, h2, h3, h4⟩ := h
  refine ⟨h1, h2, fun g hg => ?_, ?_⟩
  · obtain ⟨a7, a8, a0, a1, a3, a9⟩ := h3 g hg
    refine ⟨?_, by rw [md_Sk (by decide)]; exact a8, by rw [md_Sk (by decide)]; exact a0, by rw [md_Sk (by decide)]; exact a1, by rw [md_Sk (by decide)]; exact a3, by rw [md_Sk (by decide)]; exact a9⟩
    rw [md_S1]
    split
    · exact hx
    · exact a7
  · rw [show (fun l => (md_S R f 7 x).1 l 3) = fun l => R.1 l 3 from rfl, h4]
    exact md_sum_congr fun g _ => (md_Sk (by decide)).symm
theorem md_iv.off {N : Nt} {m : Nat} {R : Rw} (h : md_iv N m R) : md_iv N m (md_off N R) := md_it_inv (fun (X : Rw) => md_iv N m X) h fun _ _ _ hX => hX.S7 (Or.inl rfl)
theorem md_iv.E2 {N : Nt} {m l n : Nat} {R : Rw} (h : md_iv N m R) (hn1 : 1 ≤ n) (hn : n ≤ 1999) : md_iv N m (md_E R l 2 (nI n)) := by
  obtain ⟨h1, h2, h3, h4⟩ := h
  refine ⟨h1, fun a ha => ?_, h3, ?_⟩
  · obtain ⟨a1, ⟨c, c1, c2⟩, a3, a4, a5⟩ := h2 a ha
    refine ⟨fun k hk => by rw [md_Ek (by omega)]; exact a1 k hk, ⟨c, fun f hf => by rw [md_Ek (by omega)]; exact c1 f hf, c2⟩, by rw [md_Ek (by decide)]; exact a3, ?_, by rw [md_Ek (by decide)]; exact a5⟩
    rw [md_E1]
    split
    · exact ⟨n, hn1, hn, rfl⟩
    · exact a4
  · rw [md_sum_congr (h := fun l => R.1 l 3) fun a _ => md_Ek (by decide)]
    exact h4
/-! THE TWIN's trials: the row is X now, it was R; that lies in array k -/
def TwS (k : Nat) (U : (Nat → Nat) × Nat × Int32 × Int32) (N : Nt) (R : Rw) (P : Nat × (Nat → Rw)) (I : Bool × Rw) (X : Rw) (t : TS) : Prop := (∃ cn cr co ns, TT N t X cn cr co ns t) ∧ TwB U P I t ∧ tw_rw R (t.2.2.1 k)
section Ts
variable {U : (Nat → Nat) × Nat × Int32 × Int32} {N : Nt} {R X : Rw} {P : Nat × (Nat → Rw)} {I : Bool × Rw} {t t0 u : TS} {cn cr co : Nat → Int32} {ns : Ns} {Q : Int32 → TS → Prop} {V : Unit → TS → Prop} {a b c x : Int32} {k m : Nat}
theorem ts_save (hk : k = 27 ∨ k = 28) (h : TwA U N R P I t) (kk : ∀ u, TwS k U N R P I R u → V () u) : wp (fm_copies 26 (0 : Int32) k (0 : Int32)) V t := by
  obtain ⟨⟨cn, cr, co, ns, hT⟩, hB⟩ := h
  refine tt_copies (p := 26) (q := k) (i := 0) (k := 0) rfl (by rcases hk with rfl | rfl <;> rfl) (by omega) (by decide) (by rcases hk with rfl | rfl <;> decide) (by decide) (by rcases hk with rfl | rfl <;> decide) rfl rfl fun u h1 h2 h3 h4 h5 => kk u ⟨⟨cn, cr, co, ns, hT.oth (fun q hq => h2 q (by omega)) (by rw [h3])⟩, hB.kept (h2 1 (by omega)) (h2 29 (by omega)) (h2 30 (by omega)) (by rw [h3]) (by rw [h3]) (by rw [h3]) (by rw [h3]) (by rw [h3]), ?_⟩
  refine hT.1.ext fun j hj => ?_
  rw [h1, if_pos (by omega)]
  exact congrArg (t.2.2.1 26) (by omega)
theorem TwS.A (h : TwS k U N R P I R t) : TwA U N R P I t := ⟨h.1, h.2.1⟩
theorem ts_rest (hk : k = 27 ∨ k = 28) (h : TwS k U N R P I X t) (kk : ∀ u, TwS k U N R P I R u → V () u) : wp (fm_copies k (0 : Int32) 26 (0 : Int32)) V t := by
  obtain ⟨⟨cn, cr, co, ns, hT⟩, hB, hR⟩ := h
  refine tt_copies (p := k) (q := 26) (i := 0) (k := 0) (by rcases hk with rfl | rfl <;> rfl) rfl (by omega) (by rcases hk with rfl | rfl <;> decide) (by decide) (by rcases hk with rfl | rfl <;> decide) (by decide) rfl rfl fun u h1 h2 h3 h4 h5 => kk u ⟨⟨cn, cr, co, ns, hT.row (hR.ext fun j hj => ?_) h2 (by rw [h3])⟩, hB.kept (h2 1 (by omega)) (h2 29 (by omega)) (h2 30 (by omega)) (by rw [h3]) (by rw [h3]) (by rw [h3]) (by rw [h3]) (by rw [h3]), by rw [h2 k (by omega)]; exact hR⟩
  rw [h1, if_pos (by omega)]
  exact congrArg (t.2.2.1 k) (by omega)
/-- a restore ahead of an answer -/
theorem ts_end (hk : k = 27 ∨ k = 28) (h : TwS k U N R P I X t) {y : Int32} (hx : x = y) : wp (tw_bd (fm_copies k (0 : Int32) 26 (0 : Int32)) fun _ => tw_rt x) (fun r u => r = y ∧ TwA U N R P I u) t := wp_bd (ts_rest hk h fun _ hu => wp_rt ⟨hx, hu.A⟩)
theorem TwS.w (hk : k = 27 ∨ k = 28) (h : TwS k U N R P I X t) {X' : Rw} (hT : TT N t X' cn cr co ns u) : TwS k U N R P I X' u := ⟨⟨cn, cr, co, ns, hT.base⟩, h.2.1.sm hT.2.2.2.2, by rw [hT.2.2.2.2.2.2.1 k (by omega) (by omega)]; exact h.2.2⟩
theorem ts_tick (hk : k = 27 ∨ k = 28) (hN : md_ok N) (hI : md_iv N m X) (hm : m ≤ 20000) (h : TwS k U N R P I X t) (kk : ∀ u, TwS k U N R P I (md_tk N X) u → (∀ l f, l < md_nl N → f < md_nf N → u.2.2.1 35 (8 * l + f) = md_tc N X l f) → V () u) : wp fm_tickGoes V t := by
  obtain ⟨cn, cr, co, ns, hT⟩ := h.1
  exact tt_tick hN hI hm hT fun u cn cr co ns hT hco => kk u (h.w hk hT) (by rw [hT.2.1.2.2]; exact hco)
theorem tt_isFar (k0 : md_op a 301 = none → Q 0 t) (k1 : ∀ n, n < 301 → a = nI n → md_op a 301 = some n → Q 1 t) : wp (fm_isFar a) Q t := by
  unfold fm_isFar fm_isFar_J15 fm_isFar_J16
  rcases md_op_c a (n := 301) (by decide) with ⟨e1, e2⟩ | ⟨l, hl, rfl, e⟩
  · refine wp_if (fun hc => wp_rz (Or.inl rfl) (k0 e1)) (fun hc => ?_)
    rcases e2 with e2 | e2
    · exact absurd e2 hc
    · exact wp_ifT (Int32.lt_of_lt_of_le (show (300 : Int32) < nI 301 by decide) e2) (wp_rz (Or.inl rfl) (k0 e1))
  · exact wp_ifF (nI_pos (by omega)) (wp_ifF (nI_nlt (a := 300) (by omega) (by decide)) (wp_rz (Or.inr rfl) (k1 l hl rfl e)))
theorem tq_ahead (hN : md_ok N) (hI : md_iv N m R) (hm : m ≤ 9999) (h : TwA U N R P I t) : wp (fm_ahead a b c) (fun r u => r = an_ahead N R a b c ∧ TwA U N R P I u) t := by
  have hL := hN.nl
  unfold fm_ahead fm_ahead_J29
  refine tq_0 h fun u hu => ?_
  obtain ⟨⟨cn, cr, co, ns, hT⟩, hB⟩ := id hu
  unfold an_ahead
  refine wp_bd (tt_isLink hN hT (fun e => ?_) (fun l hl ea e => ?_))
  · rw [e]; exact wp_ifT rfl (wp_rt ⟨rfl, hu⟩)
  rw [e, ea]
  refine wp_ifF (by decide) (wp_bd (tt_isFar (fun e2 => ?_) (fun n hn eb e2 => ?_)))
  · rw [e2]; exact wp_ifT rfl (wp_rt ⟨rfl, hu⟩)
  rw [e2, eb]
  refine wp_ifF (by decide) ?_
  rcases md_op_c c (n := 3) (by decide) with ⟨e3, e4⟩ | ⟨w, hw, rfl, e3⟩
  · rw [e3]
    refine wp_if (fun hc => wp_rt ⟨rfl, hu⟩) (fun hc => ?_)
    rcases e4 with e4 | e4
    · exact absurd e4 hc
    · exact wp_ifF (fun q => absurd (Int32.le_trans e4 q) (by decide)) (wp_rt ⟨rfl, hu⟩)
  rw [e3]
  dsimp only
  refine wp_ifF (nI_pos (by omega)) (wp_ifT (nI_le (b := 2) (by omega) (by decide)) ?_)
  refine wp_bd (ts_save (Or.inl rfl) hu fun u hu => ?_)
  obtain ⟨cn, cr, co, ns, hT⟩ := hu.1
  refine wp_bd (tt_queue hT (by omega) (wp_bd (tt_E (k := 3) hT (by omega) (by decide) ?_)))
  refine wp_forB (J := fun i y v => y = md_am N R l i ∧ TwS 27 U N R P I (md_tn N i R) v) n (by omega) ⟨rfl, hu⟩ rfl ?_ ?_
  · rintro i f y v hi ⟨rfl, hv⟩ hk
    rw [fm_ahead_L67]
    unfold fm_ahead_J97
    refine wp_ifF (nI_ge hi (by omega)) (wp_bd (ts_tick (Or.inl rfl) hN (hI.tn hN (n := i) (by omega)) (by omega) hv fun v hv _ => ?_))
    obtain ⟨cn, cr, co, ns, hT⟩ := hv.1
    refine wp_bd (tt_queue hT (by omega) (wp_if (fun hc => hk _ _ ⟨?_, hv⟩) (fun hc => wp_bd (tt_queue hT (by omega) (hk _ _ ⟨?_, hv⟩)))))
    · rw [md_am, md_mx]; exact (if_neg (i32_nlt.mpr hc)).symm
    · rw [md_am, md_mx]; exact (if_pos (i32_nle.mp hc)).symm
  · rintro f y v ⟨rfl, hv⟩
    rw [fm_ahead_L67]
    unfold fm_ahead_J141
    obtain ⟨cn, cr, co, ns, hT⟩ := hv.1
    refine wp_ifT (Int32.le_refl _) ?_
    match w, hw with
    | 0, _ => exact wp_ifT rfl (wp_bd (tt_queue hT (by omega) (ts_end (Or.inl rfl) hv rfl)))
    | 1, _ => exact wp_ifF (by decide) (wp_ifT rfl (ts_end (Or.inl rfl) hv rfl))
    | 2, _ => exact wp_ifF (by decide) (wp_ifF (by decide) (wp_bd (tt_E (k := 3) hT (by omega) (by decide) (ts_end (Or.inl rfl) hv rfl))))
    | w + 3, h => omega
theorem tq_flows (hN : md_ok N) (hI : md_iv N m R) (hm : m ≤ 9999) (h : TwA U N R P I t) : wp (fm_flows_2 a b c) (fun r u => r = an_flows N R a b c ∧ TwA U N R P I u) t := by
  have hF := hN.nf
  unfold fm_flows_2 fm_flows_2_J29
  refine tq_0 h fun u hu => ?_
  obtain ⟨⟨cn, cr, co, ns, hT⟩, hB⟩ := id hu
  unfold an_flows
  refine wp_bd (tt_isFlow hN hT (fun e => ?_) (fun f hf ea e => ?_))
  · rw [e]; exact wp_ifT rfl (wp_rt ⟨rfl, hu⟩)
  rw [e, ea]
  refine wp_ifF (by decide) (wp_bd (tt_isFar (fun e2 => ?_) (fun n hn eb e2 => ?_)))
  · rw [e2]; exact wp_ifT rfl (wp_rt ⟨rfl, hu⟩)
  rw [e2, eb]
  refine wp_ifF (by decide) ?_
  rcases md_op_c c (n := 3) (by decide) with ⟨e3, e4⟩ | ⟨w, hw, rfl, e3⟩
  · rw [e3]
    refine wp_if (fun hc => wp_rt ⟨rfl, hu⟩) (fun hc => ?_)
    rcases e4 with e4 | e4
    · exact absurd e4 hc
    · exact wp_ifF (fun q => absurd (Int32.le_trans e4 q) (by decide)) (wp_rt ⟨rfl, hu⟩)
  rw [e3]
  dsimp only
  refine wp_ifF (nI_pos (by omega)) (wp_ifT (nI_le (b := 2) (by omega) (by decide)) (wp_bd (tt_flowAt ?_)))
  have run : ∀ (j : Nat) (y : Int32), j < 12 → wp (fm_flows_2_J71 (nI n) (240 + 12 * nI f) (nI j) y) (fun r u => r = (md_tn N n R).2.1 f j - y ∧ TwA U N R P I u) u := by
    intro j y hj
    unfold fm_flows_2_J71
    refine wp_bd (ts_save (Or.inl rfl) hu fun u hu => ?_)
    refine wp_for (J := fun i v => TwS 27 U N R P I (md_tn N i R) v) n (by omega) hu rfl ?_ ?_
    · rintro i f v hi hv hk
      rw [fm_flows_2_L89]
      exact wp_ifF (nI_ge hi (by omega)) (wp_bd (ts_tick (Or.inl rfl) hN (hI.tn hN (n := i) (by omega)) (by omega) hv fun v hv _ => hk v hv))
    · rintro f v hv
      rw [fm_flows_2_L89]
      obtain ⟨cn, cr, co, ns, hT⟩ := hv.1
      exact wp_ifT (Int32.le_refl _) (wp_bd (tt_S hT (by omega) hj (ts_end (Or.inl rfl) hv rfl)))
  unfold fm_flows_2_J53
  match w, hw with
  | 0, _ =>
    refine wp_ifT rfl (wp_ifT rfl ((run 0 0 (by decide)).mono fun r u q => ⟨?_, q.2⟩))
    rw [q.1, Int32.sub_zero]; rfl
  | 1, _ => exact wp_ifF (by decide) (wp_ifT rfl (wp_ifF (by decide) (wp_bd (tt_S (k := 5) hT (by omega) (by decide) (run 5 _ (by decide))))))
  | 2, _ => exact wp_ifF (by decide) (wp_ifF (by decide) (wp_ifF (by decide) (wp_bd (tt_S (k := 4) hT (by omega) (by decide) (run 4 _ (by decide))))))
  | w + 3, h => omega
theorem tt_empty (hN : md_ok N) (h : TT N t0 R cn cr co ns t) (kk : Q (md_bi (md_em N R)) t) : wp fm_isEmpty Q t := by
  have hL := hN.nl
  have hle := md_fd_le (fun l => decide (¬ md_q R l ≤ 0)) (md_nl N)
  unfold fm_isEmpty
  refine wp_for (J := fun i u => u = t) (md_fd (fun l => decide (¬ md_q R l ≤ 0)) (md_nl N)) (by omega) rfl rfl ?_ ?_
  · rintro i f u hi rfl hk
    rw [fm_isEmpty_L2]
    have := of_decide_eq_false (md_fd_no (p := fun l => decide (¬ md_q R l ≤ 0)) hi)
    exact wp_bd (tt_links h (wp_ifF (nI_ge (by omega) (by omega)) (wp_bd (tt_queue h (by omega) (wp_ifT (Decidable.not_not.mp this) (hk _ rfl))))))
  · rintro f u rfl
    rw [fm_isEmpty_L2]
    refine wp_bd (tt_links h ?_)
    unfold md_em at kk
    by_cases e : md_fd (fun l => decide (¬ md_q R l ≤ 0)) (md_nl N) = md_nl N
    · rw [decide_eq_true e] at kk
      rw [e]
      exact wp_ifT (Int32.le_refl _) (wp_rz (Or.inr rfl) kk)
    · rw [decide_eq_false e] at kk
      have := of_decide_eq_true (md_fd_is (p := fun l => decide (¬ md_q R l ≤ 0)) (show md_fd (fun l => decide (¬ md_q R l ≤ 0)) (md_nl N) < md_nl N by omega))
      exact wp_ifF (nI_ge (by omega) (by omega)) (wp_bd (tt_queue h (by omega) (wp_ifF this (wp_rz (Or.inl rfl) kk))))
theorem tq_quiet (hN : md_ok N) (hI : md_iv N m R) (hm : m ≤ 9999) (h : TwA U N R P I t) : wp fm_quiet (fun r u => r = an_quiet N R ∧ TwA U N R P I u) t := by
  have hF := hN.nf
  unfold fm_quiet
  refine tq_0 h fun u hu => ?_
  refine wp_bd (ts_save (Or.inl rfl) hu fun u hu => ?_)
  refine wp_for (J := fun i v => TwS 27 U N R P I (md_it (fun f R => md_S R f 7 0) i R) v) (md_nf N) (by omega) hu rfl ?_ ?_
  · rintro i f v hi hv hk
    rw [fm_quiet_L20]
    obtain ⟨cn, cr, co, ns, hT⟩ := hv.1
    exact wp_bd (tt_flows hT (wp_ifF (nI_ge hi (by omega)) (wp_bd (tt_flowAt (wp_bd (tt_wS (k := 7) hT (by omega) (by decide) fun v hT => hk v (hv.w (Or.inl rfl) hT)))))))
  rintro f v hv
  rw [fm_quiet_L20]
  obtain ⟨cn, cr, co, ns, hT⟩ := hv.1
  refine wp_bd (tt_flows hT (wp_ifT (Int32.le_refl _) ?_))
  have hv : TwS 27 U N R P I (md_tn N 0 (md_off N R)) v := hv
  unfold an_quiet
  have hle := md_fd_le (fun n => md_em N (md_tn N n (md_off N R))) 301
  have fin : ∀ (i : Nat) (v : TS), i ≤ 300 → (i = 300 ∨ md_em N (md_tn N i (md_off N R)) = true) → (∀ j, j < i → md_em N (md_tn N j (md_off N R)) = false) → TwS 27 U N R P I (md_tn N i (md_off N R)) v → wp (fm_quiet_J73 (nI i)) (fun r u => r = md_un (fun n => md_em N (md_tn N n (md_off N R))) ∧ TwA U N R P I u) v := by
    intro i v hi h1 h2 hv
    unfold fm_quiet_J73 fm_quiet_J101
    obtain ⟨cn, cr, co, ns, hT⟩ := hv.1
    refine wp_bd (tt_empty hN hT (wp_bd (ts_rest (Or.inl rfl) hv fun u hu => ?_)))
    have hu := hu.A
    by_cases e : md_em N (md_tn N i (md_off N R)) = true
    · rw [e]
      refine wp_ifF (by decide) (wp_rt ⟨?_, hu⟩)
      rw [md_un, md_fd_eq (n := 301) (by omega) e h2, if_neg (by omega)]
    · have e' : md_em N (md_tn N i (md_off N R)) = false := by rw [← Bool.not_eq_true]; exact e
      rw [e']
      refine wp_ifT rfl (wp_rt ⟨?_, hu⟩)
      have hi3 : i = 300 := by rcases h1 with q | q; exact q; exact absurd q e
      subst hi3
      rw [md_un, if_pos]
      rcases Nat.lt_or_ge (md_fd (fun n => md_em N (md_tn N n (md_off N R))) 301) 301 with q | q
      · have q2 := md_fd_is q
        rcases Nat.lt_or_ge (md_fd (fun n => md_em N (md_tn N n (md_off N R))) 301) 300 with q3 | q3
        · rw [h2 _ q3] at q2; cases q2
        · rw [show md_fd (fun n => md_em N (md_tn N n (md_off N R))) 301 = 300 by omega, e'] at q2; cases q2
      · omega
  refine wp_wh1 (I := fun k x v => ∃ i, i + k = 300 ∧ x = nI i ∧ (∀ j, j < i → md_em N (md_tn N j (md_off N R)) = false) ∧ TwS 27 U N R P I (md_tn N i (md_off N R)) v) 300 (by decide) ⟨0, rfl, rfl, fun j hj => absurd hj (Nat.not_lt_zero _), hv⟩ ?_
  rintro k g x v ⟨i, hik, rfl, hno, hv⟩ hk
  rw [fm_quiet_L49]
  obtain ⟨cn, cr, co, ns, hT⟩ := hv.1
  by_cases e3 : i = 300
  · refine wp_ifT (nI_le (a := 300) (by omega) (by omega)) (fin i v (by omega) (Or.inl e3) hno hv)
  · refine wp_ifF (nI_ge (b := 300) (by omega) (by decide)) (wp_bd (tt_empty hN hT ?_))
    by_cases e : md_em N (md_tn N i (md_off N R)) = true
    · rw [e]
      exact wp_ifF (by decide) (fin i v (by omega) (Or.inr e) hno hv)
    · have e' : md_em N (md_tn N i (md_off N R)) = false := by rw [← Bool.not_eq_true]; exact e
      rw [e']
      refine wp_ifT rfl (wp_bd (ts_tick (Or.inl rfl) hN (hI.off.tn hN (n := i) (by omega)) (by omega) hv fun v hv _ => ?_))
      refine hk (k - 1) _ v (by omega) ⟨i + 1, by omega, nI_1 i, fun j hj => ?_, hv⟩
      by_cases e4 : j = i
      · rw [e4]; exact e'
      · exact hno j (by omega)
theorem tq_worst (hN : md_ok N) (hI : md_iv N m R) (hm : m ≤ 9999) (h : TwA U N R P I t) : wp (fm_worst a) (fun r u => r = an_worst N R a ∧ TwA U N R P I u) t := by
  have hF := hN.nf
  unfold fm_worst fm_worst_J16
  refine tq_0 h fun u hu => ?_
  unfold an_worst
  rcases md_op_1 a (n := 40) (by decide) with ⟨e1, e2⟩ | ⟨j, hj, rfl, e1⟩
  · rw [e1]
    refine wp_if (fun hc => wp_rt ⟨rfl, hu⟩) (fun hc => ?_)
    rcases e2 with e2 | e2
    · exact absurd e2 hc
    · exact wp_ifF (i32_nle.mpr e2) (wp_rt ⟨rfl, hu⟩)
  rw [e1]
  dsimp only
  refine wp_ifF (nI_nlt (b := 1) (by omega) (by omega)) (wp_ifT (nI_le (b := 40) (by omega) (by decide)) ?_)
  refine wp_bd (ts_save (Or.inl rfl) hu fun u hu => ?_)
  have hbest : ∀ i, i ≤ md_nf N → (md_it (md_w1 N R (j + 1)) i (99, 0)).1 = 99 ∨ (md_it (md_w1 N R (j + 1)) i (99, 0)).1 < 8 := by
    intro i hi
    refine md_it_inv (fun (x : Nat × Int32) => x.1 = 99 ∨ x.1 < 8) (Or.inl rfl) fun f x hf hx => ?_
    unfold md_w1
    split
    · exact hx
    · split
      · exact Or.inr (by dsimp only; omega)
      · exact hx
  refine wp_forC (J := fun i y z v => y = (if (md_it (md_w1 N R (j + 1)) i (99, 0)).1 = 99 then -2 else nI (md_it (md_w1 N R (j + 1)) i (99, 0)).1) ∧ z = (md_it (md_w1 N R (j + 1)) i (99, 0)).2 ∧ TwS 27 U N R P I R v) (md_nf N) (by omega) ⟨rfl, rfl, hu⟩ rfl ?_ ?_
  · rintro f g y z v hf ⟨rfl, rfl, hv⟩ hk
    have hb := hbest f (by omega)
    rw [md_it] at hk
    generalize md_it (md_w1 N R (j + 1)) f (99, 0) = x at hk hb
    rw [fm_worst_L39]
    unfold fm_worst_J170
    obtain ⟨cn, cr, co, ns, hT⟩ := hv.1
    refine wp_bd (tt_flows hT (wp_ifF (nI_ge hf (by omega)) (wp_bd (tt_isOn hT (by omega) ?_))))
    rcases (hI.2.2.1 f hf).1 with h7 | h7
    · rw [h7]
      refine wp_ifT (by decide) (hk _ _ v ⟨?_, ?_, hv⟩)
      · rw [md_w1, if_pos h7]
      · rw [md_w1, if_pos h7]
    · rw [h7]
      refine wp_ifF (by decide) ?_
      refine wp_bd (tt_sum (k := 5) hN hT (by decide) rfl ?_)
      refine wp_bd (tt_flowAt (wp_bd (tt_S (k := 5) hT (by omega) (by decide) ?_)))
      refine wp_bd (tt_flowAt (wp_bd (tt_wS (k := 7) hT (by omega) (by decide) fun v' hT' => ?_)))
      have hv' := hv.w (Or.inl rfl) hT'
      have hI' : md_iv N m (md_S R f 7 0) := hI.S7 (Or.inl rfl)
      refine wp_for (J := fun i w => TwS 27 U N R P I (md_tn N i (md_S R f 7 0)) w) (j + 1) (by omega) hv' rfl ?_ ?_
      · rintro i g' w hi hw hk'
        rw [fm_worst_L97]
        exact wp_ifF (nI_ge hi (by omega)) (wp_bd (ts_tick (Or.inl rfl) hN (hI'.tn hN (n := i) (by omega)) (by omega) hw fun w hw _ => hk' w hw))
      · rintro g' w hw
        rw [fm_worst_L97]
        unfold fm_worst_J164 fm_worst_J170
        obtain ⟨cn, cr, co, ns, hT⟩ := hw.1
        refine wp_ifT (Int32.le_refl _) ?_
        refine wp_bd (tt_sum (k := 5) hN hT (by decide) rfl ?_)
        refine wp_bd (tt_flowAt (wp_bd (tt_S (k := 5) hT (by omega) (by decide) ?_)))
        refine wp_bd (ts_rest (Or.inl rfl) hw fun w hw2 => ?_)
        have hne : ¬ R.2.1 f 7 = 0 := by rw [h7]; decide
        rw [md_w1, if_neg hne] at hk
        by_cases e99 : x.1 = 99
        · rw [if_pos e99]
          rw [if_pos (Or.inl e99)] at hk
          refine wp_ifT rfl (hk _ _ w ⟨?_, rfl, hw2⟩)
          rw [if_neg (by dsimp only; omega)]
        · rw [if_neg e99]
          refine wp_ifF ?_ ?_
          · rw [show (-2 : Int32) = -nI 2 from rfl]
            intro q
            have q1 := congrArg Int32.toInt q
            rw [nI_toInt (by omega), show (-nI 2 : Int32).toInt = -2 from by decide] at q1
            omega
          · refine wp_if (fun hc => ?_) (fun hc => ?_)
            · have hcw : x.1 = 99 ∨ x.2 < md_wo N R (j + 1) f := Or.inr hc
              rw [if_pos hcw] at hk
              refine hk _ _ w ⟨?_, rfl, hw2⟩
              rw [if_neg (by dsimp only; omega)]
            · have hcn : ¬ (x.1 = 99 ∨ x.2 < md_wo N R (j + 1) f) := by
                rintro (q | q)
                · exact e99 q
                · exact hc q
              rw [if_neg hcn] at hk
              refine hk _ _ w ⟨?_, rfl, hw2⟩
              rw [if_neg e99]
  · rintro g y z v ⟨rfl, rfl, hv⟩
    rw [fm_worst_L39]
    obtain ⟨cn, cr, co, ns, hT⟩ := hv.1
    exact wp_bd (tt_flows hT (wp_ifT (Int32.le_refl _) (wp_rt ⟨rfl, hv.1, hv.2.1⟩)))
theorem tq_least (hN : md_ok N) (hI : md_iv N m R) (hm : m ≤ 9999) (h : TwA U N R P I t) : wp (fm_leastSize a b) (fun r u => r = an_least N R a b ∧ TwA U N R P I u) t := by
  have hF := hN.nf
  have hL := hN.nl
  unfold fm_leastSize fm_leastSize_J24
  refine tq_0 h fun u hu => ?_
  obtain ⟨⟨cn, cr, co, ns, hT⟩, hB⟩ := id hu
  unfold an_least
  refine wp_bd (tt_isLink hN hT (fun e => ?_) (fun l hl ea e => ?_))
  · rw [e]; exact wp_ifT rfl (wp_rt ⟨rfl, hu⟩)
  rw [e, ea]
  refine wp_ifF (by decide) ?_
  rcases md_op_1 b (n := 100) (by decide) with ⟨e1, e2⟩ | ⟨j, hj, rfl, e1⟩
  · rw [e1]
    refine wp_if (fun hc => wp_rt ⟨rfl, hu⟩) (fun hc => ?_)
    rcases e2 with e2 | e2
    · exact absurd e2 hc
    · exact wp_ifF (i32_nle.mpr e2) (wp_rt ⟨rfl, hu⟩)
  rw [e1]
  dsimp only
  refine wp_ifF (nI_nlt (b := 1) (by omega) (by omega)) (wp_ifT (nI_le (b := 100) (by omega) (by decide)) ?_)
  refine wp_bd (ts_save (Or.inl rfl) hu fun u hu => ?_)
  obtain ⟨cn, cr, co, ns, hT⟩ := hu.1
  refine wp_bd (tt_wE (k := 2) hT (by omega) (by decide) fun u' hT' => ?_)
  have hu' := hu.w (Or.inl rfl) hT'
  refine wp_bd (tt_E (k := 3) hT' (by omega) (by decide) ?_)
  rw [md_Ek (by decide)]
  have hI' : md_iv N m (md_E R l 2 1999) := hI.E2 (n := 1999) (by decide) (by decide)
  refine wp_forB (J := fun i y v => y = md_it (md_l1 N (md_E R l 2 1999) l) i 1 ∧ TwS 27 U N R P I (md_tn N i (md_E R l 2 1999)) v) (j + 1) (by omega) ⟨rfl, hu'⟩ rfl ?_ ?_
  · rintro i g y v hi ⟨rfl, hv⟩ hk
    rw [fm_leastSize_L71]
    refine wp_ifF (nI_ge hi (by omega)) (wp_bd (ts_tick (Or.inl rfl) hN (hI'.tn hN (n := i) (by omega)) (by omega) hv fun v hv hco => ?_))
    have hv : TwS 27 U N R P I (md_tn N (i + 1) (md_E R l 2 1999)) v := hv
    obtain ⟨cn, cr, co, ns, hT⟩ := hv.1
    rw [md_it] at hk
    generalize md_it (md_l1 N (md_E R l 2 1999) l) i 1 = y at hk
    rw [md_l1] at hk
    refine wp_forB (J := fun f w v' => w = md_sum (fun f => md_tc N (md_tn N i (md_E R l 2 1999)) l f) f ∧ v' = v) (md_nf N) (by omega) ⟨rfl, rfl⟩ rfl ?_ ?_
    · rintro f g' w v' hf ⟨rfl, rfl⟩ hk'
      rw [fm_leastSize_L87]
      refine wp_bd (tt_flows hT (wp_ifF (nI_ge hf (by omega)) (wp_bd (tt_co hT (by omega) (by omega) ?_))))
      have := hco l f hl hf
      rw [hT.2.1.2.2] at this
      rw [this]
      exact hk' _ _ ⟨rfl, rfl⟩
    · rintro g' w v' ⟨rfl, rfl⟩
      rw [fm_leastSize_L87]
      unfold fm_leastSize_J141
      refine wp_bd (tt_flows hT (wp_ifT (Int32.le_refl _) ?_))
      refine wp_if (fun hc => hk _ _ ⟨?_, hv⟩) (fun hc => wp_bd (tt_queue hT (by omega) (wp_if (fun hc2 => hk _ _ ⟨?_, hv⟩) (fun hc2 => wp_bd (tt_queue hT (by omega) (hk _ _ ⟨?_, hv⟩))))))
      · rw [if_neg (i32_nlt.mpr hc)]
      · rw [if_pos (i32_nle.mp hc), md_mx, if_neg (i32_nlt.mpr hc2)]
      · rw [if_pos (i32_nle.mp hc), md_mx, if_pos (i32_nle.mp hc2)]
  · rintro g y v ⟨rfl, hv⟩
    rw [fm_leastSize_L71]
    unfold fm_leastSize_J167 fm_leastSize_J194
    obtain ⟨cn, cr, co, ns, hT⟩ := hv.1
    refine wp_ifT (Int32.le_refl _) (wp_bd (tt_E (k := 3) hT (by omega) (by decide) (wp_if (fun hc => ?_) (fun hc => ?_))))
    · rw [if_pos hc]
      exact wp_bd (ts_rest (Or.inl rfl) hv fun _ hu => wp_ifF (by decide) (wp_rt ⟨rfl, hu.A⟩))
    · rw [if_neg hc]
      exact wp_bd (ts_rest (Or.inl rfl) hv fun _ hu => wp_ifT rfl (wp_rt ⟨rfl, hu.A⟩))
end Ts
