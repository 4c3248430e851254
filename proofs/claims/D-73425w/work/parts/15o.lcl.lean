/-! into a lambda's forwarder and out of it -/
section GlIn
variable {p : Program} {l : Launch} {e : Env} {R : Room} {s : State} {m : MethodId} {args : Array Value} {below : List Frame} {meth : Method} {c : Code} {H : Heap} {locs : List Loc} {cells slots : Nat} {Q : State → Prop} {T : State}
variable {cc : ByteArray} {pc : Nat} {ls : Array Slot} {rest : List Value}
theorem gl_mready (X : Stand p l e R s m args below meth c T locs cells slots) {d i : Nat} {t : MethodId} (h : s.vm.methodReady d i t) : T.vm.methodReady d i t := by
  obtain ⟨k, hk, hres⟩ := h
  obtain ⟨k', hk', -⟩ := X.warmed.alike.2.2 _ _ hk
  refine ⟨k', hk', ?_⟩
  rcases X.warmed.entry hk hk' i with e1 | ⟨e1, -⟩
  · rw [e1]; exact hres
  · rw [hres] at e1; cases e1
theorem gl_cready (X : Stand p l e R s m args below meth c T locs cells slots) {d i t : Nat} (h : s.vm.classReady d i t) : T.vm.classReady d i t := by
  obtain ⟨k, hk, hres⟩ := h
  obtain ⟨k', hk', -⟩ := X.warmed.alike.2.2 _ _ hk
  refine ⟨k', hk', ?_⟩
  rcases X.warmed.entry hk hk' i with e1 | ⟨e1, -⟩
  · rw [e1]; exact hres
  · rw [hres] at e1; cases e1
theorem gl_fready (X : Stand p l e R s m args below meth c T locs cells slots) {d i fc : Nat} {fd : Field} (h : s.vm.fieldReady d i fc fd) : T.vm.fieldReady d i fc fd := by
  obtain ⟨k, j, kc, hk, hres, hkc, hfd⟩ := h
  obtain ⟨k', hk', -⟩ := X.warmed.alike.2.2 _ _ hk
  obtain ⟨kc', hkc', hec⟩ := X.warmed.alike.2.2 _ _ hkc
  refine ⟨k', j, kc', hk', ?_, hkc', by rw [hec]; exact hfd⟩
  rcases X.warmed.entry hk hk' i with e1 | ⟨e1, -⟩
  · rw [e1]; exact hres
  · rw [hres] at e1; cases e1
theorem gl_getf (hexec : p.tables.exec = Jvm.exec) (hb : c.code = cc) {idx a fc : Nat} {fd : Field} {cell : Cell} {v : Value} (hr : s.vm.fieldReady m.cls idx fc fd) (hst : fd.isStatic = false) (hcell : H[a]? = some cell) (hknown : cell.vm ≠ .unknown) (hv : cell.slots[fd.slot]? = some v) (hdg : decode cc pc = .ok (.getfield idx, 3))
    (kk : W p l e R s m args below meth c H locs cells slots Q (F0 m (pc + 3) ls (v :: rest))) : W p l e R s m args below meth c H locs cells slots Q (F0 m pc ls (.ref a :: rest)) := by
  intro T hT X
  obtain ⟨t, a1, b1⟩ := kk T hT X
  refine ⟨t, ?_, b1⟩
  jvm_step X.here [hexec, hb, hdg, getfield.wp_ready (e := e) (s := T) (f := F0 m pc ls (.ref a :: rest)) X.here.top (gl_fready X hr) hst rfl (by rw [hT]; exact hcell) hknown hv]
  exact a1
/-- a method entered by its number, walked, left: what its walk gives -/
theorem gl_into (X : Stand p l e R s m args below meth c T locs cells slots) {g : JFrame} (hg : g.method = m) (hsize : g.locals.size = c.maxLocals) {ig : Instr} {len : Nat} (hdg : decode c.code g.pc = .ok (ig, len))
    {mk : MethodId} {methk : Method} {ck : Code} {a : Array Value} {R' : Room} (hmk : T.vm.method? mk = some methk) (hck : methk.code = some ck) (hlk : methk.locks = false) (hpk : T.plainMethod mk)
    (hframes : R'.frames + 1 ≤ R.frames) (hlocals : 2 * g.monitorRoom + (g.stack.map fun v => v.category).sum + (ck.maxLocals + 11) + R'.locals ≤ R.locals) (hcells : cells + R'.cells ≤ R.cells) (hslots : slots + R'.slots ≤ R.slots)
    {Qc : Array Value → State → Outcome → State → Prop} {mc ms : Nat} {free : Addr → Prop}
    (hW : W p l e R' (T.calling g mk a) mk a (.java g :: below) methk ck T.heap [] 0 0 (MQ (.java g :: below) Qc a (T.calling g mk a) mc ms free) (entryFrame mk a ck.maxLocals)) :
    ∃ (v : Option Value) (t T' : State) (L : List Loc), Stand p l e R s m args below meth c T' (locs ++ L) (cells + mc) (slots + ms) ∧ (∀ q ∈ L, free q.base) ∧ T'.heap = t.heap ∧ T'.vm = t.vm ∧ Qc a (T.calling g mk a) (.returned v) t ∧
      ∀ acts, Steps p.tables e below (doInvoke e (T.setTop g) acts mk a).1 (T'.setTop { g with pc := g.pc + len, stack := v.toList ++ g.stack }) := by
  obtain ⟨Y₀, hin⟩ := X.into hg hsize hdg a (R' := R') hmk hck hlk hpk hframes hlocals hcells hslots
  obtain ⟨t, hst, o, hrun, hended, hQ, L, ⟨⟨v, hv⟩, hWe, hsame⟩, hfree⟩ := hW ((T.setTop g).pushFrame (.java (entryFrame mk a ck.maxLocals))) rfl Y₀
  subst hv
  obtain ⟨T', X', hW', hB, ht⟩ := X.outOf hg hdg hended hWe hsame
  refine ⟨v, t, T', L, X', hfree, ?_, ?_, hQ, fun acts => ?_⟩
  · rw [ht]; rfl
  · rw [ht]; rfl
  · rw [hin acts, ← ht]
    exact Steps.weaken (mid := [.java g]) hst
/-- what a forwarder's call of its target asks of the tables: its own class's entries, the target by its name -/
def gl_R (s : State) (cK : ClassId) (index ci nt : Nat) (inm idesc : String) (y : MethodName) : Prop :=
  (∃ (kK : Class) (file : ClassFile) (own : ClassId) (tk : Class), s.vm.classes[cK]? = some kK ∧ kK.cf = some file ∧ file.constantPool[index]? = some (.methodref ci nt) ∧ file.constantPool.nameAndType? nt = some (inm, idesc) ∧ s.vm.classReady cK ci own ∧ s.vm.classes[own]? = some tk ∧ tk.name = "LosslessFabric" ∧ tk.isInterface = false) ∧ ∀ mk, s.methodNamed? y = some mk → s.vm.methodReady cK index mk
theorem gl_sp {tk : Class} (h : tk.name = "LosslessFabric") (y : Method) : signaturePolymorphic tk y = false := by
  have h1 : tk.name ≠ "java/lang/invoke/MethodHandle" := by rw [h]; decide
  have h2 : tk.name ≠ "java/lang/invoke/VarHandle" := by rw [h]; decide
  simp [signaturePolymorphic, h1, h2]
theorem gl_runS {y : MethodName} {bytes : ByteArray} {maxL mc ms n index ci nt : Nat} {inm idesc : String} {ret : Option FieldType} {ws : List Cond} {rm : Room} {Pc : Array Value → State → Prop} {Qc : Array Value → State → Outcome → State → Prop} {free : Addr → Prop} {As : List Value} {g : JFrame}
    (hx : p.tables.exec = Jvm.exec) (hb : c.code = cc) (hM : Met l y ws rm Pc Qc mc ms free) (hrc : rm.cells = mc) (hrs : rm.slots = ms) (hfr : rm.frames + 1 ≤ R.frames) (hlo : 8 + (maxL + 11) + rm.locals ≤ R.locals) (hws : ∀ w ∈ ws, ∀ (a' : Array Value) (U : State), s.WarmedH U.vm → w.before a' U = true) (hcw : Cond.code y bytes maxL ret ∈ ws)
    (hcode : (Cond.code y bytes maxL ret).before args s = true) (hini : (Cond.initialized y.cls).before args s = true) (hstt : (Cond.static y).before args s = true) (hyc : y.cls = "LosslessFabric") (hn : ∀ sig, parseMethodDescriptor y.desc = some sig → As.length = sig.parameters.length) (hR : gl_R s m.cls index ci nt inm idesc y) (hp : PreS s H Pc As)
    (hg : g.method = m) (hsize : g.locals.size = c.maxLocals) (hstack : g.stack = As.reverse ++ rest) (hW : 2 * g.monitorRoom + (rest.map fun v => v.category).sum ≤ 8) (hdg : decode cc g.pc = .ok (.invokestatic index, 3)) (hf : cells + mc ≤ R.cells ∧ slots + ms ≤ R.slots) :
    va_Run p l e R s m args below meth c H locs cells slots mc ms g rest (Qc As.toArray) free := by
  have hK : Back l R p e below s args y 3 8 (PreOf R mc ms Pc) (PostOf Qc mc ms free) := back_of (bytes := bytes) (maxL := maxL) (ret := ret) hM hp.1 hrc hrs hfr hlo hws hcw (fun a' U hW => word_at hW (Or.inl (by first | rfl | simp [Cond.onTables, Cond.keeps, Cond.steady])) hini)
  obtain ⟨mk, hnamed⟩ := Cond.code_named hcode
  obtain ⟨methM, cM, hmethM, -, -, -, -, -, -, hsigM⟩ := Cond.code_spec hnamed hcode
  have hstatic : methM.isStatic = true := Cond.static_spec hnamed hmethM hstt
  obtain ⟨kP, hkP, hkPn⟩ := className_of_methodNamed hnamed
  rw [hyc] at hkPn
  have hinitP : kP.init = .initialized := Cond.initialized_spec (findClass_of_methodNamed hnamed) hkP hini
  obtain ⟨⟨kK, file, own, tk, h1, h2, h3, h4, h5, h6, h7, h8⟩, h9⟩ := hR
  intro T hT X
  obtain ⟨v, ⟨U', l2, c2, s2⟩, X', ⟨g', mk', t, L, e1, e2, hq, g1, hL, g2, g3⟩, hsteps⟩ := hK m meth c ⟨T, locs, cells, slots⟩ { g with stack := rest } (.invokestatic index) mk As.toArray X hg hsize (by rw [hb]; exact hdg) hW (X.named hnamed) ⟨hf.1, hf.2, hp.2 T hT X.warmed⟩
  dsimp only [Pt.U, Pt.locs, Pt.cells, Pt.slots] at X' e1 e2 g1 g2 g3 hsteps
  subst g1; subst g2; subst g3
  refine ⟨v, T.calling g' mk' As.toArray, t, U', L, hT, X', hL, e1, e2, hq, fun target h => ?_⟩
  subst hg
  obtain ⟨kK', hkK', heK⟩ := X.warmed.alike.2.2 _ _ h1
  obtain ⟨tk', htk', het⟩ := X.warmed.alike.2.2 _ _ h6
  obtain ⟨kP', hkP', heP⟩ := X.warmed.alike.2.2 _ _ hkP
  have hi' : kP'.init = .initialized := by rw [heP]; exact hinitP
  obtain ⟨b, hmem⟩ := memberRef_ask' (e := e) (vm := T.vm) (d := g.method.cls) (index := index) hkK' (by rw [heK]; exact h2) (Or.inl h3) h4
  have hm' : T.vm.method? mk = some methM := by rw [X.warmed.alike.method?]; exact hmethM
  jvm_step X.here [hx, hb, hdg, invokestatic.wp_ready (e := e) (s := T) (f := g) (m := mk) (k := kP') (meth := methM) (args := As) (rest := rest) X.here.top ⟨ci, _, _, b, own, tk', hmem, gl_cready X h5, htk', by simp [gl_sp (show tk'.name = "LosslessFabric" by rw [het]; exact h7)]⟩ (gl_mready X (h9 mk hnamed)) hkP' hm' (gl_sp (by rw [heP]; exact hkPn) _) hstatic hi' (hn _ hsigM) hstack]
  intro acts
  rw [doInvoke_state]
  exact hsteps.trans h
theorem gl_runV {y : MethodName} {bytes : ByteArray} {maxL mc ms n index ci nt : Nat} {inm idesc : String} {ret : Option FieldType} {ws : List Cond} {rm : Room} {Pc : Array Value → State → Prop} {Qc : Array Value → State → Outcome → State → Prop} {free : Addr → Prop} {b : Addr} {As : List Value} {g : JFrame}
    (hx : p.tables.exec = Jvm.exec) (hb : c.code = cc) (hM : Met l y ws rm Pc Qc mc ms free) (hrc : rm.cells = mc) (hrs : rm.slots = ms) (hfr : rm.frames + 1 ≤ R.frames) (hlo : 8 + (maxL + 11) + rm.locals ≤ R.locals) (hws : ∀ w ∈ ws, ∀ (a' : Array Value) (U : State), s.WarmedH U.vm → w.before a' U = true) (hcw : Cond.code y bytes maxL ret ∈ ws)
    (hcode : (Cond.code y bytes maxL ret).before args s = true) (hini : (Cond.initialized y.cls).before args s = true) (hinst : (Cond.instanceMethod y).before args s = true) (hsel : (Cond.selects "LosslessFabric" y y).before args s = true) (hyc : y.cls = "LosslessFabric") (hn : ∀ sig, parseMethodDescriptor y.desc = some sig → As.length = sig.parameters.length) (hR : gl_R s m.cls index ci nt inm idesc y) (hp : PreV s H "LosslessFabric" b Pc As)
    (hg : g.method = m) (hsize : g.locals.size = c.maxLocals) (hstack : g.stack = As.reverse ++ .ref b :: rest) (hW : 2 * g.monitorRoom + (rest.map fun v => v.category).sum ≤ 8) (hdg : decode cc g.pc = .ok (.invokevirtual index, 3)) (hf : cells + mc ≤ R.cells ∧ slots + ms ≤ R.slots) :
    va_Run p l e R s m args below meth c H locs cells slots mc ms g rest (Qc (Value.ref b :: As).toArray) free := by
  have hK : Back l R p e below s args y 3 8 (PreOf R mc ms Pc) (PostOf Qc mc ms free) := back_of (bytes := bytes) (maxL := maxL) (ret := ret) hM hp.1 hrc hrs hfr hlo hws hcw (fun a' U hW => word_at hW (Or.inl (by first | rfl | simp [Cond.onTables, Cond.keeps, Cond.steady])) hini)
  have hy : y.cls ≠ "java/lang/invoke/MethodHandle" ∧ y.cls ≠ "java/lang/invoke/VarHandle" := by rw [hyc]; decide
  obtain ⟨mk, methM, hnamed, hmethM, hstM, habM⟩ := Cond.instanceMethod_spec hinst
  obtain ⟨methM', cM, hmethM', -, -, -, -, -, -, hsigM⟩ := Cond.code_spec hnamed hcode
  cases hmethM.symm.trans hmethM'
  obtain ⟨-, ⟨cellB, hcB, hoB, hclB⟩, hPc⟩ := hp
  obtain ⟨c2, r2, m2, q1, q2, q3, q4, kP, hkP, hkPi⟩ := Cond.selects_spec hsel
  cases hclB.symm.trans q1
  cases (State.methodFound?_of_named hnamed hy).symm.trans q2
  cases hnamed.symm.trans q3
  obtain ⟨kP2, hkP2, hkPn⟩ := className_of_methodNamed hnamed
  cases hkP.symm.trans hkP2
  rw [hyc] at hkPn
  obtain ⟨⟨kK, file, own, tk, h1, h2, h3, h4, h5, h6, h7, h8⟩, h9⟩ := hR
  intro T hT X
  have hselP : selectMethod e.platform s.vm cellB.cls mk = .method mk := by rw [Launch.admits_selectMethod X.admits]; exact q4
  obtain ⟨v, ⟨U', l2, c2, s2⟩, X', ⟨g', mk', t, L, e1, e2, hq, g1, hL, g2, g3⟩, hsteps⟩ := hK m meth c ⟨T, locs, cells, slots⟩ { g with stack := rest } (.invokevirtual index) mk (Value.ref b :: As).toArray X hg hsize (by rw [hb]; exact hdg) hW (X.named hnamed) ⟨hf.1, hf.2, hPc T hT X.warmed⟩
  dsimp only [Pt.U, Pt.locs, Pt.cells, Pt.slots] at X' e1 e2 g1 g2 g3 hsteps
  subst g1; subst g2; subst g3
  refine ⟨v, T.calling g' mk' (Value.ref b :: As).toArray, t, U', L, hT, X', hL, e1, e2, hq, fun target h => ?_⟩
  subst hg
  obtain ⟨kK', hkK', heK⟩ := X.warmed.alike.2.2 _ _ h1
  obtain ⟨tk', htk', het⟩ := X.warmed.alike.2.2 _ _ h6
  obtain ⟨kP', hkP', heP⟩ := X.warmed.alike.2.2 _ _ hkP
  have hm' : T.vm.method? mk = some methM := by rw [X.warmed.alike.method?]; exact hmethM
  jvm_step X.here [hx, hb, hdg, invokevirtual.wp_ready (e := e) (s := T) (f := g) (r := mk) (m := mk) (k := kP') (mk := kP') (rmeth := methM) (meth := methM) (args := As) (rest := rest) (a := b) (cell := cellB) X.here.top ⟨kK', file, ci, nt, own, tk', hkK', by rw [heK]; exact h2, h3, gl_cready X h5, htk', by rw [het]; exact h8⟩ (gl_mready X (h9 mk hnamed)) hkP' hm' (gl_sp (by rw [heP]; exact hkPn) _) hstM (hn _ hsigM) hstack (by rw [hT]; exact hcB) (fun z h => by rw [h] at hoB; cases hoB) (by rw [X.warmed.alike.selectMethod]; exact hselP) hm' habM hkP' (by rw [heP]; exact hkPi)]
  intro acts
  rw [doInvoke_state]
  exact hsteps.trans h
end GlIn
