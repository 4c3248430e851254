/-! a call through an interface, of a lambda's object: the forwarder's walk is asked for, from any state with the facts it needs -/
theorem gl_Oa {args : Array Value} {s : State} {vm' : Vm} (hal : s.vm.Alike vm') (hO : (Cond.instantiable "java/lang/Object" 0).before args s = true) : ∀ o ok, vm'.findClass "java/lang/Object" = some o → vm'.classes[o]? = some ok → ok.instanceTypes.size = 0 := by
  intro o ok h1 h2
  obtain ⟨c, k, h3, h4, -, -, -, h5⟩ := Cond.instantiable_spec hO
  rw [hal.findClass] at h1
  cases h1.symm.trans h3
  obtain ⟨k', h6, he⟩ := hal.2.2 _ _ h4
  cases h2.symm.trans h6
  rw [he]
  exact h5
section GlCall
variable {p : Program} {l : Launch} {e : Env} {R : Room} {s : State} {m : MethodId} {args : Array Value} {below : List Frame} {meth : Method} {c : Code} {H : Heap} {locs : List Loc} {cells slots : Nat} {Q : State → Prop}
variable {cc : ByteArray} {pc : Nat} {ls : Array Slot} {rest : List Value}
theorem gl_call {own : String} {index count : Nat} {xi y x : MethodName} {pc0 idx0 : Nat} {σ : Lambda.Shape} {lk : Linked} {cK : ClassId}
    {D : ClassFile} {fm : Method} {code : ByteArray} {maxL mi ci nt : Nat} {nm inm idesc : String} {ret : Option FieldType} {fl : List (String × Bool × Nat)} {tys : List FieldType}
    {Qc : Array Value → State → Outcome → State → Prop} {mc ms : Nat} {free : Addr → Prop} {R' : Room} {a : Addr} {cell : Cell} {As : List Value} {g : JFrame}
    (hx : p.tables.exec = Jvm.exec) (hb : c.code = cc) (hown : s.vm.findClass own = some m.cls) (hlink : (Cond.methodLink own index xi).before args s = true) (hdecl : (Cond.declares xi).before args s = true) (hface : (Cond.interfaceMethod xi.cls xi.cls xi.name xi.desc).before args s = true) (hxi : xi.cls ≠ "java/lang/invoke/MethodHandle" ∧ xi.cls ≠ "java/lang/invoke/VarHandle")
    (hF : gl_F x pc0 idx0 σ lk cK s) (hxc : x.cls = "LosslessFabric") (hO : (Cond.instantiable "java/lang/Object" 0).before args s = true) (hLi : (Cond.instantiable "LosslessFabric" 18).before args s = true) (hsi : σ.iface = xi.cls) (hsn : σ.name = xi.name) (hsd : σ.sam.toString = xi.desc)
    (hf : σ.file "LosslessFabric" = some D) (hic : σ.implClass = "LosslessFabric") (hin : σ.implName = inm) (hid : σ.implDesc.toString = idesc)
    (hm : ∀ ms, layoutMethods D = some ms → ms[1]? = some fm) (hc : (fm.code.map fun c => (c.code.data, c.maxLocals)) = some (code.data, maxL)) (hfl : (fm.accessFlags, fm.name, fm.sig.returnType) = (0x0001, nm, ret))
    (hp : D.constantPool[mi]? = some (.methodref ci nt) ∧ D.constantPool.className? ci = some "LosslessFabric" ∧ D.constantPool.nameAndType? nt = some (inm, idesc))
    (hcl : ∃ n, D.constantPool[ci]? = some (.class_ n) ∧ D.constantPool.string? n = some "LosslessFabric" ∧ ci ≠ D.thisClass)
    (hl : ((layoutFields D 0).map fun l => (l.1.toList.map fun (f : Field) => (f.name, f.isStatic, f.slot), l.2.1.toList)) = some (fl, tys))
    (hy : y = ⟨"LosslessFabric", inm, idesc⟩)
    (hcell : H[a]? = some cell) (hcls : cell.cls = cK) (hvmc : cell.vm = .none)
    (hn : ∀ sig, parseMethodDescriptor xi.desc = some sig → As.length = sig.parameters.length)
    (hg : g.method = m) (hsize : g.locals.size = c.maxLocals) (hstack : g.stack = As.reverse ++ .ref a :: rest) (hdg : decode cc g.pc = .ok (.invokeinterface index count, 5))
    (hframes : R'.frames + 1 ≤ R.frames) (hlocals : 2 * g.monitorRoom + (rest.map fun v => v.category).sum + (maxL + 11) + R'.locals ≤ R.locals) (hcells : cells + R'.cells ≤ R.cells) (hslots : slots + R'.slots ≤ R.slots)
    (walk : ∀ (s' : State) (below' : List Frame) (methk : Method) (ck : Code), s'.heap = H → s.WarmedH s'.vm → ck.code = code → ck.maxLocals = maxL → methk.locks = false → methk.sig.returnType = ret → gl_R s' cK mi ci nt inm idesc y →
      (∀ (fi c2 n2 i sl : Nat) (name desc : String), D.constantPool[fi]? = some (.fieldref c2 n2) → D.constantPool.nameAndType? n2 = some (name, desc) → fl.findIdx? (fun q => q.1 == name) = some i → fl[i]? = some (name, false, sl) → ∃ fd : Field, s'.vm.fieldReady cK fi cK fd ∧ fd.isStatic = false ∧ fd.slot = sl) →
      W p l e R' s' ⟨cK, 1⟩ (.ref a :: As).toArray below' methk ck H [] 0 0 (MQ below' Qc (.ref a :: As).toArray s' mc ms free) (entryFrame ⟨cK, 1⟩ (.ref a :: As).toArray maxL)) :
    va_Run5 p l e R s m args below meth c H locs cells slots mc ms g rest (Qc (Value.ref a :: As).toArray) free := by
  subst hcls
  obtain ⟨r0, r, hnr, hrm, hstR, hsigR⟩ := Cond.declares_spec hdecl
  obtain ⟨cL, kL, r1, hcL, hkL, hiL, hfoundL, hn1⟩ := Cond.interfaceMethod_spec hface
  cases hnr.symm.trans hn1
  have hr0cls : r0.cls = cL := Option.some.inj ((findClass_of_methodNamed hnr).symm.trans hcL)
  obtain ⟨hnameR, hdescR⟩ := name_of_methodNamed hnr hrm
  have hF2 := hF
  obtain ⟨mD, kD, cfD, i0, p0, hmD, hkD, hcfD, hshD, hfindD, hmade, hcan⟩ := hF2
  obtain ⟨kD', hkD', hnameD⟩ := className_of_methodNamed hmD
  cases hkD.symm.trans hkD'
  rw [hxc] at hnameD
  obtain ⟨kK, tk, file, methk, ck, own0, t, hkK, hkn, hkind, hfile, hpool, hmk, hck, hbytes, hmlK, hlkK, hflK, hretK, hown0, htk, hlook, hready, hclsR, -, hfld⟩ := gl_made hf hic hin hid hm hc hfl hp hcl hl hkD hnameD (gl_O hO) hmade
  obtain ⟨-, -, -, -, -, -, -, iface', -, -, -, -, found, -, -, -, -, -, hi', -, -, -, -, -, -, hfound', -, -, -, -, -, -, -, -, -, -, hsel⟩ := Lambda.isMade_spec hmade
  rw [hsi] at hi'
  cases hcL.symm.trans hi'
  have hfr : found = r0 := by
    have h1 : s.methodFound? xi.cls xi.name xi.desc = some r0 := hfoundL
    simp only [State.methodFound?, hcL, hkL, hiL, Option.bind_eq_bind, Option.bind_some] at h1
    rw [hsn, hsd] at hfound'
    rw [hfound'] at h1
    exact Option.some.inj h1
  subst hfr
  obtain ⟨i2, hi2, hasg, hway⟩ := State.lambdaCallable_spec hcan
  rw [hsi] at hi2
  cases hcL.symm.trans hi2
  rw [hsn, hsd] at hway
  intro T hT X
  obtain ⟨vm₁, X₁, hstep₁⟩ := X.invokeinterface hx hown hlink hnr hrm hstR (by rw [hr0cls]; exact hkL) hiL hxi (a := a) (cell := cell) (kcell := kK) (by rw [hT]; exact hcell) (fun z h => by rw [hvmc] at h; cases h) hkK (by rw [hr0cls]; exact hasg)
    (m' := ⟨cell.cls, 1⟩) (meth' := methk) (by rw [Launch.admits_selectMethod X.admits]; exact hsel) hmk (by rw [hnameR, hdescR]; exact hway) (by rw [hflK]; decide) (by simp [Method.isAbstract, hflK, hasFlag, Acc.abstract])
    (g := g) hg (argsL := As) (rest := rest) (hn _ hsigR) hstack (by rw [hb]; exact hdg)
  have hW₁ : s.WarmedH vm₁ := X₁.warmed
  have hF1 : gl_F x pc0 idx0 σ lk cell.cls (T.setVm vm₁) := hF.warm hW₁
  obtain ⟨mD1, kD1, cfD1, i1, p1, hmD1, hkD1, -, -, -, hmade1, -⟩ := hF1
  obtain ⟨kD1', hkD1', hnameD1⟩ := className_of_methodNamed hmD1
  cases hkD1.symm.trans hkD1'
  rw [hxc] at hnameD1
  obtain ⟨kK1, tk1, file1, methk1, ck1, own1, t1, hkK1, hkn1, hkind1, hfile1, hpool1, hmk1, hck1, hbytes1, hmlK1, hlkK1, hflK1, hretK1, hown1, htk1, hlook1, hready1, hclsR1, -, hfld1⟩ := gl_made hf hic hin hid hm hc hfl hp hcl hl hkD1 hnameD1 (gl_Oa hW₁.alike hO) hmade1
  have hpk : (T.setVm vm₁).plainMethod ⟨cell.cls, 1⟩ := State.plainMethod.of_name (fun k' hk' => by cases hkK1.symm.trans hk'; rw [hkn1]; decide)
  have hLi1 : tk1.name = "LosslessFabric" ∧ tk1.isInterface = false := by
    obtain ⟨cX, kX, hcX, hkX, -, hitf, -, -⟩ := Cond.instantiable_spec hLi
    have h1 : vm₁.findClass "LosslessFabric" = some cX := by rw [hW₁.alike.findClass]; exact hcX
    cases hown1.symm.trans h1
    obtain ⟨kX', hkX', heX⟩ := hW₁.alike.2.2 _ _ hkX
    cases htk1.symm.trans hkX'
    obtain ⟨kZ, hkZ, hnZ⟩ := Vm.findClass_spec hcX
    cases hkX.symm.trans hkZ
    refine ⟨by rw [heX]; exact hnZ, ?_⟩
    rw [heX]
    simp only [Bool.or_eq_false_iff] at hitf
    exact hitf.1
  obtain ⟨v, t9, T', L, X', hfree, e1, e2, hQ, st⟩ := gl_into X₁ (g := { g with stack := rest }) (mk := ⟨cell.cls, 1⟩) (methk := methk1) (ck := ck1) (a := (Value.ref a :: As).toArray) (R' := R') (Qc := Qc) (mc := mc) (ms := ms) (free := free) hg hsize (ig := .invokeinterface index count) (len := 5) (by rw [hb]; exact hdg) hmk1 hck1 hlkK1 hpk hframes (by rw [hmlK1]; exact hlocals) hcells hslots
    (by
      rw [hmlK1]
      have hH : (T.setVm vm₁).heap = H := hT
      rw [hH]
      refine walk _ _ methk1 ck1 hT hW₁ hbytes1 hmlK1 hlkK1 hretK1 ⟨⟨kK1, file1, own1, tk1, hkK1, hfile1, by rw [hpool1]; exact hp.1, by rw [hpool1]; exact hp.2.2, hclsR1, htk1, hLi1.1, hLi1.2⟩, fun mk hmk9 => ?_⟩ hfld1
      have h1 : (T.setVm vm₁).methodNamed? y = some mk := hmk9
      have h2 := State.methodFound?_of_named h1 (by rw [hy]; exact ⟨(by decide : "LosslessFabric" ≠ "java/lang/invoke/MethodHandle"), (by decide : "LosslessFabric" ≠ "java/lang/invoke/VarHandle")⟩)
      rw [hy] at h2
      have hown2 : vm₁.findClass "LosslessFabric" = some own1 := hown1
      have htk2 : vm₁.classes[own1]? = some tk1 := htk1
      have hlook2 : ((methodIn own1 inm idesc tk1.isInterface none).ask { classPath := fun _ => none } vm₁).1 = .ok t1 := hlook1
      simp only [State.methodFound?, State.vm_setVm, hown2, htk2, Option.bind_eq_bind, Option.bind_some] at h2
      rw [hlook2] at h2
      have h3 : t1 = mk := Option.some.inj h2
      rw [← h3]
      exact hready1)
  refine ⟨v, (T.setVm vm₁).calling { g with stack := rest } ⟨cell.cls, 1⟩ (Value.ref a :: As).toArray, t9, T', L, hT, X', hfree, e1, e2, hQ, fun target h => hstep₁ _ fun acts => (st acts).trans h⟩
end GlCall
