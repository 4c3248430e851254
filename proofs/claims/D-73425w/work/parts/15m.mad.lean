/-! what the tables say of a lambda's class that the rule made: its layout, its forwarder, its entries -/
theorem gl_made {σ : Lambda.Shape} {D : ClassFile} {fm : Method} {code : ByteArray} {maxL mi ci nt : Nat} {nm inm idesc : String} {ret : Option FieldType} {fl : List (String × Bool × Nat)} {tys : List FieldType}
    (hf : σ.file "LosslessFabric" = some D) (hic : σ.implClass = "LosslessFabric") (hin : σ.implName = inm) (hid : σ.implDesc.toString = idesc)
    (hm : ∀ ms, layoutMethods D = some ms → ms[1]? = some fm) (hc : (fm.code.map fun c => (c.code.data, c.maxLocals)) = some (code.data, maxL)) (hfl : (fm.accessFlags, fm.name, fm.sig.returnType) = (0x0001, nm, ret))
    (hp : D.constantPool[mi]? = some (.methodref ci nt) ∧ D.constantPool.className? ci = some "LosslessFabric" ∧ D.constantPool.nameAndType? nt = some (inm, idesc))
    (hcl : ∃ n, D.constantPool[ci]? = some (.class_ n) ∧ D.constantPool.string? n = some "LosslessFabric" ∧ ci ≠ D.thisClass)
    (hl : ((layoutFields D 0).map fun l => (l.1.toList.map fun (f : Field) => (f.name, f.isStatic, f.slot), l.2.1.toList)) = some (fl, tys))
    {vm : Vm} {d c : ClassId} {dk : Class} (hd : vm.classes[d]? = some dk) (hname : dk.name = "LosslessFabric") (hO : ∀ o ok, vm.findClass "java/lang/Object" = some o → vm.classes[o]? = some ok → ok.instanceTypes.size = 0)
    (h : Lambda.isMade { classPath := fun _ => none } vm d σ c = true) :
    ∃ (k tk : Class) (file : ClassFile) (methk : Method) (ck : Code) (own : ClassId) (t : MethodId),
      vm.classes[c]? = some k ∧ k.name = "LosslessFabric$$Lambda" ∧ k.kind = .ordinary ∧ k.cf = some file ∧ file.constantPool = D.constantPool ∧
      vm.method? ⟨c, 1⟩ = some methk ∧ methk.code = some ck ∧ ck.code = code ∧ ck.maxLocals = maxL ∧ methk.locks = false ∧ methk.accessFlags = 0x0001 ∧ methk.sig.returnType = ret ∧
      vm.findClass "LosslessFabric" = some own ∧ vm.classes[own]? = some tk ∧ ((methodIn own inm idesc tk.isInterface none).ask { classPath := fun _ => none } vm).1 = .ok t ∧
      vm.methodReady c mi t ∧ vm.classReady c ci own ∧ k.instanceTypes.toList = tys ∧
      (∀ (fi c2 n2 i sl : Nat) (name desc : String), D.constantPool[fi]? = some (.fieldref c2 n2) → D.constantPool.nameAndType? n2 = some (name, desc) → fl.findIdx? (fun q => q.1 == name) = some i → fl[i]? = some (name, false, sl) → ∃ fd : Field, vm.fieldReady c fi c fd ∧ fd.isStatic = false ∧ fd.slot = sl) := by
  obtain ⟨dk', k, ok, tk, file, cf, object, iface, own, lay, methods, target, found, hd', hk, hfile, hcf, hobj, -, hok, hlay, hms, ht, htk, hg, -, hrec, -, -, -, -, hpool, hmeth, hfields, htypes, hres, -⟩ := Lambda.isMade_spec h
  cases hd.symm.trans hd'
  rw [hname, hf] at hcf
  cases hcf
  rw [hic] at ht
  rw [hin, hid] at hg
  have hz := hO object ok hobj hok
  rw [hz] at hlay
  rw [hlay] at hl
  simp only [Option.map_some, Option.some.injEq, Prod.mk.injEq] at hl
  obtain ⟨hl1, hl2⟩ := hl
  have hoe : ok.instanceTypes = #[] := Array.eq_empty_of_size_eq_zero hz
  obtain ⟨b, hb, hsame⟩ := hmeth 1 fm (hm methods hms)
  simp only [Lambda.sameMethod, Bool.and_eq_true, decide_eq_true_eq] at hsame
  obtain ⟨⟨hn, -, hsig, hflg⟩, hcode⟩ := hsame
  simp only [Prod.mk.injEq] at hfl
  cases hfc : fm.code with
  | none => rw [hfc] at hc; cases hc
  | some x =>
    cases hbc : b.code with
    | none => simp [hfc, hbc] at hcode
    | some y =>
      simp only [hfc, hbc, Bool.and_eq_true, decide_eq_true_eq] at hcode
      simp only [hfc, Option.map_some, Option.some.injEq, Prod.mk.injEq] at hc
      obtain ⟨n, h14, hs14, hne⟩ := hcl
      refine ⟨k, tk, file, b, y, own, target, hk, by rw [hrec.1, hname]; rfl, hrec.2.1, hfile, hpool.2.1, by simp [Vm.method?, hk, hb], hbc, ?_, by rw [← hcode.1.1.1.1.2.1]; exact hc.2, ?_, by rw [← hflg]; exact hfl.1, by rw [← hsig]; exact hfl.2.2, ht, htk, hg,
        ⟨k, hk, hres mi _ (Lambda.resolvedOf_method hp.1 hp.2.1 ht htk hp.2.2 hg)⟩, ⟨k, hk, hres ci _ (Lambda.resolvedOf_class h14 hne hs14 ht)⟩, ?_, ?_⟩
      · rw [← hcode.1.1.1.1.2.2]
        exact ByteArray.ext hc.1
      · simp [Method.locks, Method.isSynchronized, ← hflg, hfl.1, hasFlag, Acc.synchronized]
      · rw [htypes.1, hoe]
        simpa using hl2
      · intro fi c2 n2 i sl name desc h1 h2 h3 h4
        rw [← hl1] at h3 h4
        have h5 : lay.1.findIdx? (fun f : Field => f.name == name) = some i := by
          rw [List.findIdx?_map] at h3
          have h8 : lay.1.toList.toArray.findIdx? (fun f : Field => f.name == name) = some i := by
            rw [List.findIdx?_toArray]
            exact h3
          simpa using h8
        rw [List.getElem?_map] at h4
        cases h6 : lay.1.toList[i]? with
        | none => rw [h6] at h4; cases h4
        | some fd =>
          rw [h6] at h4
          simp only [Option.map_some, Option.some.injEq, Prod.mk.injEq] at h4
          have h7 : lay.1[i]? = some fd := by rw [← Array.getElem?_toList]; exact h6
          exact ⟨fd, ⟨k, i, k, hk, hres fi _ (Lambda.resolvedOf_field h1 h2 h5), hk, hfields i fd h7⟩, h4.2.1, h4.2.2⟩
