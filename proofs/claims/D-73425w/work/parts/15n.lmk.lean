/-! a lambda's site, linked by the rule: what is known of it; the instruction that makes its object -/
def gl_F (x : MethodName) (pc idx : Nat) (σ : Lambda.Shape) (lk : Linked) (cK : ClassId) (U : State) : Prop :=
  ∃ (m : MethodId) (k : Class) (cf : ClassFile) (i0 p0 : Nat), U.methodNamed? x = some m ∧ U.vm.classes[m.cls]? = some k ∧ k.cf = some cf ∧ Lambda.shapeOf? cf idx = some σ ∧ (k.callSites.find? fun y => y.1 == m.idx && y.2.1 == pc) = some (i0, p0, lk) ∧ Lambda.isMade { classPath := fun _ => none } U.vm m.cls σ cK = true ∧ U.lambdaCallable σ cK = true
theorem gl_F.warm {x : MethodName} {pc idx : Nat} {σ : Lambda.Shape} {lk : Linked} {cK : ClassId} {s U : State} (hW : s.WarmedH U.vm) (h : gl_F x pc idx σ lk cK s) : gl_F x pc idx σ lk cK U := by
  obtain ⟨m, k, cf, i0, p0, hm, hk, hcf, hsh, hfind, hmade, hcall⟩ := h
  obtain ⟨k', hk', he⟩ := hW.alike.2.2 _ _ hk
  refine ⟨m, k', cf, i0, p0, ?_, hk', by rw [he]; exact hcf, hsh, by rw [he]; exact hfind, Lambda.isMade_warmer hW hmade, ?_⟩
  · have := State.methodNamed?_setVm (s := s) hW.alike x
    rw [hm] at this
    exact this
  · have hA := hW.alike
    simp only [State.lambdaCallable, hA.findClass, hA.assignable, hA.superclasses, hA.declaredIn] at hcall ⊢
    exact hcall
theorem gl_F.same {x : MethodName} {pc idx : Nat} {σ : Lambda.Shape} {lk : Linked} {cK : ClassId} {u U : State} (hv : U.vm = u.vm) (h : gl_F x pc idx σ lk cK u) : gl_F x pc idx σ lk cK U := by
  have hW : u.WarmedH U.vm := by rw [hv]; exact State.WarmedH.refl u
  exact h.warm hW
/-! the site's entry in the class's pool, out of its shape (after the library's Shelf42 way, which isn't at hand here) -/
theorem gl_v19 {α : Type} {x : Option CpInfo} {f : Nat → Nat → Option α} {r : α} (h : Lambda.shapeOf?.match_19 (fun _ => Option α) x f (fun _ => none) = some r) : ∃ b nt, x = some (.invokeDynamic b nt) ∧ f b nt = some r := by
  split at h
  · exact ⟨_, _, rfl, h⟩
  · cases h
theorem gl_v17 {α : Type} {x : Option CpInfo} {f : Nat → Option α} {r : α} (h : Lambda.shapeOf?.match_17 (fun _ => Option α) x f (fun _ => none) = some r) : ∃ y, f y = some r := by
  split at h
  · exact ⟨_, h⟩
  · cases h
theorem gl_v15 {α : Type} {x : Array Nat} {f : Nat → Nat → Nat → Option α} {r : α} (h : Lambda.shapeOf?.match_15 (fun _ => Option α) x f (fun _ => none) = some r) : ∃ a0 a1 a2, f a0 a1 a2 = some r := by
  rcases x with ⟨L⟩
  match L, h with
  | [], h => cases h
  | [_], h => cases h
  | [_, _], h => cases h
  | [a, b, c], h => exact ⟨a, b, c, h⟩
  | _ :: _ :: _ :: _ :: _, h => cases h
theorem gl_v9 {α : Type} {x : Option CpInfo} {f : Nat → Option α} {r : α} (h : Lambda.shapeOf?.match_9 (fun _ => Option α) x f (fun _ => none) = some r) : ∃ y, f y = some r := by
  split at h
  · exact ⟨_, h⟩
  · cases h
theorem gl_v12 {α : Type} {x : Option CpInfo} {f : Nat → Nat → Option α} {r : α} (h : Lambda.shapeOf?.match_12 (fun _ => Option α) x f (fun _ => none) = some r) : ∃ y z, f y z = some r := by
  split at h
  · exact ⟨_, _, h⟩
  · cases h
theorem gl_v6 {α : Type} {x : Option FieldType} {f : String → Option α} {r : α} (h : Lambda.shapeOf?.match_6 (fun _ => Option α) x f (fun _ => none) = some r) : ∃ y, f y = some r := by
  split at h
  · exact ⟨_, h⟩
  · cases h
theorem gl_entry {cf : ClassFile} {idx : Nat} {σ : Lambda.Shape} (h : Lambda.shapeOf? cf idx = some σ) : ∃ (b nt : Nat) (name desc : String) (sig : MethodDescriptor), cf.constantPool[idx]? = some (.invokeDynamic b nt) ∧ cf.constantPool.nameAndType? nt = some (name, desc) ∧ parseLongMethodDescriptor desc = some sig ∧ sig.parameters = σ.captured := by
  unfold Lambda.shapeOf? at h
  obtain ⟨b, nt, hc, h⟩ := gl_v19 h
  obtain ⟨entries, -, h⟩ := Option.bind_eq_some_iff.mp h
  obtain ⟨bm, -, h⟩ := Option.bind_eq_some_iff.mp h
  obtain ⟨r, h⟩ := gl_v17 h
  obtain ⟨_, -, h⟩ := Option.bind_eq_some_iff.mp h
  obtain ⟨a0, a1, a2, h⟩ := gl_v15 h
  obtain ⟨d0, h⟩ := gl_v9 h
  obtain ⟨kind, r1, h⟩ := gl_v12 h
  obtain ⟨d2, h⟩ := gl_v9 h
  obtain ⟨⟨name, desc⟩, hnt, h⟩ := Option.bind_eq_some_iff.mp h
  obtain ⟨site, hsite, h⟩ := Option.bind_eq_some_iff.mp h
  obtain ⟨ifc, h⟩ := gl_v6 h
  obtain ⟨_, -, h⟩ := Option.bind_eq_some_iff.mp h
  obtain ⟨x1, -, h⟩ := Option.bind_eq_some_iff.mp h
  obtain ⟨x2, -, h⟩ := Option.bind_eq_some_iff.mp h
  obtain ⟨x3, -, h⟩ := Option.bind_eq_some_iff.mp h
  obtain ⟨x4, -, h⟩ := Option.bind_eq_some_iff.mp h
  obtain ⟨x5, -, h⟩ := Option.bind_eq_some_iff.mp h
  cases h
  exact ⟨b, nt, name, desc, site, hc, hnt, parseLong_of_parse hsite, rfl⟩
theorem gl_O {args : Array Value} {s : State} (hO : (Cond.instantiable "java/lang/Object" 0).before args s = true) : ∀ o ok, s.vm.findClass "java/lang/Object" = some o → s.vm.classes[o]? = some ok → ok.instanceTypes.size = 0 := by
  intro o ok h1 h2
  obtain ⟨c, k, h3, h4, -, -, -, h5⟩ := Cond.instantiable_spec hO
  cases h1.symm.trans h3
  cases h2.symm.trans h4
  exact h5
section GlMake
variable {p : Program} {l : Launch} {e : Env} {R : Room} {s : State} {m : MethodId} {args : Array Value} {below : List Frame} {meth : Method} {c : Code} {H : Heap} {locs : List Loc} {cells slots : Nat} {Q : State → Prop}
variable {cc : ByteArray} {pc : Nat} {ls : Array Slot} {rest : List Value}
theorem gl_make (hexec : p.tables.exec = Jvm.exec) (hb : c.code = cc) (hml : c.maxLocals = ls.size) {x : MethodName} {idx : Nat} {σ : Lambda.Shape} {cK : ClassId} (hF : gl_F x pc idx σ (.makes cK) cK s) (hnamed : s.methodNamed? x = some m) (hxc : x.cls = "LosslessFabric") (hO : (Cond.instantiable "java/lang/Object" 0).before args s = true)
    {D : ClassFile} {fm : Method} {code : ByteArray} {maxL mi ci nt : Nat} {nm inm idesc : String} {ret : Option FieldType} {fl : List (String × Bool × Nat)} {tys : List FieldType}
    (hf : σ.file "LosslessFabric" = some D) (hic : σ.implClass = "LosslessFabric") (hin : σ.implName = inm) (hid : σ.implDesc.toString = idesc)
    (hm : ∀ ms, layoutMethods D = some ms → ms[1]? = some fm) (hc : (fm.code.map fun c => (c.code.data, c.maxLocals)) = some (code.data, maxL)) (hfl : (fm.accessFlags, fm.name, fm.sig.returnType) = (0x0001, nm, ret))
    (hp : D.constantPool[mi]? = some (.methodref ci nt) ∧ D.constantPool.className? ci = some "LosslessFabric" ∧ D.constantPool.nameAndType? nt = some (inm, idesc))
    (hcl : ∃ n, D.constantPool[ci]? = some (.class_ n) ∧ D.constantPool.string? n = some "LosslessFabric" ∧ ci ≠ D.thisClass)
    (hl : ((layoutFields D 0).map fun l => (l.1.toList.map fun (f : Field) => (f.name, f.isStatic, f.slot), l.2.1.toList)) = some (fl, tys))
    {vals : List Value} (hlen : vals.length = σ.captured.length) (hnar : (tys.zip vals).map (fun q => narrow q.1 q.2) = vals) (hfit : ∀ (i : Nat) (t : FieldType) (v : Value), tys[i]? = some t → vals[i]? = some v → fits t v = true)
    (hwords : ((vals.reverse ++ rest).map fun v => v.category).sum + 3072 ≤ R.locals) (hcells : cells + 1 ≤ R.cells) (hslots : slots + vals.length ≤ R.slots) (hdg : decode cc pc = .ok (.invokedynamic idx, 5))
    (kk : ∀ H1 : Heap, H1[H.size]? = some { cls := cK, slots := vals.toArray, vm := .none } → H1.size = H.size + 1 → (∀ q : Nat, q < H.size → H1[q]? = H[q]?) → W p l e R s m args below meth c H1 locs (cells + 1) (slots + vals.length) Q (F0 m (pc + 5) ls (.ref H.size :: rest))) : W p l e R s m args below meth c H locs cells slots Q (F0 m pc ls (vals.reverse ++ rest)) := by
  obtain ⟨m', k, cf, i0, p0, hm', hk, hcf, hsh, hfind, hmade, hcall⟩ := hF
  cases hnamed.symm.trans hm'
  obtain ⟨k2, hk2, hkn⟩ := className_of_methodNamed hnamed
  cases hk.symm.trans hk2
  rw [hxc] at hkn
  obtain ⟨kK, tk, file, methk, ck, own, t, hkK, hkKn, hkind, -, -, -, -, -, -, -, -, -, -, -, -, -, -, htys, -⟩ := gl_made hf hic hin hid hm hc hfl hp hcl hl hk hkn (gl_O hO) hmade
  obtain ⟨b, nt2, name, desc, sig, hc7, hnt7, hsig, hpar⟩ := gl_entry hsh
  have hE : ((kK.instanceTypes.toList.zip vals).map fun (t, v) => narrow t v) = vals := by rw [htys]; exact hnar
  intro T hT X
  obtain ⟨X₁, st1⟩ := X.lambdaMakes hexec (g := F0 m pc ls (vals.reverse ++ rest)) rfl hml.symm (by rw [hb]; exact hdg) (vals := vals) (rest := rest) hk hfind hcf hc7 hnt7 hsig (by rw [hlen, hpar]) rfl hkK
    (by rw [X.admits.platform]; show 2 * 0 + ((vals.reverse ++ rest).map fun v => v.category).sum + 3072 ≤ _; omega) hcells (by rw [hE]; exact hslots)
    (fun i v hv => by
      rw [hE] at hv
      have hv' : vals[i]? = some v := by simpa using hv
      have hi : i < kK.instanceTypes.size := by
        have h1 : i < vals.length := (List.getElem?_eq_some_iff.mp hv').1
        have h2 : vals.length ≤ tys.length := by
          have := congrArg List.length hnar
          simp at this
          omega
        rw [← Array.length_toList, htys]
        omega
      have ht : tys[i]? = some kK.instanceTypes[i] := by
        rw [← htys, Array.getElem?_toList]
        exact Array.getElem?_eq_getElem hi
      have := hfit i _ v ht hv'
      simp [State.fitsSlot, State.slotType?, hkK, hkind, hi, this])
  rw [hE] at X₁ st1
  have hsz : vals.toArray.size = vals.length := by simp
  rw [hsz] at X₁
  have hH : (T.pushCell { cls := cK, slots := vals.toArray, vm := .none }).heap = H.push { cls := cK, slots := vals.toArray, vm := .none } := by rw [← hT]; rfl
  obtain ⟨t', a1, b1⟩ := kk (H.push { cls := cK, slots := vals.toArray, vm := .none }) (by rw [Array.getElem?_push_size]) (by simp) (fun q hq => by rw [Array.getElem?_push, if_neg (Nat.ne_of_lt hq)]) _ hH X₁
  refine ⟨t', st1 t' ?_, b1⟩
  rw [hT]
  exact a1
end GlMake
