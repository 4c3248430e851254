section GwMk5
variable {p : Program} {l : Launch} {e : Env} {R : Room} {s : State} {m : MethodId} {args : Array Value} {below : List Frame} {meth : Method} {c : Code} {H : Heap} {locs : List Loc} {cells slots : Nat} {Q : State → Prop}
variable {cc : ByteArray} {pc : Nat} {ls : Array Slot} {rest : List Value} {K : GK} {h u : Hp} {H0 : Heap} {own : String}
theorem gw_mk5 {q5 : Nat} (hq : q5 = K.2.2.2.2.2 6) (C : gw_C K own p s m args c cc) (hml : c.maxLocals = ls.size) (hnamed : s.methodNamed? gl_x5 = some m) (hwords : (rest.map fun v => v.category).sum + 3072 ≤ R.locals) (hdg : decode cc 39 = .ok (.invokedynamic 427, 5))
    (kk : W p l e R s m args below meth c H locs cells slots Q (F0 m 44 ls (.ref q5 :: rest))) : W p l e R s m args below meth c H locs cells slots Q (F0 m 39 ls rest) := by
  obtain ⟨m', k, cf, i0, p0, hm', hk, hcf, hsh, hfind, hmade, hcall⟩ := C.2.2.2.2.2.2.2.2.1.2.2.2.2.2
  cases hnamed.symm.trans hm'
  subst hq
  intro T hT X
  obtain ⟨t, a1, b1⟩ := kk T hT X
  exact ⟨t, X.lambdaConstant C.1 (g := F0 m 39 ls rest) rfl hml.symm (by rw [C.2.1]; exact hdg) hk hfind (by rw [X.admits.platform]; show 2 * 0 + (rest.map fun v => v.category).sum + 3072 ≤ _; omega) a1, b1⟩
end GwMk5
