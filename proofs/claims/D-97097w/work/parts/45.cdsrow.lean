set_option maxRecDepth 100000
section DSS
variable {p : Program} {l : Launch} {e : Env} {R : Room} {s : State} {m : MethodId} {args : Array Value} {below : List Frame} {meth : Method} {c : Code} {T : State} {locs : List Loc} {cells slots : Nat}
/-- super.m() that runs an interface's own m -/
theorem d_stepS (X : Stand p l e R s m args below meth c T locs cells slots) (hexec : p.tables.exec = Jvm.exec) {own owner : String} {index : Nat} {x : MethodName} (hown : s.vm.findClass own = some m.cls)
    (hlink : (Cond.methodLink own index x).before args s = true) (hsame : (Cond.sameMethod x.cls owner x.name x.desc).before args s = true) (hsup : (Cond.superclass own x.cls).before args s = true) (hno : x.name ≠ "<init>")
    (hL : Lnd x.cls ⟨owner, x.name, x.desc⟩ ⟨owner, x.name, x.desc⟩ s) {mY : MethodId} {methY : Method} (hnY : s.methodNamed? ⟨owner, x.name, x.desc⟩ = some mY) (hmY : s.vm.method? mY = some methY) (hst : methY.isStatic = false) (habs : methY.isAbstract = false) (hsig : parseMethodDescriptor x.desc = some methY.sig)
    {b : Addr} {cellB : Cell} {kB : Class} (hcell : T.heap[b]? = some cellB) (hobj : cellB.vm.isStatics = false) (hkB : s.vm.classes[cellB.cls]? = some kB)
    {g : JFrame} (hg : g.method = m) {argsL rest : List Value} (hlen : ∀ sig, parseMethodDescriptor x.desc = some sig → argsL.length = sig.parameters.length) (hstack : g.stack = argsL.reverse ++ .ref b :: rest)
    (hdg : decode c.code g.pc = .ok (.invokespecial index, 3)) :
    ∃ vm1, Stand p l e R s m args below meth c (T.setVm vm1) locs cells slots ∧ s.WarmedH vm1 ∧
      ∀ target, Steps p.tables e below (doInvoke e ((T.setVm vm1).setTop { g with stack := rest }) [] mY (.ref b :: argsL).toArray).1 target → Steps p.tables e below (T.setTop g) target := by
  have hpl : e.platform.magicAccessors = ({} : Platform).magicAccessors := by rw [X.admits.platform]
  obtain ⟨ps, dk, kp, hps, hdk, hkp, hsuper, -, -, hnid⟩ := Cond.superclass_spec hown hsup
  obtain ⟨cC, r2, m2, rm2, mk, q1, q2, q3, q4, q5, q6, q7, -, q9⟩ := hL
  cases hnY.symm.trans q2
  cases hnY.symm.trans q3
  cases hmY.symm.trans q4
  cases hps.symm.trans q1
  obtain ⟨cn, ck, r1, hcn, hck, hni, hf, hn1⟩ := Cond.sameMethod_found hsame
  cases hnY.symm.trans hn1
  cases hps.symm.trans hcn
  obtain ⟨ci, hl, hright⟩ := Cond.methodLink_specUp hown hcn hck hni hf hlink e.platform hpl (by rw [X.admits.platform])
  obtain ⟨hrn, hrd⟩ := name_of_methodNamed hnY hmY
  obtain ⟨dk0, cfile, nt, _, _, ck0, _, _, hd0, hcf, hcp, -, -, -, hc0, -, hpoly, -⟩ := hl.here
  cases hdk.symm.trans hd0
  cases hck.symm.trans hc0
  have hup : s.vm.lookupUp ps x.name x.desc = some mY := ((State.methodFound?_class hcn hck hni hpoly mY).mp hf).1
  have hfound : lookupSpecial s.vm ps methY.name methY.desc = .method mY := d_look hck hni (by rw [hrn, hrd]; exact hup) hmY hst q9 q6 q7 q5
  subst hg
  obtain ⟨vm1, hW1, st⟩ := Steps.invokeSuperColdArgs (tb := p.tables) (e := e) (s₀ := s) (U := T) (f := g) (args := argsL) (rest := rest) (a := b) (cell := cellB) (m := mY) X.here hexec hdg X.warmed hl hright hdk hcf hcp hmY hck
    (by rw [hrn]; simp [hno]) hst (by rw [hsuper]; simpa using hfound) hnid q6 habs (hlen _ hsig) hstack hcell (fun z h => by rw [h] at hobj; cases hobj) hkB
  exact ⟨vm1, X.noted hW1, hW1, st⟩
end DSS
section DSR
variable {p : Program} {l : Launch} {e : Env} {R : Room} {s : State} {m : MethodId} {args : Array Value} {below : List Frame} {meth : Method} {c : Code} {H : Heap} {locs : List Loc} {cells slots : Nat} {Q : State → Prop} {D : va_G} {a : Nat → Nat} {d : Nat → ClassId} {A : Nat → Prop} {S : CS} {own : String} {cc : ByteArray} {nL : Nat} {ret : Option FieldType} {pc : Nat} {ls : Array Slot} {rest : List Value}
theorem c_defS1 {owner C : String} {index : Nat} {x : MethodName} {bytes : ByteArray} {b : Nat} {v : Int32} (F : FC p s m meth c args D a d A own cc nL ret) (hsz : ls.size = nL)
    (hlink : va_Nw (.methodLink own index x) s) (hsame : va_Nw (.sameMethod x.cls owner x.name x.desc) s) (hsup : Cond.superclass own x.cls ∈ lw_all) (hno : x.name ≠ "<init>") (hpl : plainName owner = true)
    (qi : Cond.instanceMethod ⟨owner, x.name, x.desc⟩ ∈ lw_all) (qc : Cond.code ⟨owner, x.name, x.desc⟩ bytes 2 (some .int) ∈ lw_all) (h0 : decode bytes 0 = .ok (.iload_n 1, 1)) (h1 : decode bytes 1 = .ok (.ireturn, 1))
    (hL : Lnd x.cls ⟨owner, x.name, x.desc⟩ ⟨owner, x.name, x.desc⟩ s) (hr : ∃ cell : Cell, H[b]? = some cell ∧ cell.vm.isStatics = false ∧ s.vm.findClass C = some cell.cls)
    (hlen : (parseMethodDescriptor x.desc).map (fun d => d.parameters.length) = some 1) (hR : 1 ≤ R.frames ∧ 8 + (2 + 11) ≤ R.locals) (hW : (rest.map fun v => v.category).sum ≤ 8) (hd : decode cc pc = .ok (.invokespecial index, 3))
    (k : W p l e R s m args below meth c H locs cells slots Q (F0 m (pc + 3) ls (.int v :: rest))) : W p l e R s m args below meth c H locs cells slots Q (F0 m pc ls (.int v :: .ref b :: rest)) := by
  obtain ⟨hx, hb, hr0, hml, hown, hts, hlocks, hA, hK, hN⟩ := F
  obtain ⟨cellB, hcB, hoB, hclB⟩ := hr
  obtain ⟨kB, hkB, -⟩ := Vm.findClass_spec hclB
  intro T hT X
  obtain ⟨mY, methY, hnY, hmY, hstY, habs⟩ := Cond.instanceMethod_spec (hts _ qi)
  obtain ⟨methY2, cY, hmY2, hcY, hbY, hlY, hrY, hkY, -, hsg⟩ := Cond.code_spec hnY (hts _ qc)
  cases hmY.symm.trans hmY2
  obtain ⟨vm1, X1, hW1, st⟩ := d_stepS X hx (own := own) (owner := owner) (index := index) (x := x) hown (va_Nw.use rfl hlink) (va_Nw.use rfl hsame) (hts _ hsup) hno hL hnY hmY hstY habs hsg (by rw [hT]; exact hcB) hoB hkB (g := F0 m pc ls (.int v :: .ref b :: rest)) rfl (argsL := [.int v]) (rest := rest)
    (fun sig h => by rw [h] at hlen; exact (Option.some.inj hlen).symm) rfl (by rw [hb]; exact hd)
  obtain ⟨t, a1, b1⟩ := k (T.setVm vm1) hT X1
  refine ⟨t, st t ?_, b1⟩
  have hmT : (T.setVm vm1).vm.method? mY = some methY := by
    show vm1.method? mY = some methY
    rw [hW1.alike.method?]; exact hmY
  refine d_in1 (g := F0 m pc ls rest) X1.here hx [] hmT hcY hkY ?_ hrY hlY (by rw [hbY]; exact h0) (by rw [hbY]; exact h1) (X1.notFull (g := F0 m pc ls rest) (hsz.trans hml.symm) hR.1 ?_) (by rw [hb]; exact hd) a1
  · refine State.plainMethod.of_name (fun k9 hk9 => ?_)
    obtain ⟨kY, hkY9, hnmY⟩ := className_of_methodNamed hnY
    obtain ⟨k8, hk8, he8⟩ := hW1.alike.2.2 _ _ hkY9
    have hk9 : vm1.classes[mY.cls]? = some k9 := hk9
    cases hk8.symm.trans hk9
    rw [he8]
    show plainName kY.name = true
    rw [hnmY]; exact hpl
  · have := lv_room (m := m) (pc := pc) (ls := ls) (rest := rest) hW
    rw [hlY]
    show 2 * (F0 m pc ls rest).monitorRoom + (rest.map fun v => v.category).sum + (2 + 11) ≤ R.locals
    omega
theorem c_defS0 {owner C : String} {index : Nat} {x : MethodName} {bytes : ByteArray} {b : Nat} {v1 v2 v3 : Int32} (F : FC p s m meth c args D a d A own cc nL ret) (hsz : ls.size = nL)
    (hlink : va_Nw (.methodLink own index x) s) (hsame : va_Nw (.sameMethod x.cls owner x.name x.desc) s) (hsup : Cond.superclass own x.cls ∈ lw_all) (hno : x.name ≠ "<init>") (hpl : plainName owner = true)
    (qi : Cond.instanceMethod ⟨owner, x.name, x.desc⟩ ∈ lw_all) (qc : Cond.code ⟨owner, x.name, x.desc⟩ bytes 4 (some .int) ∈ lw_all) (h0 : decode bytes 0 = .ok (.iconst 0, 1)) (h1 : decode bytes 1 = .ok (.ireturn, 1))
    (hL : Lnd x.cls ⟨owner, x.name, x.desc⟩ ⟨owner, x.name, x.desc⟩ s) (hr : ∃ cell : Cell, H[b]? = some cell ∧ cell.vm.isStatics = false ∧ s.vm.findClass C = some cell.cls)
    (hlen : (parseMethodDescriptor x.desc).map (fun d => d.parameters.length) = some 3) (hR : 1 ≤ R.frames ∧ 8 + (4 + 11) ≤ R.locals) (hW : (rest.map fun v => v.category).sum ≤ 8) (hd : decode cc pc = .ok (.invokespecial index, 3))
    (k : W p l e R s m args below meth c H locs cells slots Q (F0 m (pc + 3) ls (.int 0 :: rest))) : W p l e R s m args below meth c H locs cells slots Q (F0 m pc ls (.int v3 :: .int v2 :: .int v1 :: .ref b :: rest)) := by
  obtain ⟨hx, hb, hr0, hml, hown, hts, hlocks, hA, hK, hN⟩ := F
  obtain ⟨cellB, hcB, hoB, hclB⟩ := hr
  obtain ⟨kB, hkB, -⟩ := Vm.findClass_spec hclB
  intro T hT X
  obtain ⟨mY, methY, hnY, hmY, hstY, habs⟩ := Cond.instanceMethod_spec (hts _ qi)
  obtain ⟨methY2, cY, hmY2, hcY, hbY, hlY, hrY, hkY, -, hsg⟩ := Cond.code_spec hnY (hts _ qc)
  cases hmY.symm.trans hmY2
  obtain ⟨vm1, X1, hW1, st⟩ := d_stepS X hx (own := own) (owner := owner) (index := index) (x := x) hown (va_Nw.use rfl hlink) (va_Nw.use rfl hsame) (hts _ hsup) hno hL hnY hmY hstY habs hsg (by rw [hT]; exact hcB) hoB hkB (g := F0 m pc ls (.int v3 :: .int v2 :: .int v1 :: .ref b :: rest)) rfl (argsL := [.int v1, .int v2, .int v3]) (rest := rest)
    (fun sig h => by rw [h] at hlen; exact (Option.some.inj hlen).symm) rfl (by rw [hb]; exact hd)
  obtain ⟨t, a1, b1⟩ := k (T.setVm vm1) hT X1
  refine ⟨t, st t ?_, b1⟩
  have hmT : (T.setVm vm1).vm.method? mY = some methY := by
    show vm1.method? mY = some methY
    rw [hW1.alike.method?]; exact hmY
  refine d_in0 (g := F0 m pc ls rest) X1.here hx [] hmT hcY hkY ?_ hrY hlY (by rw [hbY]; exact h0) (by rw [hbY]; exact h1) (X1.notFull (g := F0 m pc ls rest) (hsz.trans hml.symm) hR.1 ?_) (by rw [hb]; exact hd) a1
  · refine State.plainMethod.of_name (fun k9 hk9 => ?_)
    obtain ⟨kY, hkY9, hnmY⟩ := className_of_methodNamed hnY
    obtain ⟨k8, hk8, he8⟩ := hW1.alike.2.2 _ _ hkY9
    have hk9 : vm1.classes[mY.cls]? = some k9 := hk9
    cases hk8.symm.trans hk9
    rw [he8]
    show plainName kY.name = true
    rw [hnmY]; exact hpl
  · have := lv_room (m := m) (pc := pc) (ls := ls) (rest := rest) hW
    rw [hlY]
    show 2 * (F0 m pc ls rest).monitorRoom + (rest.map fun v => v.category).sum + (4 + 11) ≤ R.locals
    omega
end DSR
