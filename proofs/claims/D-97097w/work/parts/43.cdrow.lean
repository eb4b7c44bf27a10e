set_option maxRecDepth 100000
section DST
variable {p : Program} {l : Launch} {e : Env} {R : Room} {s : State} {m : MethodId} {args : Array Value} {below : List Frame} {meth : Method} {c : Code} {T : State} {locs : List Loc} {cells slots : Nat}
/-- invokevirtual of a class's name for an interface's method, on an object where it lands in the interface's own -/
theorem d_stepV (X : Stand p l e R s m args below meth c T locs cells slots) (hexec : p.tables.exec = Jvm.exec) {own owner C : String} {index : Nat} {x y : MethodName} (hown : s.vm.findClass own = some m.cls)
    (hlink : (Cond.methodLink own index x).before args s = true) (hsame : (Cond.sameMethod x.cls owner x.name x.desc).before args s = true) (howner : owner ≠ "java/lang/invoke/MethodHandle" ∧ owner ≠ "java/lang/invoke/VarHandle")
    (hd0 : va_Decl s ⟨owner, x.name, x.desc⟩) (hL : Lnd C ⟨owner, x.name, x.desc⟩ y s) {mY : MethodId} {methY : Method} (hnY : s.methodNamed? y = some mY) (hmY : s.vm.method? mY = some methY) (habs : methY.isAbstract = false)
    {b : Addr} {cellB : Cell} (hcell : T.heap[b]? = some cellB) (hobj : cellB.vm.isStatics = false) (hcls : s.vm.findClass C = some cellB.cls)
    {g : JFrame} (hg : g.method = m) {argsL rest : List Value} (hlen : ∀ sig, parseMethodDescriptor x.desc = some sig → argsL.length = sig.parameters.length) (hstack : g.stack = argsL.reverse ++ .ref b :: rest)
    (hdg : decode c.code g.pc = .ok (.invokevirtual index, 3)) :
    ∃ vm1, Stand p l e R s m args below meth c (T.setVm vm1) locs cells slots ∧ s.WarmedH vm1 ∧
      ∀ target, (∀ acts, Steps p.tables e below (doInvoke e ((T.setVm vm1).setTop { g with stack := rest }) acts mY (.ref b :: argsL).toArray).1 target) → Steps p.tables e below (T.setTop g) target := by
  have hpl : e.platform.magicAccessors = ({} : Platform).magicAccessors := by rw [X.admits.platform]
  obtain ⟨r0, r, hn, hrm, hstR, hsigR⟩ := hd0
  obtain ⟨cC, r2, m2, rm2, mk, q1, q2, q3, q4, q5, q6, q7, q8, -⟩ := hL
  cases hn.symm.trans q2
  cases hnY.symm.trans q3
  cases hrm.symm.trans q4
  cases hcls.symm.trans q1
  have hselP : selectMethod e.platform s.vm cellB.cls r0 = .method mY := by rw [Launch.admits_selectMethod X.admits]; exact q5
  obtain ⟨cn, ck, r1, hcn, hck, hni, hf, hn1⟩ := Cond.sameMethod_found hsame
  cases hn.symm.trans hn1
  obtain ⟨ci, hl, hright⟩ := Cond.methodLink_specUp hown hcn hck hni hf hlink e.platform hpl (by rw [X.admits.platform])
  have hE : s.MethodEntryUp e T.vm m.cls index cn r0 ci := State.methodEntryUp X.warmed hl hright
  obtain ⟨kr, hkr, hnr⟩ := className_of_methodNamed hn
  obtain ⟨dk, cfile, nt, _, _, _, _, _, hd, hcf, hcp, -⟩ := hl.here
  have alike := hE.warmed.alike
  obtain ⟨dk2, hdk2, hres⟩ := hE.classReady
  obtain ⟨dk3, hdk3, hed⟩ := alike.2.2 _ _ hd
  cases hdk2.symm.trans hdk3
  obtain ⟨kr2, hkr2, her⟩ := alike.2.2 _ _ hkr
  obtain ⟨ck2, hck2, hec⟩ := alike.2.2 _ _ hck
  obtain ⟨mk2, hmk2, hem⟩ := alike.2.2 _ _ q6
  have hnr2 : nrOk (T.vm.calledUp m.cls ci index cn r0) cellB.cls r.name r.desc mY := by
    unfold nrOk
    rw [al_near alike]
    exact q8
  have X1 := X.noted hE.warmed
  refine ⟨T.vm.calledUp m.cls ci index cn r0, X1, X1.warmed, fun target hrest => ?_⟩
  subst hg
  jvm_step X.here [hexec, hdg, invokevirtual.wp_coldUp (e := e) (s := T) (s₀ := s) (f := g) X.here.top X.warmed hE hd hcf (Or.inl hcp) hck hni,
    d_wpV (e := e) (s := T.setVm (T.vm.calledUp g.method.cls ci index cn r0)) (f := g) (r := r0) (m := mY) (c1 := cn) (k := kr2) (k1 := ck2) (mk := mk2) (rmeth := r) (meth := methY) (a := b) (args := argsL) (rest := rest) (cell := cellB)
      X.here.top ⟨dk2, cfile, ci, nt, hdk2, by rw [hed]; exact hcf, Or.inl hcp, dk2, hdk2, hres⟩ hck2 (by rw [hec]; exact hni) hE.ready hkr2
      (by show (T.vm.calledUp g.method.cls ci index cn r0).method? r0 = some r; rw [alike.method?]; exact hrm)
      (by rw [her]; show signaturePolymorphic kr r = false; simp [signaturePolymorphic, hnr, howner.1, howner.2]) hstR (hlen _ hsigR) hstack hcell (fun z h => by rw [h] at hobj; cases hobj)
      (by show selectMethod e.platform (T.vm.calledUp g.method.cls ci index cn r0) cellB.cls r0 = .method mY; rw [alike.selectMethod]; exact hselP)
      (by show (T.vm.calledUp g.method.cls ci index cn r0).method? mY = some methY; rw [alike.method?]; exact hmY) habs hmk2 (by rw [hem]; exact q7) hnr2]
  exact hrest
end DST
section DRO
variable {p : Program} {l : Launch} {e : Env} {R : Room} {s : State} {m : MethodId} {args : Array Value} {below : List Frame} {meth : Method} {c : Code} {H : Heap} {locs : List Loc} {cells slots : Nat} {Q : State → Prop} {D : va_G} {a : Nat → Nat} {d : Nat → ClassId} {A : Nat → Prop} {S : CS} {own : String} {cc : ByteArray} {nL : Nat} {ret : Option FieldType} {pc : Nat} {ls : Array Slot} {rest : List Value}
theorem c_defV1 {owner C : String} {index : Nat} {x : MethodName} {bytes : ByteArray} {b : Nat} {v : Int32} (F : FC p s m meth c args D a d A own cc nL ret) (hsz : ls.size = nL)
    (hlink : va_Nw (.methodLink own index x) s) (hsame : va_Nw (.sameMethod x.cls owner x.name x.desc) s) (howner : owner ≠ "java/lang/invoke/MethodHandle" ∧ owner ≠ "java/lang/invoke/VarHandle") (hpl : plainName owner = true)
    (qi : Cond.instanceMethod ⟨owner, x.name, x.desc⟩ ∈ lw_all) (qc : Cond.code ⟨owner, x.name, x.desc⟩ bytes 2 (some .int) ∈ lw_all) (h0 : decode bytes 0 = .ok (.iload_n 1, 1)) (h1 : decode bytes 1 = .ok (.ireturn, 1))
    (hL : Lnd C ⟨owner, x.name, x.desc⟩ ⟨owner, x.name, x.desc⟩ s) (hr : ∃ cell : Cell, H[b]? = some cell ∧ cell.vm.isStatics = false ∧ s.vm.findClass C = some cell.cls)
    (hlen : (parseMethodDescriptor x.desc).map (fun d => d.parameters.length) = some 1) (hR : 1 ≤ R.frames ∧ 8 + (2 + 11) ≤ R.locals) (hW : (rest.map fun v => v.category).sum ≤ 8) (hd : decode cc pc = .ok (.invokevirtual index, 3))
    (k : W p l e R s m args below meth c H locs cells slots Q (F0 m (pc + 3) ls (.int v :: rest))) : W p l e R s m args below meth c H locs cells slots Q (F0 m pc ls (.int v :: .ref b :: rest)) := by
  obtain ⟨hx, hb, hr0, hml, hown, hts, hlocks, hA, hK, hN⟩ := F
  obtain ⟨cellB, hcB, hoB, hclB⟩ := hr
  intro T hT X
  obtain ⟨mY, methY, hnY, hmY, -, habs⟩ := Cond.instanceMethod_spec (hts _ qi)
  obtain ⟨methY2, cY, hmY2, hcY, hbY, hlY, hrY, hkY, -, -⟩ := Cond.code_spec hnY (hts _ qc)
  cases hmY.symm.trans hmY2
  obtain ⟨vm1, X1, hW1, st⟩ := d_stepV X hx (own := own) (owner := owner) (C := C) (index := index) (x := x) (y := ⟨owner, x.name, x.desc⟩) hown (va_Nw.use rfl hlink) (va_Nw.use rfl hsame) howner (va_Decl.of (hts _ qi) (hts _ qc)) hL hnY hmY habs (by rw [hT]; exact hcB) hoB hclB (g := F0 m pc ls (.int v :: .ref b :: rest)) rfl (argsL := [.int v]) (rest := rest)
    (fun sig h => by rw [h] at hlen; exact (Option.some.inj hlen).symm) rfl (by rw [hb]; exact hd)
  obtain ⟨t, a1, b1⟩ := k (T.setVm vm1) hT X1
  refine ⟨t, st t (fun acts => ?_), b1⟩
  have hmT : (T.setVm vm1).vm.method? mY = some methY := by
    show vm1.method? mY = some methY
    rw [hW1.alike.method?]; exact hmY
  refine d_in1 (g := F0 m pc ls rest) X1.here hx acts hmT hcY ?_ ?_ ?_ hlY (by rw [hbY]; exact h0) (by rw [hbY]; exact h1) (X1.notFull (g := F0 m pc ls rest) (hsz.trans hml.symm) hR.1 ?_) (by rw [hb]; exact hd) a1
  · first | exact hkY | exact hrY
  · refine State.plainMethod.of_name (fun k9 hk9 => ?_)
    obtain ⟨kY, hkY9, hnmY⟩ := className_of_methodNamed hnY
    obtain ⟨k8, hk8, he8⟩ := hW1.alike.2.2 _ _ hkY9
    have hk9 : vm1.classes[mY.cls]? = some k9 := hk9
    cases hk8.symm.trans hk9
    rw [he8]
    show plainName kY.name = true
    rw [hnmY]; exact hpl
  · first | exact hrY | exact hkY
  · have := lv_room (m := m) (pc := pc) (ls := ls) (rest := rest) hW
    rw [hlY]
    show 2 * (F0 m pc ls rest).monitorRoom + (rest.map fun v => v.category).sum + (2 + 11) ≤ R.locals
    omega
theorem c_defV0 {owner C : String} {index : Nat} {x : MethodName} {bytes : ByteArray} {b : Nat} {v1 v2 v3 : Int32} (F : FC p s m meth c args D a d A own cc nL ret) (hsz : ls.size = nL)
    (hlink : va_Nw (.methodLink own index x) s) (hsame : va_Nw (.sameMethod x.cls owner x.name x.desc) s) (howner : owner ≠ "java/lang/invoke/MethodHandle" ∧ owner ≠ "java/lang/invoke/VarHandle") (hpl : plainName owner = true)
    (qi : Cond.instanceMethod ⟨owner, x.name, x.desc⟩ ∈ lw_all) (qc : Cond.code ⟨owner, x.name, x.desc⟩ bytes 4 (some .int) ∈ lw_all) (h0 : decode bytes 0 = .ok (.iconst 0, 1)) (h1 : decode bytes 1 = .ok (.ireturn, 1))
    (hL : Lnd C ⟨owner, x.name, x.desc⟩ ⟨owner, x.name, x.desc⟩ s) (hr : ∃ cell : Cell, H[b]? = some cell ∧ cell.vm.isStatics = false ∧ s.vm.findClass C = some cell.cls)
    (hlen : (parseMethodDescriptor x.desc).map (fun d => d.parameters.length) = some 3) (hR : 1 ≤ R.frames ∧ 8 + (4 + 11) ≤ R.locals) (hW : (rest.map fun v => v.category).sum ≤ 8) (hd : decode cc pc = .ok (.invokevirtual index, 3))
    (k : W p l e R s m args below meth c H locs cells slots Q (F0 m (pc + 3) ls (.int 0 :: rest))) : W p l e R s m args below meth c H locs cells slots Q (F0 m pc ls (.int v3 :: .int v2 :: .int v1 :: .ref b :: rest)) := by
  obtain ⟨hx, hb, hr0, hml, hown, hts, hlocks, hA, hK, hN⟩ := F
  obtain ⟨cellB, hcB, hoB, hclB⟩ := hr
  intro T hT X
  obtain ⟨mY, methY, hnY, hmY, -, habs⟩ := Cond.instanceMethod_spec (hts _ qi)
  obtain ⟨methY2, cY, hmY2, hcY, hbY, hlY, hrY, hkY, -, -⟩ := Cond.code_spec hnY (hts _ qc)
  cases hmY.symm.trans hmY2
  obtain ⟨vm1, X1, hW1, st⟩ := d_stepV X hx (own := own) (owner := owner) (C := C) (index := index) (x := x) (y := ⟨owner, x.name, x.desc⟩) hown (va_Nw.use rfl hlink) (va_Nw.use rfl hsame) howner (va_Decl.of (hts _ qi) (hts _ qc)) hL hnY hmY habs (by rw [hT]; exact hcB) hoB hclB (g := F0 m pc ls (.int v3 :: .int v2 :: .int v1 :: .ref b :: rest)) rfl (argsL := [.int v1, .int v2, .int v3]) (rest := rest)
    (fun sig h => by rw [h] at hlen; exact (Option.some.inj hlen).symm) rfl (by rw [hb]; exact hd)
  obtain ⟨t, a1, b1⟩ := k (T.setVm vm1) hT X1
  refine ⟨t, st t (fun acts => ?_), b1⟩
  have hmT : (T.setVm vm1).vm.method? mY = some methY := by
    show vm1.method? mY = some methY
    rw [hW1.alike.method?]; exact hmY
  refine d_in0 (g := F0 m pc ls rest) X1.here hx acts hmT hcY ?_ ?_ ?_ hlY (by rw [hbY]; exact h0) (by rw [hbY]; exact h1) (X1.notFull (g := F0 m pc ls rest) (hsz.trans hml.symm) hR.1 ?_) (by rw [hb]; exact hd) a1
  · first | exact hkY | exact hrY
  · refine State.plainMethod.of_name (fun k9 hk9 => ?_)
    obtain ⟨kY, hkY9, hnmY⟩ := className_of_methodNamed hnY
    obtain ⟨k8, hk8, he8⟩ := hW1.alike.2.2 _ _ hkY9
    have hk9 : vm1.classes[mY.cls]? = some k9 := hk9
    cases hk8.symm.trans hk9
    rw [he8]
    show plainName kY.name = true
    rw [hnmY]; exact hpl
  · first | exact hrY | exact hkY
  · have := lv_room (m := m) (pc := pc) (ls := ls) (rest := rest) hW
    rw [hlY]
    show 2 * (F0 m pc ls rest).monitorRoom + (rest.map fun v => v.category).sum + (4 + 11) ≤ R.locals
    omega
/-- the same name, on an object whose class has a method of its own -/
theorem c_runVS {x y : MethodName} {owner C : String} {bytes b0 : ByteArray} {maxL mc ms n index m0 : Nat} {rt r0 : Option FieldType} {rm : Room} {Pc : Array Value → State → Prop} {Qc : Array Value → State → Outcome → State → Prop} {free : Addr → Prop} {b : Addr} {As : List Value} {g : JFrame}
    (F : FC p s m meth c args D a d A own cc nL ret) (hM : Met l y (ws_ y bytes maxL rt) rm Pc Qc mc ms free) (hlink : va_Nw (.methodLink own index x) s) (hsame : va_Nw (.sameMethod x.cls owner x.name x.desc) s)
    (qi : Cond.instanceMethod ⟨owner, x.name, x.desc⟩ ∈ lw_all) (qc : Cond.code ⟨owner, x.name, x.desc⟩ b0 m0 r0 ∈ lw_all) (q4 : Cond.selects C ⟨owner, x.name, x.desc⟩ y ∈ lw_all) (q5 : Cond.instanceMethod y ∈ lw_all) (q6 : Cond.initialized y.cls ∈ lw_all) (q7 : Cond.code y bytes maxL rt ∈ lw_all)
    (howner : owner ≠ "java/lang/invoke/MethodHandle" ∧ owner ≠ "java/lang/invoke/VarHandle") (hrc : rm.cells = mc) (hrs : rm.slots = ms) (hlen : (parseMethodDescriptor x.desc).map (fun d => d.parameters.length) = some n) (hR : rm.frames + 1 ≤ R.frames ∧ 8 + (maxL + 11) + rm.locals ≤ R.locals)
    (hp : PreV s H C b Pc As) (hg : g.method = m) (hn : As.length = n) (hsize : g.locals.size = nL) (hstack : g.stack = As.reverse ++ .ref b :: rest) (hW : 2 * g.monitorRoom + (rest.map fun v => v.category).sum ≤ 8) (hdg : decode cc g.pc = .ok (.invokevirtual index, 3)) (hf : cells + mc ≤ R.cells ∧ slots + ms ≤ R.slots) :
    va_Run p l e R s m args below meth c H locs cells slots mc ms g rest (Qc (Value.ref b :: As).toArray) free := by
  obtain ⟨hx, hb, hr0, hml, hown, hts, hlocks, hA, hK, hN⟩ := F
  have hB : Back l R p e below s args y 3 8 (PreOf R mc ms Pc) (PostOf Qc mc ms free) := back_of (bytes := bytes) (maxL := maxL) (ret := rt) hM hp.1 hrc hrs hR.1 hR.2 (pay_in hts (lw_meth q7)) List.mem_cons_self (fun a1 U hW => word_at hW (Or.inl (by first | rfl | simp [Cond.onTables, Cond.keeps, Cond.steady])) (hts _ q6))
  obtain ⟨-, ⟨cellB, hcB, hoB, hclB⟩, hPc⟩ := hp
  intro T hT X
  obtain ⟨r1, r, hnO, hrm, hstR, hsigR⟩ := va_Decl.of (hts _ qi) (hts _ qc)
  obtain ⟨mk, methM, hnamed, hmethM, -, habM⟩ := Cond.instanceMethod_spec (hts _ q5)
  obtain ⟨c2, r2, m2, w1, w2, w3, w4, kP, hkP, hkPi⟩ := Cond.selects_spec (hts _ q4)
  cases hclB.symm.trans w1
  cases hnamed.symm.trans w3
  have hr2 : r2 = r1 := by
    obtain ⟨kO, hkO, hnmO⟩ := className_of_methodNamed hnO
    have hfd := State.methodFound?_of_named hnO howner
    exact Option.some.inj (w2.symm.trans hfd)
  subst hr2
  have hselP : selectMethod e.platform s.vm cellB.cls r2 = .method mk := by rw [Launch.admits_selectMethod X.admits]; exact w4
  obtain ⟨vm1, X1, hstep1⟩ := X.invokevirtualUp hx hown (va_Nw.use rfl hlink) (va_Nw.use rfl hsame) howner hnO hrm hstR (a := b) (cell := cellB) (by rw [hT]; exact hcB)
    (fun z h => by rw [h] at hoB; cases hoB) hselP hmethM habM hkP hkPi (g := g) hg (argsL := As) (rest := rest) (hn.trans (by rw [hsigR] at hlen; exact (Option.some.inj hlen).symm)) hstack (by rw [hb]; exact hdg)
  obtain ⟨v, ⟨U1, l2, k2, s2⟩, X2, ⟨g1, mk1, t, L, e1, e2, hq, h1, hL, h2, h3⟩, hsteps⟩ := hB m meth c ⟨T.setVm vm1, locs, cells, slots⟩ { g with stack := rest } (.invokevirtual index) mk (Value.ref b :: As).toArray X1 hg (hsize.trans hml.symm) (by rw [hb]; exact hdg) hW (X1.named hnamed) ⟨hf.1, hf.2, hPc (T.setVm vm1) hT X1.warmed⟩
  dsimp only [Pt.U, Pt.locs, Pt.cells, Pt.slots] at X2 e1 e2 h1 h2 h3 hsteps
  subst h1; subst h2; subst h3
  exact ⟨v, (T.setVm vm1).calling g1 mk1 (Value.ref b :: As).toArray, t, U1, L, hT, X2, hL, e1, e2, hq, fun target h => hstep1 _ fun acts => by rw [doInvoke_state]; exact hsteps.trans h⟩
end DRO
