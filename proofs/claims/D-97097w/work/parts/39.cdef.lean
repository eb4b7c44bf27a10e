set_option maxRecDepth 100000
/-! calls that land in an interface's own (default) method -/
def nrOk (vm : Vm) (c : ClassId) (name desc : String) (m : MethodId) : Prop := (∀ k d, nearestHeld vm c name desc = some (k, .default d) → d = m) ∧ ∀ k b, nearestHeld vm c name desc ≠ some (k, .thrower b)
theorem al_any {vm vm' : Vm} (h : vm.Alike vm') (f : Class → Bool) (hf : ∀ k : Class, f k.bare = f k) (c : ClassId) : (vm'.classes[c]?).any f = (vm.classes[c]?).any f := by
  cases hk : vm.classes[c]? with
  | none => rw [h.none hk]
  | some k =>
    obtain ⟨k1, hk1, he⟩ := h.2.2 _ _ hk
    rw [hk1]
    show f k1 = f k
    rw [← hf k1, Class.bare_of he, hf]
theorem al_near {vm vm' : Vm} (h : vm.Alike vm') (c : ClassId) (name desc : String) : nearestHeld vm' c name desc = nearestHeld vm c name desc := by
  have a1 : superinterfaceMethods vm' = superinterfaceMethods vm := by rw [← superinterfaceMethods_bare vm', h.bare_eq, superinterfaceMethods_bare]
  have a2 : maximallySpecific vm' = maximallySpecific vm := by rw [← maximallySpecific_bare vm', h.bare_eq, maximallySpecific_bare]
  have a3 : ∀ k : ClassId, (vm'.classes[k]?).any (·.isInterface) = (vm.classes[k]?).any (·.isInterface) := al_any h _ fun _ => rfl
  have a4 : ∀ k : ClassId, ((vm'.classes[k]?).any fun x => x.methods.any fun m => !m.isAbstract && !m.isStatic) = (vm.classes[k]?).any fun x => x.methods.any fun m => !m.isAbstract && !m.isStatic := al_any h _ fun _ => rfl
  have a5 : ∀ (g : ClassId → Bool) (k : ClassId), (vm'.classes[k]?).any (·.interfaces.any g) = (vm.classes[k]?).any (·.interfaces.any g) := fun g => al_any h _ fun _ => rfl
  simp only [Jvm.nearestHeld, held, h.superclasses, h.declaredIn, h.superinterfaces, h.method?, a1, a2, a3, a4, a5]
/-- on an object of the class C a call of o (an interface's method) runs y, an interface's own -/
def Lnd (C : String) (o y : MethodName) (U : State) : Prop := ∃ (c : ClassId) (r m : MethodId) (rm : Method) (mk : Class), U.vm.findClass C = some c ∧ U.methodNamed? o = some r ∧ U.methodNamed? y = some m ∧ U.vm.method? r = some rm ∧ selectMethod {} U.vm c r = .method m ∧ U.vm.classes[m.cls]? = some mk ∧ mk.isInterface = true ∧ nrOk U.vm c rm.name rm.desc m ∧ rm.isPrivate = false
theorem Lnd.moved {C : String} {o y : MethodName} {u U : State} (hvm : u.vm.Alike U.vm) (h : Lnd C o y u) : Lnd C o y U := by
  obtain ⟨c, r, m, rm, mk, h1, h2, h3, h4, h5, h6, h7, h8, h9⟩ := h
  obtain ⟨mk1, hmk1, he⟩ := hvm.2.2 _ _ h6
  have n : ∀ z : MethodName, U.methodNamed? z = u.methodNamed? z := fun z => by
    have e1 : (u.setVm U.vm).methodNamed? z = u.methodNamed? z := State.methodNamed?_setVm hvm z
    exact e1
  refine ⟨c, r, m, rm, mk1, by rw [hvm.findClass]; exact h1, by rw [n]; exact h2, by rw [n]; exact h3, by rw [hvm.method?]; exact h4, by rw [hvm.selectMethod]; exact h5, hmk1, by rw [he]; exact h7, ?_, h9⟩
  unfold nrOk
  rw [al_near hvm]
  exact h8
theorem Lnd.of {args : Array Value} {s : State} {C owner : String} {x y : MethodName} (hs : (Cond.sameMethod x.cls owner x.name x.desc).before args s = true) (hl : (Cond.landsInDefault C x y).before args s = true) : Lnd C ⟨owner, x.name, x.desc⟩ y s := by
  obtain ⟨cn, ck, r0, -, -, -, hf, hn⟩ := Cond.sameMethod_found hs
  simp only [Cond.before, Cond.holds, Cond.value] at hl
  cases hc : s.vm.findClass C with
  | none => simp [hc] at hl
  | some c =>
  cases hm : s.methodNamed? y with
  | none => simp [hc, hf, hm] at hl
  | some m =>
  cases hrm : s.vm.method? r0 with
  | none => simp [hc, hf, hm, hrm] at hl
  | some rm =>
  simp only [hc, hf, hm, hrm, Option.map_some, beq_iff_eq, Option.some.injEq] at hl
  split at hl
  · rename_i m' hsel
    simp only [Bool.and_eq_true, decide_eq_true_eq, Bool.not_eq_true', Option.any_eq_true] at hl
    obtain ⟨⟨⟨⟨rfl, mk, hmk, hi⟩, hpriv⟩, -⟩, hnear⟩ := hl
    refine ⟨c, r0, m', rm, mk, hc, hn, hm, hrm, hsel, hmk, hi, ⟨fun k d hk => ?_, fun k b hk => ?_⟩, hpriv⟩
    · rw [hk] at hnear; simpa using hnear
    · rw [hk] at hnear; cases hnear
  · cases hl
section DWP
variable {Q : Unit → Pre} {E : CtlPost} {e : Env} {d : Bool} {acts : List Action} {s : State} {f : JFrame}
theorem d_sel {Q : Selection → Pre} {c : ClassId} {r m : MethodId} {rmeth meth : Method} {mk : Class} (hsel : selectMethod e.platform s.vm c r = .method m) (hrm : s.vm.method? r = some rmeth) (hm : s.vm.method? m = some meth)
    (hmk : s.vm.classes[m.cls]? = some mk) (hi : mk.isInterface = true) (hnr : nrOk s.vm c rmeth.name rmeth.desc m) : wp (Op.invokeinterface.selectVirtual c r) Q E e d acts s ↔ Q (.method m) d acts s := by
  by_cases hp : e.platform.privateHidesDefault = true
  · cases hn : nearestHeld s.vm c rmeth.name rmeth.desc with
    | none => simp [Op.invokeinterface.selectVirtual, hrm, selectFor_method hsel hm, hmk, hi, hp, hn]
    | some kh =>
      obtain ⟨k, hd⟩ := kh
      cases hd with
      | thrower b => exact absurd hn (hnr.2 k b)
      | default d1 => cases hnr.1 k d1 hn; simp [Op.invokeinterface.selectVirtual, hrm, selectFor_method hsel hm, hmk, hi, hp, hn]
      | nothing => simp [Op.invokeinterface.selectVirtual, hrm, selectFor_method hsel hm, hmk, hi, hp, hn]
  · simp only [Bool.not_eq_true] at hp
    simp [Op.invokeinterface.selectVirtual, hrm, selectFor_method hsel hm, hmk, hi, hp]
theorem d_wpV {index a : Nat} {r m : MethodId} {c1 : ClassId} {k k1 mk : Class} {rmeth meth : Method} {args rest : List Value} {cell : Cell}
    (hs : s.topJava?.isSome) (hnamed : Op.namesResolved s.vm f.method.cls index c1) (hk1 : s.vm.classes[c1]? = some k1) (hclass : k1.isInterface = false) (hr : s.vm.methodReady f.method.cls index r)
    (hk : s.vm.classes[r.cls]? = some k) (hrm : s.vm.method? r = some rmeth) (hpoly : signaturePolymorphic k rmeth = false) (hstatic : rmeth.isStatic = false)
    (hlen : args.length = rmeth.sig.parameters.length) (hstack : f.stack = args.reverse ++ .ref a :: rest) (hcell : s.heap[a]? = some cell) (hobj : ∀ c, cell.vm ≠ .statics c)
    (hsel : selectMethod e.platform s.vm cell.cls r = .method m) (hm : s.vm.method? m = some meth) (habs : meth.isAbstract = false) (hmk : s.vm.classes[m.cls]? = some mk) (hi : mk.isInterface = true) (hnr : nrOk s.vm cell.cls rmeth.name rmeth.desc m) :
    wp (Op.invokevirtual.sem index) Q E e d acts (s.setTop f) ↔ E (.invoke m (.ref a :: args).toArray) acts (s.setTop { f with stack := rest }) := by
  obtain ⟨kc, cf, ci, n, h1, h2, h3, h4⟩ := hnamed
  have href : ∀ {Q1 : ClassId → Pre}, wp (Jvm.refClassAt index) Q1 E e d acts (s.setTop f) ↔ Q1 c1 d acts (s.setTop f) := by
    intro Q1
    rcases h3 with h3 | h3 <;> simp [Jvm.refClassAt, Jvm.constantAt, State.method?_setTop f hs, h1, h2, h3, W.resolveClassAt_ready (State.method?_setTop f hs) h4]
  simp only [Op.invokevirtual.sem, wp_bind', href, W.theClass, State.vm_setTop, hk1, Option.some.injEq, exists_eq_left', W.ite, hclass, Bool.false_eq_true, if_false, wp_pure', W.resolveMethodAt_ready (State.method?_setTop f hs) hr]
  simp only [W.theMethod, State.vm_setTop, hrm, Option.some.injEq, exists_eq_left', Seam.isPolymorphic, wp_bind', W.theClass, hk, wp_pure', hpoly, W.ite, Bool.false_eq_true, if_false, hstatic, Jvm.popArgs, ← hlen, popN_top hs hstack]
  simp [hs, hcell, hobj, d_sel (s := s.setTop _) (show selectMethod e.platform (s.setTop _).vm cell.cls r = .method m from hsel) hrm hm hmk hi hnr, hm, habs]
end DWP
section DIN
variable {p : Program} {e : Env} {s : State} {g : JFrame} {c : Code} {below : List Frame} {target : State}
/-- a call of 'iload_1; ireturn', in place -/
theorem d_in1 (h : At s g.method c below) (hexec : p.tables.exec = Jvm.exec) {m : MethodId} {meth : Method} {code : Code} {a : Addr} {k : Int32} {ig : Instr} {len : Nat} (acts : List Action)
    (hm : s.vm.method? m = some meth) (hc : meth.code = some code) (hl : meth.locks = false) (hp : s.plainMethod m) (hret : meth.sig.returnType = some .int) (hlocals : code.maxLocals = 2)
    (h0 : decode code.code 0 = .ok (.iload_n 1, 1)) (h1 : decode code.code 1 = .ok (.ireturn, 1))
    (hroom : e.platform.stackFull (((s.setTop g).threads[(s.setTop g).cur]?).getD { frames := [] }) (s.setTop g).frames code.maxLocals = false) (hdg : decode c.code g.pc = .ok (ig, len))
    (hrest : Steps p.tables e below (s.setTop { g with pc := g.pc + len, stack := (.int k) :: g.stack }) target) :
    Steps p.tables e below (doInvoke e (s.setTop g) acts m #[.ref a, .int k]).1 target := by
  rw [doInvoke_enter h.top acts hm hc hl hroom]
  have hA : At ((s.setTop g).pushFrame (.java (entryFrame m #[.ref a, .int k] code.maxLocals))) m code below := h.enter #[.ref a, .int k] hm hc hp
  have hfr := frames_entered (g := g) h.top (.java (entryFrame m #[.ref a, .int k] code.maxLocals))
  have hback : ((s.setTop g).pushFrame (.java (entryFrame m #[.ref a, .int k] code.maxLocals))).setFrames (.java g :: s.frames.tail) = s.setTop g := setFrames_entered (s := s) (g := g) h.top (.java (entryFrame m #[.ref a, .int k] code.maxLocals))
  have hvm : ((s.setTop g).pushFrame (.java (entryFrame m #[.ref a, .int k] code.maxLocals))).vm = s.vm := rfl
  have hcg : ((s.setTop g).pushFrame (.java (entryFrame m #[.ref a, .int k] code.maxLocals))).code? g.method = some c := by
    have := h.code
    rw [State.code?_eq] at this ⊢
    simpa [State.pushFrame, State.setFrames] using this
  generalize (s.setTop g).pushFrame (.java (entryFrame m #[.ref a, .int k] code.maxLocals)) = u at hA hfr hback hvm hcg ⊢
  have hm1 : u.vm.method? m = some meth := by rw [hvm]; exact hm
  have hloc : argsToLocals #[.ref a, .int k] 2 = #[.val (.ref a), .val (.int k)] := rfl
  unfold entryFrame
  rw [hlocals, hloc]
  jvm_step hA [hexec, h0]
  jvm_step hA [hA.top, hexec, h1, hm1, hret, narrow]
  intro acts1
  rw [doReturn_leave (g := g) (meth := meth) (cg := c) (ig := ig) (len := len) acts1 hfr hm1 hl rfl rfl hcg hdg, hback, State.setTop_setTop]
  simpa using hrest
/-- a call of 'iconst_0; ireturn', in place -/
theorem d_in0 (h : At s g.method c below) (hexec : p.tables.exec = Jvm.exec) {m : MethodId} {meth : Method} {code : Code} {a : Addr} {x1 x2 x3 : Int32} {ig : Instr} {len : Nat} (acts : List Action)
    (hm : s.vm.method? m = some meth) (hc : meth.code = some code) (hl : meth.locks = false) (hp : s.plainMethod m) (hret : meth.sig.returnType = some .int) (hlocals : code.maxLocals = 4)
    (h0 : decode code.code 0 = .ok (.iconst 0, 1)) (h1 : decode code.code 1 = .ok (.ireturn, 1))
    (hroom : e.platform.stackFull (((s.setTop g).threads[(s.setTop g).cur]?).getD { frames := [] }) (s.setTop g).frames code.maxLocals = false) (hdg : decode c.code g.pc = .ok (ig, len))
    (hrest : Steps p.tables e below (s.setTop { g with pc := g.pc + len, stack := (.int 0) :: g.stack }) target) :
    Steps p.tables e below (doInvoke e (s.setTop g) acts m #[.ref a, .int x1, .int x2, .int x3]).1 target := by
  rw [doInvoke_enter h.top acts hm hc hl hroom]
  have hA : At ((s.setTop g).pushFrame (.java (entryFrame m #[.ref a, .int x1, .int x2, .int x3] code.maxLocals))) m code below := h.enter #[.ref a, .int x1, .int x2, .int x3] hm hc hp
  have hfr := frames_entered (g := g) h.top (.java (entryFrame m #[.ref a, .int x1, .int x2, .int x3] code.maxLocals))
  have hback : ((s.setTop g).pushFrame (.java (entryFrame m #[.ref a, .int x1, .int x2, .int x3] code.maxLocals))).setFrames (.java g :: s.frames.tail) = s.setTop g := setFrames_entered (s := s) (g := g) h.top (.java (entryFrame m #[.ref a, .int x1, .int x2, .int x3] code.maxLocals))
  have hvm : ((s.setTop g).pushFrame (.java (entryFrame m #[.ref a, .int x1, .int x2, .int x3] code.maxLocals))).vm = s.vm := rfl
  have hcg : ((s.setTop g).pushFrame (.java (entryFrame m #[.ref a, .int x1, .int x2, .int x3] code.maxLocals))).code? g.method = some c := by
    have := h.code
    rw [State.code?_eq] at this ⊢
    simpa [State.pushFrame, State.setFrames] using this
  generalize (s.setTop g).pushFrame (.java (entryFrame m #[.ref a, .int x1, .int x2, .int x3] code.maxLocals)) = u at hA hfr hback hvm hcg ⊢
  have hm1 : u.vm.method? m = some meth := by rw [hvm]; exact hm
  have hloc : argsToLocals #[.ref a, .int x1, .int x2, .int x3] 4 = #[.val (.ref a), .val (.int x1), .val (.int x2), .val (.int x3)] := rfl
  unfold entryFrame
  rw [hlocals, hloc]
  jvm_step hA [hexec, h0]
  jvm_step hA [hA.top, hexec, h1, hm1, hret, narrow]
  intro acts1
  rw [doReturn_leave (g := g) (meth := meth) (cg := c) (ig := ig) (len := len) acts1 hfr hm1 hl rfl rfl hcg hdg, hback, State.setTop_setTop]
  simpa using hrest
end DIN
