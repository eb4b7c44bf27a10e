set_option maxRecDepth 100000
/-! an exception caught by a class whose entry links, resolved or not -/
theorem d_goCold {e : Env} {s : State} {f : JFrame} {z : Addr} {x : ExceptionTableEntry} {t : List ExceptionTableEntry} {c : ClassId} {cell : Cell} {vm' : Vm} {Q : Handler → Bool → List Action → State → Prop} {E : Control → List Action → State → Prop} {d : Bool} {acts : List Action} (hx : covers x f.pc = true) (h0 : x.catchType ≠ 0)
    (hg : (Jvm.resolveClass f.method.cls x.catchType).Gives e.toSetting s.vm (.ok c) vm') (hsz : vm'.classes.size ≤ s.vm.classes.size) (hcell : s.heap[z]? = some cell) (hobj : ∀ k, cell.vm ≠ .statics k)
    (hk : ∃ k, vm'.classes[cell.cls]? = some k) (hc : ∃ k, vm'.classes[c]? = some k) (hfit : vm'.assignable cell.cls c = true) :
    Sem.wp (findHandler.go f z (x :: t)) Q E e d acts s ↔ Q (.found x.handlerPc) d acts (s.setVm vm') := by
  simp only [covers] at hx
  obtain ⟨h1, h2⟩ := hg.op (op := VmOp.resolveClass f.method.cls x.catchType) rfl
  simp [findHandler.go, hx, h0, h1, h2, hsz, hcell, hobj, hk, hc, hfit, VmOp.dirties, VmOp.acts]
theorem d_stepCatch {e : Env} {s : State} {z : Addr} {f : JFrame} {r : List Frame} {pc : Nat} {vm' : Vm} (hfind : ∀ (Q : Handler → Bool → List Action → State → Prop) (E : Control → List Action → State → Prop) (d : Bool) (acts : List Action), Sem.wp (findHandler f z) Q E e d acts s ↔ Q (.found pc) d acts (s.setVm vm')) :
    (stepThrowing e s z (.java f :: r)).Is ((s.setVm vm').setFrames (.java { f with pc := pc, stack := [.ref z] } :: r)) [] := by
  simp only [stepThrowing, searchFrame, vmDo]
  generalize hr : Sem.go _ e false [] s = res
  obtain ⟨as, rfl, ha⟩ := Sem.eq_ok_of hr (a := Handler.found pc) (s' := s.setVm vm') (acts' := []) (by simp [hfind _ _ _ _])
  exact ⟨rfl, ha⟩
theorem d_caught {tb : Tables} {e : Env} {s target : State} {g : JFrame} {c : Code} {below : List Frame} {z : Addr} {vm' : Vm} (h : At s g.method c below) {pc : Nat}
    (hfind : ∀ (Q : Handler → Bool → List Action → State → Prop) (E : Control → List Action → State → Prop) (d : Bool) (acts : List Action), Sem.wp (findHandler g z) Q E e d acts ((s.setTop g).pushFrame (.throwing z)) ↔ Q (.found pc) d acts (((s.setTop g).pushFrame (.throwing z)).setVm vm'))
    (hrest : Steps tb e below ((s.setVm vm').setTop { g with pc := pc, stack := [.ref z] }) target) : Steps tb e below ((s.setTop g).pushFrame (.throwing z)) target := by
  obtain ⟨hgo, hw⟩ := h.throwing z
  refine Steps.head hgo hw ?_
  rw [stepThread_throwing (frames_entered h.top _), (d_stepCatch (s := (s.setTop g).pushFrame (.throwing z)) hfind).1]
  obtain ⟨g₀, hg⟩ := Option.isSome_iff_exists.mp h.top
  obtain ⟨r, hr⟩ := State.topJava?_eq_some.mp hg
  have hr' : (s.setVm vm').frames = .java g₀ :: r := hr
  rw [State.setTop_of_frames _ hr'] at hrest
  have hcomm : ∀ (u : State) (fs : List Frame), (u.setFrames fs).setVm vm' = (u.setVm vm').setFrames fs := fun _ _ => rfl
  rw [State.pushFrame, State.setTop_of_frames _ hr, State.setFrames_setFrames, hcomm, State.setFrames_setFrames]
  rw [hr]
  exact hrest
/-- the search's tables: the entries before do not cover the place -/
theorem d_find {e : Env} {s : State} {f : JFrame} {z : Addr} {meth : Method} {code : Code} (hm : s.vm.method? f.method = some meth) (hc : meth.code = some code) (pre rest : List ExceptionTableEntry) (x : ExceptionTableEntry) (hsplit : code.exceptionTable.toList = pre ++ x :: rest) (hskip : ∀ y ∈ pre, covers y f.pc = false) {c : ClassId} {cell : Cell} {vm' : Vm} (hx : covers x f.pc = true) (h0 : x.catchType ≠ 0)
    (hg : (Jvm.resolveClass f.method.cls x.catchType).Gives e.toSetting s.vm (.ok c) vm') (hsz : vm'.classes.size ≤ s.vm.classes.size) (hcell : s.heap[z]? = some cell) (hobj : ∀ k, cell.vm ≠ .statics k)
    (hk : ∃ k, vm'.classes[cell.cls]? = some k) (hcc : ∃ k, vm'.classes[c]? = some k) (hfit : vm'.assignable cell.cls c = true) :
    ∀ (Q : Handler → Bool → List Action → State → Prop) (E : Control → List Action → State → Prop) (d : Bool) (acts : List Action), Sem.wp (findHandler f z) Q E e d acts s ↔ Q (.found x.handlerPc) d acts (s.setVm vm') := by
  intro Q E d acts
  rw [W.findHandler_eq hm hc, hsplit]
  clear hsplit
  induction pre with
  | nil => exact d_goCold hx h0 hg hsz hcell hobj hk hcc hfit
  | cons y t ih =>
    rw [List.cons_append, W.findHandler_go_skip (hskip y (List.mem_cons_self ..))]
    exact ih (fun y hy => hskip y (List.mem_cons_of_mem _ hy))
/-- caught in the walked method, by a class whose entry links -/
theorem d_catch {p : Program} {l : Launch} {e : Env} {R : Room} {s : State} {m : MethodId} {args : Array Value} {below : List Frame} {meth : Method} {c : Code} {T : State} {locs : List Loc} {cells slots : Nat} (X : Stand p l e R s m args below meth c T locs cells slots)
    {own name : String} (hown : s.vm.findClass own = some m.cls) (pre rest : List ExceptionTableEntry) (x : ExceptionTableEntry) (hsplit : c.exceptionTable.toList = pre ++ x :: rest) (hlink : (Cond.classLink own x.catchType name).before args s = true) (h0 : x.catchType ≠ 0)
    {z : Addr} {cell : Cell} {cT : ClassId} (hcell : T.heap[z]? = some cell) (hobj : cell.vm.isStatics = false) (hcT : s.vm.findClass name = some cT) (hasg : s.vm.assignable cell.cls cT = true)
    {g : JFrame} (hg : g.method = m) (hskip : ∀ y ∈ pre, covers y g.pc = false) (hx : covers x g.pc = true) :
    ∃ vm', Stand p l e R s m args below meth c (T.setVm vm') locs cells slots ∧
      ∀ target, Steps p.tables e below ((T.setVm vm').setTop { g with pc := x.handlerPc, stack := [.ref z] }) target → Steps p.tables e below ((T.setTop g).pushFrame (.throwing z)) target := by
  have hpl : e.platform.magicAccessors = ({} : Platform).magicAccessors := by rw [X.admits.platform]
  obtain ⟨c', hc', hcl⟩ := Cond.classLink_spec hown hlink e.platform hpl
  cases hcT.symm.trans hc'
  obtain ⟨dk, _, _, kt, hd, _, _, _, _, hkt, _, hopen⟩ := hcl.here
  obtain ⟨ks, hks⟩ := Vm.classAt_of_assignable hasg ⟨kt, hkt⟩
  have hcl₀ := X.warmed.classLinks hcl
  have hW' : s.WarmedH (T.vm.noted m.cls x.catchType (.cls cT)) := X.warmed.noted hd hopen (State.rightAt_cls hcl)
  obtain ⟨ks', hks', -⟩ := hW'.alike.2.2 _ _ hks
  obtain ⟨kt', hkt', -⟩ := hW'.alike.2.2 _ _ hkt
  refine ⟨_, X.noted hW', fun target hrest => ?_⟩
  subst hg
  have hvm := Stand.throwing_vm T g z
  have hhp := Stand.throwing_heap T g z
  refine d_caught X.here (d_find (meth := meth) (code := c) (by rw [hvm]; exact X.method') X.code pre rest x hsplit hskip hx h0 (by rw [hvm]; exact resolveClass_links e.toSetting hcl₀) (by rw [hvm]; no_record) (by rw [hhp]; exact hcell) (VmData.noStatics_of hobj) ⟨ks', hks'⟩ ⟨kt', hkt'⟩ (by rw [hW'.alike.assignable]; exact hasg)) ?_
  exact hrest
