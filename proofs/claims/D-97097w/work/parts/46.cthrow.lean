set_option maxRecDepth 100000
/-! methods that may throw: a contract, a call, the end by a throw -/
def MetT (l : Launch) (y : MethodName) (ws : List Cond) (rm : Room) (Pc : Array Value → State → Prop) (Qc : Array Value → State → Outcome → State → Prop) (mc ms : Nat) (free : Addr → Prop) : Prop :=
  MetFree l y (headSpec ws rm) Pc (fun _ _ _ _ _ => True) (fun a st o t => Qc a st o t ∧ ∃ L, (st.WarmedH t.vm ∧ st.sameButNew ({ t with vm := st.vm } : State) L mc ms) ∧ ∀ q ∈ L, free q.base)
def MQT (below : List Frame) (Qc : Array Value → State → Outcome → State → Prop) (a : Array Value) (s : State) (mc ms : Nat) (free : Addr → Prop) : State → Prop := fun t =>
  ∃ o, t.status = .running ∧ Ended t below o ∧ Qc a s o t ∧ ∃ L, (s.WarmedH t.vm ∧ s.sameButNew ({ t with vm := s.vm } : State) L mc ms) ∧ ∀ q ∈ L, free q.base
theorem MQT.of {below : List Frame} {Qc Qd : Array Value → State → Outcome → State → Prop} {a : Array Value} {s : State} {mc ms : Nat} {free : Addr → Prop} {t : State} (h : MQ below Qc a s mc ms free t) (hq : ∀ o, Qc a s o t → Qd a s o t) : MQT below Qd a s mc ms free t := by
  obtain ⟨o, h1, h2, h3, L, h4, h5⟩ := h
  exact ⟨o, h1, h2, hq o h3, L, ⟨h4.2.1, h4.2.2⟩, h5⟩
theorem W.mono {p : Program} {l : Launch} {e : Env} {R : Room} {s : State} {m : MethodId} {args : Array Value} {below : List Frame} {meth : Method} {c : Code} {H : Heap} {locs : List Loc} {cells slots : Nat} {Q Q' : State → Prop} {g : JFrame} (h : W p l e R s m args below meth c H locs cells slots Q g) (hq : ∀ t, Q t → Q' t) : W p l e R s m args below meth c H locs cells slots Q' g := by
  intro T hT X
  obtain ⟨t, a1, b1⟩ := h T hT X
  exact ⟨t, a1, hq t b1⟩
theorem MetT.ofW {l : Launch} {y : MethodName} {ws ws' : List Cond} {rm : Room} {Pc : Array Value → State → Prop} {Qc : Array Value → State → Outcome → State → Prop} {mc ms : Nat} {free : Addr → Prop} {cc : ByteArray} {maxL : Nat} {ret : Option FieldType}
    (hy : plainName y.cls = true) (hw : ws = Cond.code y cc maxL ret :: ws')
    (body : ∀ p e s m args below meth c s₁, BodyLoose p l y (headSpec ws rm) cc maxL ret e s m args below meth c s₁ → c.maxLocals = maxL → Pc args s →
      W p l e (headSpec ws rm).room s m args below meth c s.heap [] 0 0 (MQT below Qc args s mc ms free) (entryFrame m args maxL)) : MetT l y ws rm Pc Qc mc ms free := by
  refine MetFree.of_bodyS (code := cc) (maxLocals := maxL) (ret := ret) hy ?_ ?_
  · intro args s m h hn
    obtain ⟨meth, c, h1, h2, h3, h4, h5, h6, -, -⟩ := Cond.code_spec hn (atoms_spec (ws := ws) h _ (by rw [hw]; exact List.mem_cons_self))
    exact ⟨meth, c, h1, h2, h3, h4, h5, h6⟩
  · intro p e s m args below meth c s₁ B hml hP _
    have hh0 : s₁.heap = s.heap := by rw [B.state]; rfl
    obtain ⟨t, a1, o, b1, b2, b3⟩ := body p e s m args below meth c s₁ B hml hP s₁ hh0 (Stand.of_body B)
    exact ⟨t, o, a1, b1, b2, ⟨b3.1, b3.2⟩⟩
section CT
variable {p : Program} {l : Launch} {e : Env} {R : Room} {s : State} {m : MethodId} {args : Array Value} {below : List Frame} {meth : Method} {c : Code} {T : State} {locs : List Loc} {cells slots : Nat}
/-- a call of a method that may throw -/
theorem d_callT (X : Stand p l e R s m args below meth c T locs cells slots) {y : MethodName} {bytes : ByteArray} {maxL mc ms : Nat} {ret : Option FieldType} {rm : Room} {Pc : Array Value → State → Prop} {Qc : Array Value → State → Outcome → State → Prop} {free : Addr → Prop}
    (hts : ∀ w ∈ lw_all, w.before args s = true) (hM : MetT l y (ws_ y bytes maxL ret) rm Pc Qc mc ms free) (q6 : Cond.initialized y.cls ∈ lw_all) (q7 : Cond.code y bytes maxL ret ∈ lw_all)
    (hrc : rm.cells = mc) (hrs : rm.slots = ms) (hR : rm.frames + 1 ≤ R.frames ∧ 8 + (maxL + 11) + rm.locals ≤ R.locals) (hf : cells + mc ≤ R.cells ∧ slots + ms ≤ R.slots)
    {g : JFrame} {ig : Instr} {len : Nat} (hg : g.method = m) (hsize : g.locals.size = c.maxLocals) (hdg : decode c.code g.pc = .ok (ig, len)) (hW : 2 * g.monitorRoom + (g.stack.map fun v => v.category).sum ≤ 8) {mk : MethodId} {a : Array Value} (hn : T.methodNamed? y = some mk) (hP : Pc a (T.calling g mk a)) :
    ∃ (o : Outcome) (t T1 : State) (L : List Loc), Stand p l e R s m args below meth c T1 (locs ++ L) (cells + mc) (slots + ms) ∧ (∀ q ∈ L, free q.base) ∧ T1.heap = t.heap ∧ T1.vm = t.vm ∧ Qc a (T.calling g mk a) o t ∧
      ((∃ v, o = .returned v ∧ Steps p.tables e below (doInvoke e (T.setTop g) [] mk a).1 (T1.setTop { g with pc := g.pc + len, stack := v.toList ++ g.stack })) ∨ (∃ z, o = .threw z ∧ Steps p.tables e below (doInvoke e (T.setTop g) [] mk a).1 ((T1.setTop g).pushFrame (.throwing z)))) := by
  have hpre : (headSpec (ws_ y bytes maxL ret) rm).pre.before a T = true := atoms_intro fun w hw => pay_in hts (lw_meth q7) w hw a T X.warmed
  have hcode : (Cond.code y bytes maxL ret).before a T = true := pay_in hts (lw_meth q7) _ List.mem_cons_self a T X.warmed
  have hini : (Cond.initialized y.cls).before a T = true := word_at X.warmed (Or.inl (by first | rfl | simp [Cond.onTables, Cond.keeps, Cond.steady])) (hts _ q6)
  obtain ⟨methY, cY, hmY, hcY, -, hlY, -, -, -, -⟩ := Cond.code_spec hn hcode
  obtain ⟨kY, hkY, -⟩ := className_of_methodNamed hn
  have hinitY : kY.init = .initialized := Cond.initialized_spec (findClass_of_methodNamed hn) hkY hini
  have h : At T g.method c below := by rw [hg]; exact X.here
  have happ : (headSpec (ws_ y bytes maxL ret) rm).appliesLoose y e.platform (T.calling g mk a) = true :=
    Spec.appliesLoose_calling (g := g) h hdg hn hkY hinitY (X.room_calling (g := g) (R' := (headSpec (ws_ y bytes maxL ret) rm).room) hsize hmY hcY hR.1 (by have h9 := hR.2; have hz : (headSpec (ws_ y bytes maxL ret) rm).room.locals = rm.locals := rfl; rw [hz]; omega) (by show cells + rm.cells ≤ _; rw [hrc]; exact hf.1) (by show slots + rm.slots ≤ _; rw [hrs]; exact hf.2)) hpre
  obtain ⟨mid, hmid⟩ := h.above
  have hfr : (T.setTop g).frames = (.java g :: mid) ++ below := by rw [State.frames_setTop' g h.top, hmid]; rfl
  obtain ⟨o, t, hsteps, -, hend, hq⟩ := Steps.callFree hM p X.admits X.cas X.clock (acts := []) hfr happ hP trivial
  obtain ⟨hq1, L, ⟨hW2, hsame⟩, hL⟩ := (show Qc a (T.calling g mk a) o t ∧ _ from hq)
  rw [State.frames_setTop' g h.top, X.tail] at hend
  cases o with
  | returned v =>
    obtain ⟨T1, X1, -, -, ht⟩ := X.outOf hg hdg hend hW2 hsame
    exact ⟨_, t, T1, L, X1, hL, by rw [ht]; rfl, by rw [ht]; rfl, hq1, Or.inl ⟨v, rfl, by rw [← ht]; exact hsteps⟩⟩
  | threw z =>
    obtain ⟨T1, X1, -, -, ht⟩ := X.outOfThrown hg hend hW2 hsame
    exact ⟨_, t, T1, L, X1, hL, by rw [ht]; rfl, by rw [ht]; rfl, hq1, Or.inr ⟨z, rfl, by rw [← ht]; exact hsteps⟩⟩
end CT
