set_option maxRecDepth 100000
abbrev wsW (y : MethodName) (b : ByteArray) (L : Nat) (r : Option FieldType) (hh : List (Nat × Nat × Nat × Nat)) : List Cond := Cond.codeWith y b L r hh :: lw_all
def tblOf (hh : List (Nat × Nat × Nat × Nat)) : List ExceptionTableEntry := hh.map (fun q => ⟨q.1, q.2.1, q.2.2.1, q.2.2.2⟩)
theorem tblOf_eq {t : List ExceptionTableEntry} {hh : List (Nat × Nat × Nat × Nat)} (h : t.map (fun h => (h.startPc, h.endPc, h.handlerPc, h.catchType)) = hh) : t = tblOf hh := by
  subst h
  unfold tblOf
  rw [List.map_map]
  induction t with
  | nil => rfl
  | cons x t ih => rw [List.map_cons, ← ih]; rfl
abbrev CWi (l : Launch) (D : va_G) (a : Nat → Nat) (d : Nat → ClassId) (y : MethodName) (cc : ByteArray) (nL : Nat) (rt : FieldType) (hh : List (Nat × Nat × Nat × Nat)) (rm : Room) (mc ms : Nat) (As : List Value) (sz : Nat) (S : CS) (Q : Int32 → CS → Prop) : Prop := Met l y (wsW y cc nL (some rt) hh) rm (va_Pc As (PC D a d sz S)) (va_Qi Q (BC D a d (va_A (cW a d S) sz)) (va_A (cW a d S) sz)) mc ms (va_A (cW a d S) sz)
theorem w_enter {l : Launch} {D : va_G} {a : Nat → Nat} {d : Nat → ClassId} {y : MethodName} {cc : ByteArray} {nL mc ms : Nat} {ret : Option FieldType} {hh : List (Nat × Nat × Nat × Nat)} {rm : Room} {As : List Value} {sz : Nat} {S : CS} {Qc : (Nat → Prop) → Array Value → State → Outcome → State → Prop} (own : String) (hy : plainName y.cls = true) (hyc : y.cls = own) (hsl : (lg_sl As).length ≤ nL)
    (body : ∀ (p : Program) (e : Env) (s : State) (m : MethodId) (below : List Frame) (meth : Method) (c : Code) (ls : Array Slot) (A : Nat → Prop), c.exceptionTable.toList = tblOf hh → FC p s m meth c As.toArray D a d A own cc nL ret → GC D a d A s.heap S s.heap [] → lv_has ls nL (lv_args 0 As) → W p l e rm s m As.toArray below meth c s.heap [] 0 0 (MQ below (Qc A) As.toArray s mc ms A) (F0 m 0 ls [])) :
    Met l y (wsW y cc nL ret hh) rm (va_Pc As (PC D a d sz S)) (Qc (va_A (cW a d S) sz)) mc ms (va_A (cW a d S) sz) := by
  refine va_MetW (cc := cc) (maxL := nL) (ret := ret) (hh := hh) hy rfl ?_
  intro p e s m args below meth c s₁ B hml hv
  obtain ⟨rfl, hsz, hP, hK, hD0, hN⟩ := hv
  have hts0 := atoms_spec (ws := wsW y cc nL ret hh) B.pre
  have hts : ∀ w ∈ lw_all, w.before _ s = true := fun w h => hts0 w (List.mem_cons_of_mem _ h)
  obtain ⟨m9, meth9, c9, hn9, e1, e2, -, -, htb, -⟩ := Cond.codeWith_spec (hts0 _ List.mem_cons_self)
  cases B.named.symm.trans hn9
  cases B.method.symm.trans e1
  cases (Stand.of_body B).code.symm.trans e2
  have hown : s.vm.findClass y.cls = some m.cls := findClass_of_methodNamed B.named
  subst hsz
  have hD := hD0.self (sz := s.heap.size)
  generalize hAe : va_A (cW a d S) s.heap.size = A at hD hN ⊢
  have hA : ∀ q : Nat, s.heap.size ≤ q → A q := fun q h => by rw [← hAe]; exact Or.inr h
  have hl := lv_entry As (n := nL) hsl
  rw [lg_entry_eq]
  exact body p e s m below meth c _ A (tblOf_eq htb) ⟨B.exec, B.bytes, B.returns, hml, hyc ▸ hown, hts, B.notSynchronized, hA, hK, hN⟩ ⟨hP, hD, va_S.rf⟩ hl
section
variable {p : Program} {l : Launch} {e : Env} {R : Room} {s : State} {m : MethodId} {args : Array Value} {below : List Frame} {meth : Method} {c : Code} {H : Heap} {locs : List Loc} {cells slots : Nat} {Q : State → Prop} {D : va_G} {a : Nat → Nat} {d : Nat → ClassId} {A : Nat → Prop} {S : CS} {own : String} {cc : ByteArray} {nL : Nat} {ret : Option FieldType} {pc : Nat} {ls : Array Slot} {rest : List Value}
theorem p_recv_X2 {fs : List Value} {y : Nat} (F : FC p s m meth c args D a d A own cc nL ret) (G : GC D a d A s.heap S H locs) (hy : has S y (.inr (2, fs))) : ∃ cell : Cell, H[y]? = some cell ∧ cell.vm.isStatics = false ∧ s.vm.findClass "StrokesHeard$Fault" = some cell.cls := by
  obtain ⟨hx, hb, hr, hml, hown, hts, hlocks, hA, hK, hN⟩ := F
  obtain ⟨q, hq⟩ := has_pos (a := a) (d := d) hy
  exact va_recv hK G.1 (ci := 2) (q0 := q) rfl hq
/-- a throw over the frame is caught by the entry x, the object being of that very class -/
theorem w_catch {name : String} {z : Nat} (F : FC p s m meth c args D a d A own cc nL ret) (G : GC D a d A s.heap S H locs) (pre post : List ExceptionTableEntry) (x : ExceptionTableEntry) (hs : c.exceptionTable.toList = pre ++ x :: post) (q : Cond.classLink own x.catchType name ∈ lw_all) (h0 : x.catchType ≠ 0) (hr : ∃ cell : Cell, H[z]? = some cell ∧ cell.vm.isStatics = false ∧ s.vm.findClass name = some cell.cls) (hskip : ∀ y ∈ pre, covers y pc = false) (hxc : covers x pc = true) (k : W p l e R s m args below meth c H locs cells slots Q (F0 m x.handlerPc ls [.ref z])) : WX p l e R s m args below meth c H locs cells slots Q (F0 m pc ls rest) z := by
  obtain ⟨hx, hb, hr0, hml, hown, hts, hlocks, hA, hK, hN⟩ := F
  obtain ⟨cell, h1, h2, h3⟩ := hr
  intro T hT X
  obtain ⟨vm2, X2, st⟩ := d_catch X hown pre post x hs (hts _ q) h0 (by rw [hT]; exact h1) h2 h3 (va_asg _ _) (g := F0 m pc ls rest) rfl hskip hxc
  obtain ⟨t, a1, b1⟩ := k (T.setVm vm2) hT X2
  exact ⟨t, st t a1, b1⟩
end
