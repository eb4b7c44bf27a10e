set_option maxRecDepth 100000
def QTi (Q : Int32 → CS → Prop) (E : Nat → CS → Prop) (B : CS → State → Prop) (A : Nat → Prop) : Array Value → State → Outcome → State → Prop := fun _ st oc t => ((∃ (r : Int32) (u : CS), oc = .returned (some (.int r)) ∧ Q r u ∧ B u t) ∨ (∃ (z : Nat) (u : CS), oc = .threw z ∧ E z u ∧ B u t)) ∧ va_F A st t
abbrev CTi (l : Launch) (D : va_G) (a : Nat → Nat) (d : Nat → ClassId) (y : MethodName) (cc : ByteArray) (nL : Nat) (rt : FieldType) (rm : Room) (mc ms : Nat) (As : List Value) (sz : Nat) (S : CS) (Q : Int32 → CS → Prop) (E : Nat → CS → Prop) : Prop := MetT l y (ws_ y cc nL (some rt)) rm (va_Pc As (PC D a d sz S)) (QTi Q E (BC D a d (va_A (cW a d S) sz)) (va_A (cW a d S) sz)) mc ms (va_A (cW a d S) sz)
abbrev wTi (p : Program) (l : Launch) (e : Env) (R : Room) (s : State) (m : MethodId) (args : Array Value) (below : List Frame) (meth : Method) (c : Code) (D : va_G) (a : Nat → Nat) (d : Nat → ClassId) (A : Nat → Prop) (Q : Int32 → CS → Prop) (E : Nat → CS → Prop) (mc ms : Nat) (H : Heap) (locs : List Loc) (cells slots : Nat) (g : JFrame) : Prop := W p l e R s m args below meth c H locs cells slots (MQT below (QTi Q E (BC D a d A) A) args s mc ms A) g
def QTv (Q : CS → Prop) (E : Nat → CS → Prop) (B : CS → State → Prop) (A : Nat → Prop) : Array Value → State → Outcome → State → Prop := fun _ st oc t => ((∃ u : CS, oc = .returned none ∧ Q u ∧ B u t) ∨ (∃ (z : Nat) (u : CS), oc = .threw z ∧ E z u ∧ B u t)) ∧ va_F A st t
abbrev CTv (l : Launch) (D : va_G) (a : Nat → Nat) (d : Nat → ClassId) (y : MethodName) (cc : ByteArray) (nL : Nat) (rm : Room) (mc ms : Nat) (As : List Value) (sz : Nat) (S : CS) (Q : CS → Prop) (E : Nat → CS → Prop) : Prop := MetT l y (ws_ y cc nL none) rm (va_Pc As (PC D a d sz S)) (QTv Q E (BC D a d (va_A (cW a d S) sz)) (va_A (cW a d S) sz)) mc ms (va_A (cW a d S) sz)
abbrev wTv (p : Program) (l : Launch) (e : Env) (R : Room) (s : State) (m : MethodId) (args : Array Value) (below : List Frame) (meth : Method) (c : Code) (D : va_G) (a : Nat → Nat) (d : Nat → ClassId) (A : Nat → Prop) (Q : CS → Prop) (E : Nat → CS → Prop) (mc ms : Nat) (H : Heap) (locs : List Loc) (cells slots : Nat) (g : JFrame) : Prop := W p l e R s m args below meth c H locs cells slots (MQT below (QTv Q E (BC D a d A) A) args s mc ms A) g
def QTr (Q : Nat → CS → Prop) (E : Nat → CS → Prop) (B : CS → State → Prop) (A : Nat → Prop) : Array Value → State → Outcome → State → Prop := fun _ st oc t => ((∃ (r : Nat) (u : CS), oc = .returned (some (.ref r)) ∧ Q r u ∧ B u t) ∨ (∃ (z : Nat) (u : CS), oc = .threw z ∧ E z u ∧ B u t)) ∧ va_F A st t
abbrev CTr (l : Launch) (D : va_G) (a : Nat → Nat) (d : Nat → ClassId) (y : MethodName) (cc : ByteArray) (nL : Nat) (rt : FieldType) (rm : Room) (mc ms : Nat) (As : List Value) (sz : Nat) (S : CS) (Q : Nat → CS → Prop) (E : Nat → CS → Prop) : Prop := MetT l y (ws_ y cc nL (some rt)) rm (va_Pc As (PC D a d sz S)) (QTr Q E (BC D a d (va_A (cW a d S) sz)) (va_A (cW a d S) sz)) mc ms (va_A (cW a d S) sz)
abbrev wTr (p : Program) (l : Launch) (e : Env) (R : Room) (s : State) (m : MethodId) (args : Array Value) (below : List Frame) (meth : Method) (c : Code) (D : va_G) (a : Nat → Nat) (d : Nat → ClassId) (A : Nat → Prop) (Q : Nat → CS → Prop) (E : Nat → CS → Prop) (mc ms : Nat) (H : Heap) (locs : List Loc) (cells slots : Nat) (g : JFrame) : Prop := W p l e R s m args below meth c H locs cells slots (MQT below (QTr Q E (BC D a d A) A) args s mc ms A) g
def FT (p : Program) (s : State) (m : MethodId) (meth : Method) (c : Code) (args : Array Value) (D : va_G) (a : Nat → Nat) (d : Nat → ClassId) (A : Nat → Prop) (own : String) (cc : ByteArray) (nL : Nat) (ret : Option FieldType) : Prop := FC p s m meth c args D a d A own cc nL ret ∧ c.exceptionTable.isEmpty = true
/-- a throw lies over the frame g -/
def WX (p : Program) (l : Launch) (e : Env) (R : Room) (s : State) (m : MethodId) (args : Array Value) (below : List Frame) (meth : Method) (c : Code) (H : Heap) (locs : List Loc) (cells slots : Nat) (Q : State → Prop) (g : JFrame) (z : Nat) : Prop := ∀ T : State, T.heap = H → Stand p l e R s m args below meth c T locs cells slots → ∃ t, Steps p.tables e below ((T.setTop g).pushFrame (.throwing z)) t ∧ Q t
theorem t_enter {l : Launch} {D : va_G} {a : Nat → Nat} {d : Nat → ClassId} {y : MethodName} {cc : ByteArray} {nL mc ms : Nat} {ret : Option FieldType} {rm : Room} {As : List Value} {sz : Nat} {S : CS} {Qc : (Nat → Prop) → Array Value → State → Outcome → State → Prop} (own : String) (hy : plainName y.cls = true) (hyc : y.cls = own) (hsl : (lg_sl As).length ≤ nL)
    (body : ∀ (p : Program) (e : Env) (s : State) (m : MethodId) (below : List Frame) (meth : Method) (c : Code) (ls : Array Slot) (A : Nat → Prop), FT p s m meth c As.toArray D a d A own cc nL ret → GC D a d A s.heap S s.heap [] → lv_has ls nL (lv_args 0 As) → W p l e rm s m As.toArray below meth c s.heap [] 0 0 (MQT below (Qc A) As.toArray s mc ms A) (F0 m 0 ls [])) :
    MetT l y (ws_ y cc nL ret) rm (va_Pc As (PC D a d sz S)) (Qc (va_A (cW a d S) sz)) mc ms (va_A (cW a d S) sz) := by
  refine MetT.ofW (cc := cc) (maxL := nL) (ret := ret) hy rfl ?_
  intro p e s m args below meth c s₁ B hml hv
  obtain ⟨rfl, hsz, hP, hK, hD0, hN⟩ := hv
  have hts0 := atoms_spec (ws := ws_ y cc nL ret) B.pre
  have hts : ∀ w ∈ lw_all, w.before _ s = true := fun w h => hts0 w (List.mem_cons_of_mem _ h)
  have hxt := B.noHandlers (hts0 _ List.mem_cons_self)
  have hown : s.vm.findClass y.cls = some m.cls := findClass_of_methodNamed B.named
  subst hsz
  have hD := hD0.self (sz := s.heap.size)
  generalize hAe : va_A (cW a d S) s.heap.size = A at hD hN ⊢
  have hA : ∀ q : Nat, s.heap.size ≤ q → A q := fun q h => by rw [← hAe]; exact Or.inr h
  have hl := lv_entry As (n := nL) hsl
  rw [lg_entry_eq]
  exact body p e s m below meth c _ A ⟨⟨B.exec, B.bytes, B.returns, hml, hyc ▸ hown, hts, B.notSynchronized, hA, hK, hN⟩, hxt⟩ ⟨hP, hD, va_S.rf⟩ hl
section
variable {p : Program} {l : Launch} {e : Env} {R : Room} {s : State} {m : MethodId} {args : Array Value} {below : List Frame} {meth : Method} {c : Code} {H : Heap} {locs : List Loc} {cells slots : Nat} {D : va_G} {a : Nat → Nat} {d : Nat → ClassId} {A : Nat → Prop} {S : CS} {own : String} {cc : ByteArray} {nL : Nat} {ret : Option FieldType} {pc : Nat} {ls : Array Slot} {rest : List Value}
theorem t_iret {Q : Int32 → CS → Prop} {E : Nat → CS → Prop} {v : Int32} (F : FT p s m meth c args D a d A own cc nL (some .int)) (G : GC D a d A s.heap S H locs) (hd : decode cc pc = .ok (.ireturn, 1)) (h : Q v S) : wTi p l e R s m args below meth c D a d A Q E cells slots H locs cells slots (F0 m pc ls [.int v]) := by
  refine W.mono (c_iret F.1 G hd h) (fun t ht => MQT.of ht (fun o ho => ?_))
  · obtain ⟨⟨r, u, h1, h2, h3⟩, h4⟩ := ho
    exact ⟨Or.inl ⟨r, u, h1, h2, h3⟩, h4⟩
theorem t_zret {Q : Int32 → CS → Prop} {E : Nat → CS → Prop} {v : Int32} (hz : zb v) (F : FT p s m meth c args D a d A own cc nL (some .boolean)) (G : GC D a d A s.heap S H locs) (hd : decode cc pc = .ok (.ireturn, 1)) (h : Q v S) : wTi p l e R s m args below meth c D a d A Q E cells slots H locs cells slots (F0 m pc ls [.int v]) := by
  refine W.mono (c_zret hz F.1 G hd h) (fun t ht => MQT.of ht (fun o ho => ?_))
  · obtain ⟨⟨r, u, h1, h2, h3⟩, h4⟩ := ho
    exact ⟨Or.inl ⟨r, u, h1, h2, h3⟩, h4⟩
theorem t_vret {Q : CS → Prop} {E : Nat → CS → Prop} (F : FT p s m meth c args D a d A own cc nL none) (G : GC D a d A s.heap S H locs) (hd : decode cc pc = .ok (.return_, 1)) (h : Q S) : wTv p l e R s m args below meth c D a d A Q E cells slots H locs cells slots (F0 m pc ls []) := by
  refine W.mono (c_vret F.1 G hd h) (fun t ht => MQT.of ht (fun o ho => ?_))
  · obtain ⟨⟨u, h1, h2, h3⟩, h4⟩ := ho
    exact ⟨Or.inl ⟨u, h1, h2, h3⟩, h4⟩
theorem t_aret {Q : Nat → CS → Prop} {E : Nat → CS → Prop} {v : Nat} {C : String} (F : FT p s m meth c args D a d A own cc nL (some (.object C))) (G : GC D a d A s.heap S H locs) (hd : decode cc pc = .ok (.areturn, 1)) (h : Q v S) : wTr p l e R s m args below meth c D a d A Q E cells slots H locs cells slots (F0 m pc ls [.ref v]) := by
  refine W.mono (c_aret F.1 G hd h) (fun t ht => MQT.of ht (fun o ho => ?_))
  · obtain ⟨⟨u, y, h1, h2, h3, h5⟩, h4⟩ := ho
    exact ⟨Or.inl ⟨y, u.2, h1, by rw [h3]; exact h2, h5⟩, h4⟩
theorem t_athrowi {Q : Int32 → CS → Prop} {E : Nat → CS → Prop} {z : Nat} (F : FT p s m meth c args D a d A own cc nL ret) (G : GC D a d A s.heap S H locs) (hd : decode cc pc = .ok (.athrow, 1)) (h : E z S) : wTi p l e R s m args below meth c D a d A Q E cells slots H locs cells slots (F0 m pc ls (.ref z :: rest)) := by
  obtain ⟨⟨hx, hb, hr, hml, hown, hts, hlocks, hA, hK, hN⟩, hxt⟩ := F
  obtain ⟨hP, hD, hS⟩ := G
  intro T hT X
  obtain ⟨h1, h2, h3, h4, h5⟩ := X.athrowLeaves hx (g := F0 m pc ls (.ref z :: rest)) rfl rfl rfl (covers_of_empty hxt _) rfl (by rw [hb]; exact hd)
  have hh : (T.setFrames (.throwing z :: below)).heap = H := hT
  exact ⟨_, h1, .threw z, h2, h3, ⟨Or.inr ⟨z, S, rfl, h, by rw [hh]; exact hP, va_K.moved h4.alike hK, hD⟩, hS.F hh⟩, locs, ⟨h4, h5⟩, hS.2.2⟩
theorem t_outi {Q : Int32 → CS → Prop} {E : Nat → CS → Prop} {z : Nat} (F : FT p s m meth c args D a d A own cc nL ret) (G : GC D a d A s.heap S H locs) (h : E z S) : WX p l e R s m args below meth c H locs cells slots (MQT below (QTi Q E (BC D a d A) A) args s cells slots A) (F0 m pc ls rest) z := by
  obtain ⟨⟨hx, hb, hr, hml, hown, hts, hlocks, hA, hK, hN⟩, hxt⟩ := F
  obtain ⟨hP, hD, hS⟩ := G
  intro T hT X
  obtain ⟨h1, h2, h3, h4, h5⟩ := X.leaveThrown z (g := F0 m pc ls rest) rfl rfl rfl (covers_of_empty hxt _)
  have hh : (T.setFrames (.throwing z :: below)).heap = H := hT
  exact ⟨_, h1, .threw z, h2, h3, ⟨Or.inr ⟨z, S, rfl, h, by rw [hh]; exact hP, va_K.moved h4.alike hK, hD⟩, hS.F hh⟩, locs, ⟨h4, h5⟩, hS.2.2⟩
theorem t_athrowv {Q : CS → Prop} {E : Nat → CS → Prop} {z : Nat} (F : FT p s m meth c args D a d A own cc nL ret) (G : GC D a d A s.heap S H locs) (hd : decode cc pc = .ok (.athrow, 1)) (h : E z S) : wTv p l e R s m args below meth c D a d A Q E cells slots H locs cells slots (F0 m pc ls (.ref z :: rest)) := by
  obtain ⟨⟨hx, hb, hr, hml, hown, hts, hlocks, hA, hK, hN⟩, hxt⟩ := F
  obtain ⟨hP, hD, hS⟩ := G
  intro T hT X
  obtain ⟨h1, h2, h3, h4, h5⟩ := X.athrowLeaves hx (g := F0 m pc ls (.ref z :: rest)) rfl rfl rfl (covers_of_empty hxt _) rfl (by rw [hb]; exact hd)
  have hh : (T.setFrames (.throwing z :: below)).heap = H := hT
  exact ⟨_, h1, .threw z, h2, h3, ⟨Or.inr ⟨z, S, rfl, h, by rw [hh]; exact hP, va_K.moved h4.alike hK, hD⟩, hS.F hh⟩, locs, ⟨h4, h5⟩, hS.2.2⟩
theorem t_outv {Q : CS → Prop} {E : Nat → CS → Prop} {z : Nat} (F : FT p s m meth c args D a d A own cc nL ret) (G : GC D a d A s.heap S H locs) (h : E z S) : WX p l e R s m args below meth c H locs cells slots (MQT below (QTv Q E (BC D a d A) A) args s cells slots A) (F0 m pc ls rest) z := by
  obtain ⟨⟨hx, hb, hr, hml, hown, hts, hlocks, hA, hK, hN⟩, hxt⟩ := F
  obtain ⟨hP, hD, hS⟩ := G
  intro T hT X
  obtain ⟨h1, h2, h3, h4, h5⟩ := X.leaveThrown z (g := F0 m pc ls rest) rfl rfl rfl (covers_of_empty hxt _)
  have hh : (T.setFrames (.throwing z :: below)).heap = H := hT
  exact ⟨_, h1, .threw z, h2, h3, ⟨Or.inr ⟨z, S, rfl, h, by rw [hh]; exact hP, va_K.moved h4.alike hK, hD⟩, hS.F hh⟩, locs, ⟨h4, h5⟩, hS.2.2⟩
theorem t_athrowr {Q : Nat → CS → Prop} {E : Nat → CS → Prop} {z : Nat} (F : FT p s m meth c args D a d A own cc nL ret) (G : GC D a d A s.heap S H locs) (hd : decode cc pc = .ok (.athrow, 1)) (h : E z S) : wTr p l e R s m args below meth c D a d A Q E cells slots H locs cells slots (F0 m pc ls (.ref z :: rest)) := by
  obtain ⟨⟨hx, hb, hr, hml, hown, hts, hlocks, hA, hK, hN⟩, hxt⟩ := F
  obtain ⟨hP, hD, hS⟩ := G
  intro T hT X
  obtain ⟨h1, h2, h3, h4, h5⟩ := X.athrowLeaves hx (g := F0 m pc ls (.ref z :: rest)) rfl rfl rfl (covers_of_empty hxt _) rfl (by rw [hb]; exact hd)
  have hh : (T.setFrames (.throwing z :: below)).heap = H := hT
  exact ⟨_, h1, .threw z, h2, h3, ⟨Or.inr ⟨z, S, rfl, h, by rw [hh]; exact hP, va_K.moved h4.alike hK, hD⟩, hS.F hh⟩, locs, ⟨h4, h5⟩, hS.2.2⟩
theorem t_outr {Q : Nat → CS → Prop} {E : Nat → CS → Prop} {z : Nat} (F : FT p s m meth c args D a d A own cc nL ret) (G : GC D a d A s.heap S H locs) (h : E z S) : WX p l e R s m args below meth c H locs cells slots (MQT below (QTr Q E (BC D a d A) A) args s cells slots A) (F0 m pc ls rest) z := by
  obtain ⟨⟨hx, hb, hr, hml, hown, hts, hlocks, hA, hK, hN⟩, hxt⟩ := F
  obtain ⟨hP, hD, hS⟩ := G
  intro T hT X
  obtain ⟨h1, h2, h3, h4, h5⟩ := X.leaveThrown z (g := F0 m pc ls rest) rfl rfl rfl (covers_of_empty hxt _)
  have hh : (T.setFrames (.throwing z :: below)).heap = H := hT
  exact ⟨_, h1, .threw z, h2, h3, ⟨Or.inr ⟨z, S, rfl, h, by rw [hh]; exact hP, va_K.moved h4.alike hK, hD⟩, hS.F hh⟩, locs, ⟨h4, h5⟩, hS.2.2⟩
theorem WX.widen {Q : State → Prop} {g : JFrame} {z k n : Nat} (h1 : cells ≤ k) (h2 : slots ≤ n) (kk : WX p l e R s m args below meth c H locs k n Q g z) : WX p l e R s m args below meth c H locs cells slots Q g z := fun T hT X => kk T hT (stand_widen X h1 h2)
/-- a call, through an object, of a method that may throw -/
theorem t_callVi {Q : State → Prop} {y : MethodName} {bytes : ByteArray} {maxL n index mc ms : Nat} {rt : FieldType} {rm : Room} {As st0 : List Value} {b : Nat} {C : String} {Q1 : Int32 → CS → Prop} {E1 : Nat → CS → Prop} (F : FC p s m meth c args D a d A own cc nL ret) (G : GC D a d A s.heap S H locs) (hsz : ls.size = nL)
    (hM : CTi l D a d y bytes maxL rt rm mc ms (.ref b :: As) H.size S Q1 E1) (q1 : Cond.methodLink own index y ∈ lw_all) (q2 : Cond.instanceMethod y ∈ lw_all) (q3 : Cond.selects C y y ∈ lw_all) (q6 : Cond.initialized y.cls ∈ lw_all) (q7 : Cond.code y bytes maxL (some rt) ∈ lw_all)
    (hr : ∃ cell : Cell, H[b]? = some cell ∧ cell.vm.isStatics = false ∧ s.vm.findClass C = some cell.cls) (hyc : y.cls ≠ "java/lang/invoke/MethodHandle" ∧ y.cls ≠ "java/lang/invoke/VarHandle" ∧ (parseMethodDescriptor y.desc).map (fun d => d.parameters.length) = some n) (hrc : rm.cells = mc) (hrs : rm.slots = ms) (hn : As.length = n) (hst : st0 = As.reverse ++ .ref b :: rest) (hR : rm.frames + 1 ≤ R.frames ∧ 8 + (maxL + 11) + rm.locals ≤ R.locals) (hf : cells + mc ≤ R.cells ∧ slots + ms ≤ R.slots) (hW : (rest.map fun v => v.category).sum ≤ 8) (hd : decode cc pc = .ok (.invokevirtual index, 3))
    (k : ∀ (r : Int32) (S1 : CS) (H : Heap) (locs : List Loc), GC D a d A s.heap S1 H locs → Q1 r S1 → W p l e R s m args below meth c H locs (cells + mc) (slots + ms) Q (F0 m (pc + 3) ls (.int r :: rest)))
    (kx : ∀ (z : Nat) (S1 : CS) (H : Heap) (locs : List Loc), GC D a d A s.heap S1 H locs → E1 z S1 → WX p l e R s m args below meth c H locs (cells + mc) (slots + ms) Q (F0 m pc ls rest) z) : W p l e R s m args below meth c H locs cells slots Q (F0 m pc ls st0) := by
  have hpre := c_pre (As := .ref b :: As) F G
  obtain ⟨hx, hb, hr0, hml, hown, hts, hlocks, hA, hK, hN⟩ := F
  obtain ⟨hP, hD, hS⟩ := G
  have hF := va_freeAll hD hS hA
  obtain ⟨cellB, hcB, hoB, hclB⟩ := hr
  intro T hT X
  obtain ⟨mk, methM, hnamed, hmethM, hstM, habM⟩ := Cond.instanceMethod_spec (hts _ q2)
  obtain ⟨methM2, cM, hmethM2, -, -, -, -, -, -, hsigM⟩ := Cond.code_spec hnamed (hts _ q7)
  cases hmethM.symm.trans hmethM2
  obtain ⟨c2, r2, m2, w1, w2, w3, w4, kP, hkP, hkPi⟩ := Cond.selects_spec (hts _ q3)
  cases hclB.symm.trans w1
  cases (State.methodFound?_of_named hnamed ⟨hyc.1, hyc.2.1⟩).symm.trans w2
  cases hnamed.symm.trans w3
  have hselP : selectMethod e.platform s.vm cellB.cls mk = .method mk := by rw [Launch.admits_selectMethod X.admits]; exact w4
  have hlen : As.length = methM.sig.parameters.length := by
    have h9 := hyc.2.2
    rw [hsigM] at h9
    exact hn.trans (Option.some.inj h9).symm
  obtain ⟨vm1, X1, hstep1⟩ := X.invokevirtual hx hown (hts _ q1) hnamed hmethM hstM hkP hkPi ⟨hyc.1, hyc.2.1⟩ (a := b) (cell := cellB) (by rw [hT]; exact hcB)
    (fun z h => by rw [h] at hoB; cases hoB) hselP hmethM habM hkP hkPi (g := F0 m pc ls st0) rfl (argsL := As) (rest := rest) hlen hst (by rw [hb]; exact hd)
  have hPc : va_Pc (.ref b :: As) (PC D a d H.size S) (.ref b :: As).toArray ((T.setVm vm1).calling (F0 m pc ls rest) mk (.ref b :: As).toArray) := PC_blind _ _ _ _ (hpre (T.setVm vm1) hT X1.warmed)
  obtain ⟨o, t, T1, L, X2, hL, e1, e2, ⟨hq, hz, hk⟩, hst2⟩ := d_callT X1 (g := F0 m pc ls rest) hts hM q6 q7 hrc hrs hR hf rfl (hsz.trans hml.symm) (by rw [hb]; exact hd) (lv_room hW) (X1.named hnamed) hPc
  have hz : H.size ≤ t.heap.size := by have := hz; rw [show ((T.setVm vm1).calling (F0 m pc ls rest) mk (.ref b :: As).toArray).heap = H from hT] at this; exact this
  have hk : ∀ q : Nat, q < H.size → ¬ va_A (cW a d S) H.size q → t.heap[q]? = H[q]? := by have := hk; rw [show ((T.setVm vm1).calling (F0 m pc ls rest) mk (.ref b :: As).toArray).heap = H from hT] at this; exact this
  have hS1 : va_S A s.heap T1.heap (locs ++ L) := ⟨Nat.le_trans hS.1 (by rw [e1]; exact hz), fun q h1 h2 => by rw [e1, hk q (Nat.lt_of_lt_of_le h1 hS.1) (fun z => h2 (hF q z))]; exact hS.2.1 q h1 h2, fun q hq => by
    rcases List.mem_append.mp hq with h | h
    · exact hS.2.2 q h
    · exact hF _ (hL q h)⟩
  rcases hq with ⟨r, u, ho1, hq1, hP1, hK1, hD1⟩ | ⟨z, u, ho1, hq1, hP1, hK1, hD1⟩
  · subst ho1
    rcases hst2 with ⟨v, hv, hs2⟩ | ⟨z, hv, -⟩
    · cases hv
      rw [← e1] at hP1
      obtain ⟨t2, a1, b1⟩ := k r u T1.heap (locs ++ L) ⟨hP1, hD1.weaken (fun _ q _ h => hF q.1 h), hS1⟩ hq1 T1 rfl X2
      exact ⟨t2, hstep1 _ (fun acts => by rw [doInvoke_state]; exact hs2.trans a1), b1⟩
    · cases hv
  · subst ho1
    rcases hst2 with ⟨v, hv, -⟩ | ⟨z2, hv, hs2⟩
    · cases hv
    · cases hv
      rw [← e1] at hP1
      obtain ⟨t2, a1, b1⟩ := kx z u T1.heap (locs ++ L) ⟨hP1, hD1.weaken (fun _ q _ h => hF q.1 h), hS1⟩ hq1 T1 rfl X2
      exact ⟨t2, hstep1 _ (fun acts => by rw [doInvoke_state]; exact hs2.trans a1), b1⟩
/-- a call, through an object, of a method that may throw -/
theorem t_callVv {Q : State → Prop} {y : MethodName} {bytes : ByteArray} {maxL n index mc ms : Nat} {rt : FieldType} {rm : Room} {As st0 : List Value} {b : Nat} {C : String} {Q1 : CS → Prop} {E1 : Nat → CS → Prop} (F : FC p s m meth c args D a d A own cc nL ret) (G : GC D a d A s.heap S H locs) (hsz : ls.size = nL)
    (hM : CTv l D a d y bytes maxL rm mc ms (.ref b :: As) H.size S Q1 E1) (q1 : Cond.methodLink own index y ∈ lw_all) (q2 : Cond.instanceMethod y ∈ lw_all) (q3 : Cond.selects C y y ∈ lw_all) (q6 : Cond.initialized y.cls ∈ lw_all) (q7 : Cond.code y bytes maxL none ∈ lw_all)
    (hr : ∃ cell : Cell, H[b]? = some cell ∧ cell.vm.isStatics = false ∧ s.vm.findClass C = some cell.cls) (hyc : y.cls ≠ "java/lang/invoke/MethodHandle" ∧ y.cls ≠ "java/lang/invoke/VarHandle" ∧ (parseMethodDescriptor y.desc).map (fun d => d.parameters.length) = some n) (hrc : rm.cells = mc) (hrs : rm.slots = ms) (hn : As.length = n) (hst : st0 = As.reverse ++ .ref b :: rest) (hR : rm.frames + 1 ≤ R.frames ∧ 8 + (maxL + 11) + rm.locals ≤ R.locals) (hf : cells + mc ≤ R.cells ∧ slots + ms ≤ R.slots) (hW : (rest.map fun v => v.category).sum ≤ 8) (hd : decode cc pc = .ok (.invokevirtual index, 3))
    (k : ∀ (S1 : CS) (H : Heap) (locs : List Loc), GC D a d A s.heap S1 H locs → Q1 S1 → W p l e R s m args below meth c H locs (cells + mc) (slots + ms) Q (F0 m (pc + 3) ls rest))
    (kx : ∀ (z : Nat) (S1 : CS) (H : Heap) (locs : List Loc), GC D a d A s.heap S1 H locs → E1 z S1 → WX p l e R s m args below meth c H locs (cells + mc) (slots + ms) Q (F0 m pc ls rest) z) : W p l e R s m args below meth c H locs cells slots Q (F0 m pc ls st0) := by
  have hpre := c_pre (As := .ref b :: As) F G
  obtain ⟨hx, hb, hr0, hml, hown, hts, hlocks, hA, hK, hN⟩ := F
  obtain ⟨hP, hD, hS⟩ := G
  have hF := va_freeAll hD hS hA
  obtain ⟨cellB, hcB, hoB, hclB⟩ := hr
  intro T hT X
  obtain ⟨mk, methM, hnamed, hmethM, hstM, habM⟩ := Cond.instanceMethod_spec (hts _ q2)
  obtain ⟨methM2, cM, hmethM2, -, -, -, -, -, -, hsigM⟩ := Cond.code_spec hnamed (hts _ q7)
  cases hmethM.symm.trans hmethM2
  obtain ⟨c2, r2, m2, w1, w2, w3, w4, kP, hkP, hkPi⟩ := Cond.selects_spec (hts _ q3)
  cases hclB.symm.trans w1
  cases (State.methodFound?_of_named hnamed ⟨hyc.1, hyc.2.1⟩).symm.trans w2
  cases hnamed.symm.trans w3
  have hselP : selectMethod e.platform s.vm cellB.cls mk = .method mk := by rw [Launch.admits_selectMethod X.admits]; exact w4
  have hlen : As.length = methM.sig.parameters.length := by
    have h9 := hyc.2.2
    rw [hsigM] at h9
    exact hn.trans (Option.some.inj h9).symm
  obtain ⟨vm1, X1, hstep1⟩ := X.invokevirtual hx hown (hts _ q1) hnamed hmethM hstM hkP hkPi ⟨hyc.1, hyc.2.1⟩ (a := b) (cell := cellB) (by rw [hT]; exact hcB)
    (fun z h => by rw [h] at hoB; cases hoB) hselP hmethM habM hkP hkPi (g := F0 m pc ls st0) rfl (argsL := As) (rest := rest) hlen hst (by rw [hb]; exact hd)
  have hPc : va_Pc (.ref b :: As) (PC D a d H.size S) (.ref b :: As).toArray ((T.setVm vm1).calling (F0 m pc ls rest) mk (.ref b :: As).toArray) := PC_blind _ _ _ _ (hpre (T.setVm vm1) hT X1.warmed)
  obtain ⟨o, t, T1, L, X2, hL, e1, e2, ⟨hq, hz, hk⟩, hst2⟩ := d_callT X1 (g := F0 m pc ls rest) hts hM q6 q7 hrc hrs hR hf rfl (hsz.trans hml.symm) (by rw [hb]; exact hd) (lv_room hW) (X1.named hnamed) hPc
  have hz : H.size ≤ t.heap.size := by have := hz; rw [show ((T.setVm vm1).calling (F0 m pc ls rest) mk (.ref b :: As).toArray).heap = H from hT] at this; exact this
  have hk : ∀ q : Nat, q < H.size → ¬ va_A (cW a d S) H.size q → t.heap[q]? = H[q]? := by have := hk; rw [show ((T.setVm vm1).calling (F0 m pc ls rest) mk (.ref b :: As).toArray).heap = H from hT] at this; exact this
  have hS1 : va_S A s.heap T1.heap (locs ++ L) := ⟨Nat.le_trans hS.1 (by rw [e1]; exact hz), fun q h1 h2 => by rw [e1, hk q (Nat.lt_of_lt_of_le h1 hS.1) (fun z => h2 (hF q z))]; exact hS.2.1 q h1 h2, fun q hq => by
    rcases List.mem_append.mp hq with h | h
    · exact hS.2.2 q h
    · exact hF _ (hL q h)⟩
  rcases hq with ⟨u, ho1, hq1, hP1, hK1, hD1⟩ | ⟨z, u, ho1, hq1, hP1, hK1, hD1⟩
  · subst ho1
    rcases hst2 with ⟨v, hv, hs2⟩ | ⟨z, hv, -⟩
    · cases hv
      rw [← e1] at hP1
      obtain ⟨t2, a1, b1⟩ := k u T1.heap (locs ++ L) ⟨hP1, hD1.weaken (fun _ q _ h => hF q.1 h), hS1⟩ hq1 T1 rfl X2
      exact ⟨t2, hstep1 _ (fun acts => by rw [doInvoke_state]; exact hs2.trans a1), b1⟩
    · cases hv
  · subst ho1
    rcases hst2 with ⟨v, hv, -⟩ | ⟨z2, hv, hs2⟩
    · cases hv
    · cases hv
      rw [← e1] at hP1
      obtain ⟨t2, a1, b1⟩ := kx z u T1.heap (locs ++ L) ⟨hP1, hD1.weaken (fun _ q _ h => hF q.1 h), hS1⟩ hq1 T1 rfl X2
      exact ⟨t2, hstep1 _ (fun acts => by rw [doInvoke_state]; exact hs2.trans a1), b1⟩
/-- a call, through an object, of a method that may throw -/
theorem t_callVr {Q : State → Prop} {y : MethodName} {bytes : ByteArray} {maxL n index mc ms : Nat} {rt : FieldType} {rm : Room} {As st0 : List Value} {b : Nat} {C : String} {Q1 : Nat → CS → Prop} {E1 : Nat → CS → Prop} (F : FC p s m meth c args D a d A own cc nL ret) (G : GC D a d A s.heap S H locs) (hsz : ls.size = nL)
    (hM : CTr l D a d y bytes maxL rt rm mc ms (.ref b :: As) H.size S Q1 E1) (q1 : Cond.methodLink own index y ∈ lw_all) (q2 : Cond.instanceMethod y ∈ lw_all) (q3 : Cond.selects C y y ∈ lw_all) (q6 : Cond.initialized y.cls ∈ lw_all) (q7 : Cond.code y bytes maxL (some rt) ∈ lw_all)
    (hr : ∃ cell : Cell, H[b]? = some cell ∧ cell.vm.isStatics = false ∧ s.vm.findClass C = some cell.cls) (hyc : y.cls ≠ "java/lang/invoke/MethodHandle" ∧ y.cls ≠ "java/lang/invoke/VarHandle" ∧ (parseMethodDescriptor y.desc).map (fun d => d.parameters.length) = some n) (hrc : rm.cells = mc) (hrs : rm.slots = ms) (hn : As.length = n) (hst : st0 = As.reverse ++ .ref b :: rest) (hR : rm.frames + 1 ≤ R.frames ∧ 8 + (maxL + 11) + rm.locals ≤ R.locals) (hf : cells + mc ≤ R.cells ∧ slots + ms ≤ R.slots) (hW : (rest.map fun v => v.category).sum ≤ 8) (hd : decode cc pc = .ok (.invokevirtual index, 3))
    (k : ∀ (r : Nat) (S1 : CS) (H : Heap) (locs : List Loc), GC D a d A s.heap S1 H locs → Q1 r S1 → W p l e R s m args below meth c H locs (cells + mc) (slots + ms) Q (F0 m (pc + 3) ls (.ref r :: rest)))
    (kx : ∀ (z : Nat) (S1 : CS) (H : Heap) (locs : List Loc), GC D a d A s.heap S1 H locs → E1 z S1 → WX p l e R s m args below meth c H locs (cells + mc) (slots + ms) Q (F0 m pc ls rest) z) : W p l e R s m args below meth c H locs cells slots Q (F0 m pc ls st0) := by
  have hpre := c_pre (As := .ref b :: As) F G
  obtain ⟨hx, hb, hr0, hml, hown, hts, hlocks, hA, hK, hN⟩ := F
  obtain ⟨hP, hD, hS⟩ := G
  have hF := va_freeAll hD hS hA
  obtain ⟨cellB, hcB, hoB, hclB⟩ := hr
  intro T hT X
  obtain ⟨mk, methM, hnamed, hmethM, hstM, habM⟩ := Cond.instanceMethod_spec (hts _ q2)
  obtain ⟨methM2, cM, hmethM2, -, -, -, -, -, -, hsigM⟩ := Cond.code_spec hnamed (hts _ q7)
  cases hmethM.symm.trans hmethM2
  obtain ⟨c2, r2, m2, w1, w2, w3, w4, kP, hkP, hkPi⟩ := Cond.selects_spec (hts _ q3)
  cases hclB.symm.trans w1
  cases (State.methodFound?_of_named hnamed ⟨hyc.1, hyc.2.1⟩).symm.trans w2
  cases hnamed.symm.trans w3
  have hselP : selectMethod e.platform s.vm cellB.cls mk = .method mk := by rw [Launch.admits_selectMethod X.admits]; exact w4
  have hlen : As.length = methM.sig.parameters.length := by
    have h9 := hyc.2.2
    rw [hsigM] at h9
    exact hn.trans (Option.some.inj h9).symm
  obtain ⟨vm1, X1, hstep1⟩ := X.invokevirtual hx hown (hts _ q1) hnamed hmethM hstM hkP hkPi ⟨hyc.1, hyc.2.1⟩ (a := b) (cell := cellB) (by rw [hT]; exact hcB)
    (fun z h => by rw [h] at hoB; cases hoB) hselP hmethM habM hkP hkPi (g := F0 m pc ls st0) rfl (argsL := As) (rest := rest) hlen hst (by rw [hb]; exact hd)
  have hPc : va_Pc (.ref b :: As) (PC D a d H.size S) (.ref b :: As).toArray ((T.setVm vm1).calling (F0 m pc ls rest) mk (.ref b :: As).toArray) := PC_blind _ _ _ _ (hpre (T.setVm vm1) hT X1.warmed)
  obtain ⟨o, t, T1, L, X2, hL, e1, e2, ⟨hq, hz, hk⟩, hst2⟩ := d_callT X1 (g := F0 m pc ls rest) hts hM q6 q7 hrc hrs hR hf rfl (hsz.trans hml.symm) (by rw [hb]; exact hd) (lv_room hW) (X1.named hnamed) hPc
  have hz : H.size ≤ t.heap.size := by have := hz; rw [show ((T.setVm vm1).calling (F0 m pc ls rest) mk (.ref b :: As).toArray).heap = H from hT] at this; exact this
  have hk : ∀ q : Nat, q < H.size → ¬ va_A (cW a d S) H.size q → t.heap[q]? = H[q]? := by have := hk; rw [show ((T.setVm vm1).calling (F0 m pc ls rest) mk (.ref b :: As).toArray).heap = H from hT] at this; exact this
  have hS1 : va_S A s.heap T1.heap (locs ++ L) := ⟨Nat.le_trans hS.1 (by rw [e1]; exact hz), fun q h1 h2 => by rw [e1, hk q (Nat.lt_of_lt_of_le h1 hS.1) (fun z => h2 (hF q z))]; exact hS.2.1 q h1 h2, fun q hq => by
    rcases List.mem_append.mp hq with h | h
    · exact hS.2.2 q h
    · exact hF _ (hL q h)⟩
  rcases hq with ⟨r, u, ho1, hq1, hP1, hK1, hD1⟩ | ⟨z, u, ho1, hq1, hP1, hK1, hD1⟩
  · subst ho1
    rcases hst2 with ⟨v, hv, hs2⟩ | ⟨z, hv, -⟩
    · cases hv
      rw [← e1] at hP1
      obtain ⟨t2, a1, b1⟩ := k r u T1.heap (locs ++ L) ⟨hP1, hD1.weaken (fun _ q _ h => hF q.1 h), hS1⟩ hq1 T1 rfl X2
      exact ⟨t2, hstep1 _ (fun acts => by rw [doInvoke_state]; exact hs2.trans a1), b1⟩
    · cases hv
  · subst ho1
    rcases hst2 with ⟨v, hv, -⟩ | ⟨z2, hv, hs2⟩
    · cases hv
    · cases hv
      rw [← e1] at hP1
      obtain ⟨t2, a1, b1⟩ := kx z u T1.heap (locs ++ L) ⟨hP1, hD1.weaken (fun _ q _ h => hF q.1 h), hS1⟩ hq1 T1 rfl X2
      exact ⟨t2, hstep1 _ (fun acts => by rw [doInvoke_state]; exact hs2.trans a1), b1⟩
end
