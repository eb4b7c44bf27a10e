set_option maxRecDepth 100000
/-! the model: its world and its rows -/
def u2 {α : Type} (I : Nat → α) (j : Nat) (x : α) : Nat → α := fun k => bif Nat.beq k j then x else I k
theorem u2_s {α : Type} (I : Nat → α) (j : Nat) (x : α) : u2 I j x j = x := by simp [u2]
theorem u2_n {α : Type} (I : Nat → α) {j k : Nat} (x : α) (h : k ≠ j) : u2 I j x k = I k := by
  have : Nat.beq k j = false := by
    cases hb : Nat.beq k j with
    | false => rfl
    | true => exact absurd (Nat.eq_of_beq_eq_true hb) h
  simp [u2, this]
abbrev St : Type := Nat → Nat → Int32
/-- an int array of the world is written -/
def sA (I : St) (j : Nat) (i x : Int32) : St := u2 I j (upd (I j) i.toNatClampNeg x)
/-- an int field of the object is written -/
def sF (I : St) (k : Nat) (x : Int32) : St := u2 I 0 (upd (I 0) k x)
abbrev mFs (a : Nat → Nat) (I : St) : List Value := [.ref (a 1), .ref (a 2), .ref (a 3), .int (I 0 3), .ref (a 4), .ref (a 5), .ref (a 6), .ref (a 7), .ref (a 8), .ref (a 9), .ref (a 10), .ref (a 11), .ref (a 12), .ref (a 13), .ref (a 14), .int (I 0 15), .int (I 0 16), .int (I 0 17), .int (I 0 18), .int (I 0 19), .int (I 0 20), .int (I 0 21), .int (I 0 22), .int (I 0 23), .int (I 0 24), .int (I 0 25), .ref (a 15), .ref (a 16), .ref (a 17), .ref (a 18), .int (I 0 30), .ref (a 19)]
abbrev mL (a : Nat → Nat) (d : ClassId) (I : St) : va_W := [(a 0, .inr (5, mFs a I)), (a 1, .inl (d, 3040, .inl (I 1))), (a 2, .inl (d, 3040, .inl (I 2))), (a 3, .inl (d, 3040, .inl (I 3))), (a 4, .inl (d, 4, .inl (I 4))), (a 5, .inl (d, 4, .inl (I 5))), (a 6, .inl (d, 96, .inl (I 6))), (a 7, .inl (d, 5, .inl (I 7))), (a 8, .inl (d, 5, .inl (I 8))), (a 9, .inl (d, 5, .inl (I 9))), (a 10, .inl (d, 5, .inl (I 10))), (a 11, .inl (d, 120, .inl (I 11))), (a 12, .inl (d, 720, .inl (I 12))), (a 13, .inl (d, 40, .inl (I 13))), (a 14, .inl (d, 96, .inl (I 14))), (a 15, .inl (d, 128, .inl (I 15))), (a 16, .inl (d, 100, .inl (I 16))), (a 17, .inl (d, 24, .inl (I 17))), (a 18, .inl (d, 60, .inl (I 18))), (a 19, .inl (d, 60, .inl (I 19)))]
def GM (D : va_G) (cl : List vw_C) (a : Nat → Nat) (d : ClassId) (A : Nat → Prop) (H0 : Heap) (I : St) (H : Heap) (locs : List Loc) : Prop := va_P D cl (mL a d I) H ∧ va_D A (mL a d I) ∧ va_S A H0 H locs
def FM (p : Program) (s : State) (m : MethodId) (meth : Method) (c : Code) (args : Array Value) (D : va_G) (cl : List vw_C) (d : ClassId) (A : Nat → Prop) (cc : ByteArray) (nL : Nat) (ret : Option FieldType) : Prop := p.tables.exec = Jvm.exec ∧ c.code = cc ∧ meth.sig.returnType = ret ∧ c.maxLocals = nL ∧ s.vm.findClass RX5 = some m.cls ∧ (∀ w ∈ lw_all, w.before args s = true) ∧ meth.locks = false ∧ (∀ q : Nat, s.heap.size ≤ q → A q) ∧ va_K D cl [(d, .int)] s ∧ cl[5]? = some (RX5, TX5, 32)
def PM (D : va_G) (cl : List vw_C) (a : Nat → Nat) (d : ClassId) (sz : Nat) (I : St) : State → Prop := fun U => U.heap.size = sz ∧ va_P D cl (mL a d I) U.heap ∧ va_K D cl [(d, .int)] U ∧ va_D (fun _ => True) (mL a d I)
def BM (D : va_G) (cl : List vw_C) (a : Nat → Nat) (d : ClassId) (A : Nat → Prop) (I : St) (t : State) : Prop := va_P D cl (mL a d I) t.heap ∧ va_K D cl [(d, .int)] t ∧ va_D A (mL a d I)
/-- a contract of a method of the model that answers an int (or a boolean) -/
abbrev MMi (l : Launch) (D : va_G) (cl : List vw_C) (a : Nat → Nat) (d : ClassId) (y : MethodName) (cc : ByteArray) (nL : Nat) (rt : FieldType) (rm : Room) (As : List Value) (sz : Nat) (I : St) (Q : Int32 → St → Prop) : Prop := Met l y (ws_ y cc nL (some rt)) rm (va_Pc As (PM D cl a d sz I)) (va_Qi Q (BM D cl a d (va_A (mL a d I) sz)) (va_A (mL a d I) sz)) 0 0 (va_A (mL a d I) sz)
abbrev MMv (l : Launch) (D : va_G) (cl : List vw_C) (a : Nat → Nat) (d : ClassId) (y : MethodName) (cc : ByteArray) (nL : Nat) (rm : Room) (As : List Value) (sz : Nat) (I : St) (Q : St → Prop) : Prop := Met l y (ws_ y cc nL none) rm (va_Pc As (PM D cl a d sz I)) (va_Qv Q (BM D cl a d (va_A (mL a d I) sz)) (va_A (mL a d I) sz)) 0 0 (va_A (mL a d I) sz)
abbrev wMi (p : Program) (l : Launch) (e : Env) (R : Room) (s : State) (m : MethodId) (args : Array Value) (below : List Frame) (meth : Method) (c : Code) (D : va_G) (cl : List vw_C) (a : Nat → Nat) (d : ClassId) (A : Nat → Prop) (Q : Int32 → St → Prop) (H : Heap) (locs : List Loc) (g : JFrame) : Prop := W p l e R s m args below meth c H locs 0 0 (MQ below (va_Qi Q (BM D cl a d A) A) args s 0 0 A) g
abbrev wMv (p : Program) (l : Launch) (e : Env) (R : Room) (s : State) (m : MethodId) (args : Array Value) (below : List Frame) (meth : Method) (c : Code) (D : va_G) (cl : List vw_C) (a : Nat → Nat) (d : ClassId) (A : Nat → Prop) (Q : St → Prop) (H : Heap) (locs : List Loc) (g : JFrame) : Prop := W p l e R s m args below meth c H locs 0 0 (MQ below (va_Qv Q (BM D cl a d A) A) args s 0 0 A) g
/-- what a boolean answer must be -/
def zb (v : Int32) : Prop := narrow .boolean (.int v) = .int v
section
variable {p : Program} {l : Launch} {e : Env} {R : Room} {s : State} {m : MethodId} {args : Array Value} {below : List Frame} {meth : Method} {c : Code} {H : Heap} {locs : List Loc} {cells slots : Nat} {Q : State → Prop} {D : va_G} {cl : List vw_C} {a : Nat → Nat} {d : ClassId} {A : Nat → Prop} {I : St} {cc : ByteArray} {nL : Nat} {ret : Option FieldType} {pc : Nat} {ls : Array Slot} {rest : List Value}
theorem mg_s (F : FM p s m meth c args D cl d A cc nL ret) (G : GM D cl a d A s.heap I H locs) (hd : decode cc pc = .ok (.getfield 7, 3)) (k : W p l e R s m args below meth c H locs cells slots Q (F0 m (pc + 3) ls (.ref (a 1) :: rest))) : W p l e R s m args below meth c H locs cells slots Q (F0 m pc ls (.ref (a 0) :: rest)) := by
  obtain ⟨hx, hb, -, -, hown, hts, -, -, hK, hcl⟩ := F
  exact va_get (D := D) (ci := 5) (v := .ref (a 1)) (C := RX5) (T := TX5) (N := 32) hx hb hts in_X5 hown hK G.1 0 rfl hcl 0 (by decide) (hts _ q1189) (fun _ h9 => h9) rfl hd k
theorem mg_image (F : FM p s m meth c args D cl d A cc nL ret) (G : GM D cl a d A s.heap I H locs) (hd : decode cc pc = .ok (.getfield 13, 3)) (k : W p l e R s m args below meth c H locs cells slots Q (F0 m (pc + 3) ls (.ref (a 2) :: rest))) : W p l e R s m args below meth c H locs cells slots Q (F0 m pc ls (.ref (a 0) :: rest)) := by
  obtain ⟨hx, hb, -, -, hown, hts, -, -, hK, hcl⟩ := F
  exact va_get (D := D) (ci := 5) (v := .ref (a 2)) (C := RX5) (T := TX5) (N := 32) hx hb hts in_X5 hown hK G.1 0 rfl hcl 1 (by decide) (hts _ q1190) (fun _ h9 => h9) rfl hd k
theorem mg_aside (F : FM p s m meth c args D cl d A cc nL ret) (G : GM D cl a d A s.heap I H locs) (hd : decode cc pc = .ok (.getfield 16, 3)) (k : W p l e R s m args below meth c H locs cells slots Q (F0 m (pc + 3) ls (.ref (a 3) :: rest))) : W p l e R s m args below meth c H locs cells slots Q (F0 m pc ls (.ref (a 0) :: rest)) := by
  obtain ⟨hx, hb, -, -, hown, hts, -, -, hK, hcl⟩ := F
  exact va_get (D := D) (ci := 5) (v := .ref (a 3)) (C := RX5) (T := TX5) (N := 32) hx hb hts in_X5 hown hK G.1 0 rfl hcl 2 (by decide) (hts _ q1191) (fun _ h9 => h9) rfl hd k
theorem mg_hasImage (F : FM p s m meth c args D cl d A cc nL ret) (G : GM D cl a d A s.heap I H locs) (hd : decode cc pc = .ok (.getfield 318, 3)) (k : W p l e R s m args below meth c H locs cells slots Q (F0 m (pc + 3) ls (.int (I 0 3) :: rest))) : W p l e R s m args below meth c H locs cells slots Q (F0 m pc ls (.ref (a 0) :: rest)) := by
  obtain ⟨hx, hb, -, -, hown, hts, -, -, hK, hcl⟩ := F
  exact va_get (D := D) (ci := 5) (v := .int (I 0 3)) (C := RX5) (T := TX5) (N := 32) hx hb hts in_X5 hown hK G.1 0 rfl hcl 3 (by decide) (hts _ q1192) (fun _ h9 => h9) rfl hd k
theorem mp_hasImage {v : Int32} (F : FM p s m meth c args D cl d A cc nL ret) (G : GM D cl a d A s.heap I H locs) (hz : narrow .boolean (.int v) = .int v) (hz2 : fits .boolean (.int v) = true) (hd : decode cc pc = .ok (.putfield 318, 3)) (k : ∀ (H : Heap) (locs : List Loc), GM D cl a d A s.heap (sF I 3 v) H locs → W p l e R s m args below meth c H locs cells slots Q (F0 m (pc + 3) ls rest)) : W p l e R s m args below meth c H locs cells slots Q (F0 m pc ls (.int v :: .ref (a 0) :: rest)) := by
  obtain ⟨hx, hb, -, -, hown, hts, -, -, hK, hcl⟩ := F
  obtain ⟨hP, hD, hS⟩ := G
  exact va_put (D := D) (ci := 5) (v := .int v) (ty := .boolean) (C := RX5) (T := TX5) (N := 32) hx hb hts in_X5 tyX5 tyX5_ok nmX5 hown hK hP hD hS 0 rfl hcl 3 (by decide) (hts _ q1192) (fun _ h9 => h9) rfl (by decide +kernel) hz hz2 (Nat.le_of_ble_eq_true rfl) hd (fun H1 locs1 hP hD hS => k H1 locs1 ⟨hP, hD, hS⟩)
theorem mg_tSort (F : FM p s m meth c args D cl d A cc nL ret) (G : GM D cl a d A s.heap I H locs) (hd : decode cc pc = .ok (.getfield 19, 3)) (k : W p l e R s m args below meth c H locs cells slots Q (F0 m (pc + 3) ls (.ref (a 4) :: rest))) : W p l e R s m args below meth c H locs cells slots Q (F0 m pc ls (.ref (a 0) :: rest)) := by
  obtain ⟨hx, hb, -, -, hown, hts, -, -, hK, hcl⟩ := F
  exact va_get (D := D) (ci := 5) (v := .ref (a 4)) (C := RX5) (T := TX5) (N := 32) hx hb hts in_X5 hown hK G.1 0 rfl hcl 4 (by decide) (hts _ q1193) (fun _ h9 => h9) rfl hd k
theorem mg_tSize (F : FM p s m meth c args D cl d A cc nL ret) (G : GM D cl a d A s.heap I H locs) (hd : decode cc pc = .ok (.getfield 22, 3)) (k : W p l e R s m args below meth c H locs cells slots Q (F0 m (pc + 3) ls (.ref (a 5) :: rest))) : W p l e R s m args below meth c H locs cells slots Q (F0 m pc ls (.ref (a 0) :: rest)) := by
  obtain ⟨hx, hb, -, -, hown, hts, -, -, hK, hcl⟩ := F
  exact va_get (D := D) (ci := 5) (v := .ref (a 5)) (C := RX5) (T := TX5) (N := 32) hx hb hts in_X5 hown hK G.1 0 rfl hcl 5 (by decide) (hts _ q1194) (fun _ h9 => h9) rfl hd k
theorem mg_tNumber (F : FM p s m meth c args D cl d A cc nL ret) (G : GM D cl a d A s.heap I H locs) (hd : decode cc pc = .ok (.getfield 25, 3)) (k : W p l e R s m args below meth c H locs cells slots Q (F0 m (pc + 3) ls (.ref (a 6) :: rest))) : W p l e R s m args below meth c H locs cells slots Q (F0 m pc ls (.ref (a 0) :: rest)) := by
  obtain ⟨hx, hb, -, -, hown, hts, -, -, hK, hcl⟩ := F
  exact va_get (D := D) (ci := 5) (v := .ref (a 6)) (C := RX5) (T := TX5) (N := 32) hx hb hts in_X5 hown hK G.1 0 rfl hcl 6 (by decide) (hts _ q1195) (fun _ h9 => h9) rfl hd k
theorem mg_held (F : FM p s m meth c args D cl d A cc nL ret) (G : GM D cl a d A s.heap I H locs) (hd : decode cc pc = .ok (.getfield 28, 3)) (k : W p l e R s m args below meth c H locs cells slots Q (F0 m (pc + 3) ls (.ref (a 7) :: rest))) : W p l e R s m args below meth c H locs cells slots Q (F0 m pc ls (.ref (a 0) :: rest)) := by
  obtain ⟨hx, hb, -, -, hown, hts, -, -, hK, hcl⟩ := F
  exact va_get (D := D) (ci := 5) (v := .ref (a 7)) (C := RX5) (T := TX5) (N := 32) hx hb hts in_X5 hown hK G.1 0 rfl hcl 7 (by decide) (hts _ q1196) (fun _ h9 => h9) rfl hd k
theorem mg_heldNumber (F : FM p s m meth c args D cl d A cc nL ret) (G : GM D cl a d A s.heap I H locs) (hd : decode cc pc = .ok (.getfield 31, 3)) (k : W p l e R s m args below meth c H locs cells slots Q (F0 m (pc + 3) ls (.ref (a 8) :: rest))) : W p l e R s m args below meth c H locs cells slots Q (F0 m pc ls (.ref (a 0) :: rest)) := by
  obtain ⟨hx, hb, -, -, hown, hts, -, -, hK, hcl⟩ := F
  exact va_get (D := D) (ci := 5) (v := .ref (a 8)) (C := RX5) (T := TX5) (N := 32) hx hb hts in_X5 hown hK G.1 0 rfl hcl 8 (by decide) (hts _ q1197) (fun _ h9 => h9) rfl hd k
theorem mg_heldWorth (F : FM p s m meth c args D cl d A cc nL ret) (G : GM D cl a d A s.heap I H locs) (hd : decode cc pc = .ok (.getfield 34, 3)) (k : W p l e R s m args below meth c H locs cells slots Q (F0 m (pc + 3) ls (.ref (a 9) :: rest))) : W p l e R s m args below meth c H locs cells slots Q (F0 m pc ls (.ref (a 0) :: rest)) := by
  obtain ⟨hx, hb, -, -, hown, hts, -, -, hK, hcl⟩ := F
  exact va_get (D := D) (ci := 5) (v := .ref (a 9)) (C := RX5) (T := TX5) (N := 32) hx hb hts in_X5 hown hK G.1 0 rfl hcl 9 (by decide) (hts _ q1198) (fun _ h9 => h9) rfl hd k
theorem mg_heldSize (F : FM p s m meth c args D cl d A cc nL ret) (G : GM D cl a d A s.heap I H locs) (hd : decode cc pc = .ok (.getfield 37, 3)) (k : W p l e R s m args below meth c H locs cells slots Q (F0 m (pc + 3) ls (.ref (a 10) :: rest))) : W p l e R s m args below meth c H locs cells slots Q (F0 m pc ls (.ref (a 0) :: rest)) := by
  obtain ⟨hx, hb, -, -, hown, hts, -, -, hK, hcl⟩ := F
  exact va_get (D := D) (ci := 5) (v := .ref (a 10)) (C := RX5) (T := TX5) (N := 32) hx hb hts in_X5 hown hK G.1 0 rfl hcl 10 (by decide) (hts _ q1199) (fun _ h9 => h9) rfl hd k
theorem mg_heldRow (F : FM p s m meth c args D cl d A cc nL ret) (G : GM D cl a d A s.heap I H locs) (hd : decode cc pc = .ok (.getfield 40, 3)) (k : W p l e R s m args below meth c H locs cells slots Q (F0 m (pc + 3) ls (.ref (a 11) :: rest))) : W p l e R s m args below meth c H locs cells slots Q (F0 m pc ls (.ref (a 0) :: rest)) := by
  obtain ⟨hx, hb, -, -, hown, hts, -, -, hK, hcl⟩ := F
  exact va_get (D := D) (ci := 5) (v := .ref (a 11)) (C := RX5) (T := TX5) (N := 32) hx hb hts in_X5 hown hK G.1 0 rfl hcl 11 (by decide) (hts _ q1200) (fun _ h9 => h9) rfl hd k
theorem mg_all (F : FM p s m meth c args D cl d A cc nL ret) (G : GM D cl a d A s.heap I H locs) (hd : decode cc pc = .ok (.getfield 43, 3)) (k : W p l e R s m args below meth c H locs cells slots Q (F0 m (pc + 3) ls (.ref (a 12) :: rest))) : W p l e R s m args below meth c H locs cells slots Q (F0 m pc ls (.ref (a 0) :: rest)) := by
  obtain ⟨hx, hb, -, -, hown, hts, -, -, hK, hcl⟩ := F
  exact va_get (D := D) (ci := 5) (v := .ref (a 12)) (C := RX5) (T := TX5) (N := 32) hx hb hts in_X5 hown hK G.1 0 rfl hcl 12 (by decide) (hts _ q1201) (fun _ h9 => h9) rfl hd k
theorem mg_close (F : FM p s m meth c args D cl d A cc nL ret) (G : GM D cl a d A s.heap I H locs) (hd : decode cc pc = .ok (.getfield 46, 3)) (k : W p l e R s m args below meth c H locs cells slots Q (F0 m (pc + 3) ls (.ref (a 13) :: rest))) : W p l e R s m args below meth c H locs cells slots Q (F0 m pc ls (.ref (a 0) :: rest)) := by
  obtain ⟨hx, hb, -, -, hown, hts, -, -, hK, hcl⟩ := F
  exact va_get (D := D) (ci := 5) (v := .ref (a 13)) (C := RX5) (T := TX5) (N := 32) hx hb hts in_X5 hown hK G.1 0 rfl hcl 13 (by decide) (hts _ q1202) (fun _ h9 => h9) rfl hd k
theorem mg_tape (F : FM p s m meth c args D cl d A cc nL ret) (G : GM D cl a d A s.heap I H locs) (hd : decode cc pc = .ok (.getfield 49, 3)) (k : W p l e R s m args below meth c H locs cells slots Q (F0 m (pc + 3) ls (.ref (a 14) :: rest))) : W p l e R s m args below meth c H locs cells slots Q (F0 m pc ls (.ref (a 0) :: rest)) := by
  obtain ⟨hx, hb, -, -, hown, hts, -, -, hK, hcl⟩ := F
  exact va_get (D := D) (ci := 5) (v := .ref (a 14)) (C := RX5) (T := TX5) (N := 32) hx hb hts in_X5 hown hK G.1 0 rfl hcl 14 (by decide) (hts _ q1203) (fun _ h9 => h9) rfl hd k
theorem mg_taped (F : FM p s m meth c args D cl d A cc nL ret) (G : GM D cl a d A s.heap I H locs) (hd : decode cc pc = .ok (.getfield 191, 3)) (k : W p l e R s m args below meth c H locs cells slots Q (F0 m (pc + 3) ls (.int (I 0 15) :: rest))) : W p l e R s m args below meth c H locs cells slots Q (F0 m pc ls (.ref (a 0) :: rest)) := by
  obtain ⟨hx, hb, -, -, hown, hts, -, -, hK, hcl⟩ := F
  exact va_get (D := D) (ci := 5) (v := .int (I 0 15)) (C := RX5) (T := TX5) (N := 32) hx hb hts in_X5 hown hK G.1 0 rfl hcl 15 (by decide) (hts _ q1204) (fun _ h9 => h9) rfl hd k
theorem mp_taped {v : Int32} (F : FM p s m meth c args D cl d A cc nL ret) (G : GM D cl a d A s.heap I H locs) (hd : decode cc pc = .ok (.putfield 191, 3)) (k : ∀ (H : Heap) (locs : List Loc), GM D cl a d A s.heap (sF I 15 v) H locs → W p l e R s m args below meth c H locs cells slots Q (F0 m (pc + 3) ls rest)) : W p l e R s m args below meth c H locs cells slots Q (F0 m pc ls (.int v :: .ref (a 0) :: rest)) := by
  obtain ⟨hx, hb, -, -, hown, hts, -, -, hK, hcl⟩ := F
  obtain ⟨hP, hD, hS⟩ := G
  exact va_put (D := D) (ci := 5) (v := .int v) (ty := .int) (C := RX5) (T := TX5) (N := 32) hx hb hts in_X5 tyX5 tyX5_ok nmX5 hown hK hP hD hS 0 rfl hcl 15 (by decide) (hts _ q1204) (fun _ h9 => h9) rfl (by decide +kernel) rfl rfl (Nat.le_of_ble_eq_true rfl) hd (fun H1 locs1 hP hD hS => k H1 locs1 ⟨hP, hD, hS⟩)
theorem mg_begin (F : FM p s m meth c args D cl d A cc nL ret) (G : GM D cl a d A s.heap I H locs) (hd : decode cc pc = .ok (.getfield 209, 3)) (k : W p l e R s m args below meth c H locs cells slots Q (F0 m (pc + 3) ls (.int (I 0 16) :: rest))) : W p l e R s m args below meth c H locs cells slots Q (F0 m pc ls (.ref (a 0) :: rest)) := by
  obtain ⟨hx, hb, -, -, hown, hts, -, -, hK, hcl⟩ := F
  exact va_get (D := D) (ci := 5) (v := .int (I 0 16)) (C := RX5) (T := TX5) (N := 32) hx hb hts in_X5 hown hK G.1 0 rfl hcl 16 (by decide) (hts _ q1205) (fun _ h9 => h9) rfl hd k
theorem mp_begin {v : Int32} (F : FM p s m meth c args D cl d A cc nL ret) (G : GM D cl a d A s.heap I H locs) (hd : decode cc pc = .ok (.putfield 209, 3)) (k : ∀ (H : Heap) (locs : List Loc), GM D cl a d A s.heap (sF I 16 v) H locs → W p l e R s m args below meth c H locs cells slots Q (F0 m (pc + 3) ls rest)) : W p l e R s m args below meth c H locs cells slots Q (F0 m pc ls (.int v :: .ref (a 0) :: rest)) := by
  obtain ⟨hx, hb, -, -, hown, hts, -, -, hK, hcl⟩ := F
  obtain ⟨hP, hD, hS⟩ := G
  exact va_put (D := D) (ci := 5) (v := .int v) (ty := .int) (C := RX5) (T := TX5) (N := 32) hx hb hts in_X5 tyX5 tyX5_ok nmX5 hown hK hP hD hS 0 rfl hcl 16 (by decide) (hts _ q1205) (fun _ h9 => h9) rfl (by decide +kernel) rfl rfl (Nat.le_of_ble_eq_true rfl) hd (fun H1 locs1 hP hD hS => k H1 locs1 ⟨hP, hD, hS⟩)
theorem mg_behind (F : FM p s m meth c args D cl d A cc nL ret) (G : GM D cl a d A s.heap I H locs) (hd : decode cc pc = .ok (.getfield 203, 3)) (k : W p l e R s m args below meth c H locs cells slots Q (F0 m (pc + 3) ls (.int (I 0 17) :: rest))) : W p l e R s m args below meth c H locs cells slots Q (F0 m pc ls (.ref (a 0) :: rest)) := by
  obtain ⟨hx, hb, -, -, hown, hts, -, -, hK, hcl⟩ := F
  exact va_get (D := D) (ci := 5) (v := .int (I 0 17)) (C := RX5) (T := TX5) (N := 32) hx hb hts in_X5 hown hK G.1 0 rfl hcl 17 (by decide) (hts _ q1206) (fun _ h9 => h9) rfl hd k
theorem mp_behind {v : Int32} (F : FM p s m meth c args D cl d A cc nL ret) (G : GM D cl a d A s.heap I H locs) (hd : decode cc pc = .ok (.putfield 203, 3)) (k : ∀ (H : Heap) (locs : List Loc), GM D cl a d A s.heap (sF I 17 v) H locs → W p l e R s m args below meth c H locs cells slots Q (F0 m (pc + 3) ls rest)) : W p l e R s m args below meth c H locs cells slots Q (F0 m pc ls (.int v :: .ref (a 0) :: rest)) := by
  obtain ⟨hx, hb, -, -, hown, hts, -, -, hK, hcl⟩ := F
  obtain ⟨hP, hD, hS⟩ := G
  exact va_put (D := D) (ci := 5) (v := .int v) (ty := .int) (C := RX5) (T := TX5) (N := 32) hx hb hts in_X5 tyX5 tyX5_ok nmX5 hown hK hP hD hS 0 rfl hcl 17 (by decide) (hts _ q1206) (fun _ h9 => h9) rfl (by decide +kernel) rfl rfl (Nat.le_of_ble_eq_true rfl) hd (fun H1 locs1 hP hD hS => k H1 locs1 ⟨hP, hD, hS⟩)
theorem mg_token (F : FM p s m meth c args D cl d A cc nL ret) (G : GM D cl a d A s.heap I H locs) (hd : decode cc pc = .ok (.getfield 206, 3)) (k : W p l e R s m args below meth c H locs cells slots Q (F0 m (pc + 3) ls (.int (I 0 18) :: rest))) : W p l e R s m args below meth c H locs cells slots Q (F0 m pc ls (.ref (a 0) :: rest)) := by
  obtain ⟨hx, hb, -, -, hown, hts, -, -, hK, hcl⟩ := F
  exact va_get (D := D) (ci := 5) (v := .int (I 0 18)) (C := RX5) (T := TX5) (N := 32) hx hb hts in_X5 hown hK G.1 0 rfl hcl 18 (by decide) (hts _ q1207) (fun _ h9 => h9) rfl hd k
theorem mp_token {v : Int32} (F : FM p s m meth c args D cl d A cc nL ret) (G : GM D cl a d A s.heap I H locs) (hd : decode cc pc = .ok (.putfield 206, 3)) (k : ∀ (H : Heap) (locs : List Loc), GM D cl a d A s.heap (sF I 18 v) H locs → W p l e R s m args below meth c H locs cells slots Q (F0 m (pc + 3) ls rest)) : W p l e R s m args below meth c H locs cells slots Q (F0 m pc ls (.int v :: .ref (a 0) :: rest)) := by
  obtain ⟨hx, hb, -, -, hown, hts, -, -, hK, hcl⟩ := F
  obtain ⟨hP, hD, hS⟩ := G
  exact va_put (D := D) (ci := 5) (v := .int v) (ty := .int) (C := RX5) (T := TX5) (N := 32) hx hb hts in_X5 tyX5 tyX5_ok nmX5 hown hK hP hD hS 0 rfl hcl 18 (by decide) (hts _ q1207) (fun _ h9 => h9) rfl (by decide +kernel) rfl rfl (Nat.le_of_ble_eq_true rfl) hd (fun H1 locs1 hP hD hS => k H1 locs1 ⟨hP, hD, hS⟩)
theorem mg_number (F : FM p s m meth c args D cl d A cc nL ret) (G : GM D cl a d A s.heap I H locs) (hd : decode cc pc = .ok (.getfield 221, 3)) (k : W p l e R s m args below meth c H locs cells slots Q (F0 m (pc + 3) ls (.int (I 0 19) :: rest))) : W p l e R s m args below meth c H locs cells slots Q (F0 m pc ls (.ref (a 0) :: rest)) := by
  obtain ⟨hx, hb, -, -, hown, hts, -, -, hK, hcl⟩ := F
  exact va_get (D := D) (ci := 5) (v := .int (I 0 19)) (C := RX5) (T := TX5) (N := 32) hx hb hts in_X5 hown hK G.1 0 rfl hcl 19 (by decide) (hts _ q1208) (fun _ h9 => h9) rfl hd k
theorem mp_number {v : Int32} (F : FM p s m meth c args D cl d A cc nL ret) (G : GM D cl a d A s.heap I H locs) (hd : decode cc pc = .ok (.putfield 221, 3)) (k : ∀ (H : Heap) (locs : List Loc), GM D cl a d A s.heap (sF I 19 v) H locs → W p l e R s m args below meth c H locs cells slots Q (F0 m (pc + 3) ls rest)) : W p l e R s m args below meth c H locs cells slots Q (F0 m pc ls (.int v :: .ref (a 0) :: rest)) := by
  obtain ⟨hx, hb, -, -, hown, hts, -, -, hK, hcl⟩ := F
  obtain ⟨hP, hD, hS⟩ := G
  exact va_put (D := D) (ci := 5) (v := .int v) (ty := .int) (C := RX5) (T := TX5) (N := 32) hx hb hts in_X5 tyX5 tyX5_ok nmX5 hown hK hP hD hS 0 rfl hcl 19 (by decide) (hts _ q1208) (fun _ h9 => h9) rfl (by decide +kernel) rfl rfl (Nat.le_of_ble_eq_true rfl) hd (fun H1 locs1 hP hD hS => k H1 locs1 ⟨hP, hD, hS⟩)
theorem mg_letter (F : FM p s m meth c args D cl d A cc nL ret) (G : GM D cl a d A s.heap I H locs) (hd : decode cc pc = .ok (.getfield 215, 3)) (k : W p l e R s m args below meth c H locs cells slots Q (F0 m (pc + 3) ls (.int (I 0 20) :: rest))) : W p l e R s m args below meth c H locs cells slots Q (F0 m pc ls (.ref (a 0) :: rest)) := by
  obtain ⟨hx, hb, -, -, hown, hts, -, -, hK, hcl⟩ := F
  exact va_get (D := D) (ci := 5) (v := .int (I 0 20)) (C := RX5) (T := TX5) (N := 32) hx hb hts in_X5 hown hK G.1 0 rfl hcl 20 (by decide) (hts _ q1209) (fun _ h9 => h9) rfl hd k
theorem mp_letter {v : Int32} (F : FM p s m meth c args D cl d A cc nL ret) (G : GM D cl a d A s.heap I H locs) (hd : decode cc pc = .ok (.putfield 215, 3)) (k : ∀ (H : Heap) (locs : List Loc), GM D cl a d A s.heap (sF I 20 v) H locs → W p l e R s m args below meth c H locs cells slots Q (F0 m (pc + 3) ls rest)) : W p l e R s m args below meth c H locs cells slots Q (F0 m pc ls (.int v :: .ref (a 0) :: rest)) := by
  obtain ⟨hx, hb, -, -, hown, hts, -, -, hK, hcl⟩ := F
  obtain ⟨hP, hD, hS⟩ := G
  exact va_put (D := D) (ci := 5) (v := .int v) (ty := .int) (C := RX5) (T := TX5) (N := 32) hx hb hts in_X5 tyX5 tyX5_ok nmX5 hown hK hP hD hS 0 rfl hcl 20 (by decide) (hts _ q1209) (fun _ h9 => h9) rfl (by decide +kernel) rfl rfl (Nat.le_of_ble_eq_true rfl) hd (fun H1 locs1 hP hD hS => k H1 locs1 ⟨hP, hD, hS⟩)
theorem mg_deep (F : FM p s m meth c args D cl d A cc nL ret) (G : GM D cl a d A s.heap I H locs) (hd : decode cc pc = .ok (.getfield 271, 3)) (k : W p l e R s m args below meth c H locs cells slots Q (F0 m (pc + 3) ls (.int (I 0 21) :: rest))) : W p l e R s m args below meth c H locs cells slots Q (F0 m pc ls (.ref (a 0) :: rest)) := by
  obtain ⟨hx, hb, -, -, hown, hts, -, -, hK, hcl⟩ := F
  exact va_get (D := D) (ci := 5) (v := .int (I 0 21)) (C := RX5) (T := TX5) (N := 32) hx hb hts in_X5 hown hK G.1 0 rfl hcl 21 (by decide) (hts _ q1210) (fun _ h9 => h9) rfl hd k
theorem mp_deep {v : Int32} (F : FM p s m meth c args D cl d A cc nL ret) (G : GM D cl a d A s.heap I H locs) (hd : decode cc pc = .ok (.putfield 271, 3)) (k : ∀ (H : Heap) (locs : List Loc), GM D cl a d A s.heap (sF I 21 v) H locs → W p l e R s m args below meth c H locs cells slots Q (F0 m (pc + 3) ls rest)) : W p l e R s m args below meth c H locs cells slots Q (F0 m pc ls (.int v :: .ref (a 0) :: rest)) := by
  obtain ⟨hx, hb, -, -, hown, hts, -, -, hK, hcl⟩ := F
  obtain ⟨hP, hD, hS⟩ := G
  exact va_put (D := D) (ci := 5) (v := .int v) (ty := .int) (C := RX5) (T := TX5) (N := 32) hx hb hts in_X5 tyX5 tyX5_ok nmX5 hown hK hP hD hS 0 rfl hcl 21 (by decide) (hts _ q1210) (fun _ h9 => h9) rfl (by decide +kernel) rfl rfl (Nat.le_of_ble_eq_true rfl) hd (fun H1 locs1 hP hD hS => k H1 locs1 ⟨hP, hD, hS⟩)
theorem mg_turned (F : FM p s m meth c args D cl d A cc nL ret) (G : GM D cl a d A s.heap I H locs) (hd : decode cc pc = .ok (.getfield 268, 3)) (k : W p l e R s m args below meth c H locs cells slots Q (F0 m (pc + 3) ls (.int (I 0 22) :: rest))) : W p l e R s m args below meth c H locs cells slots Q (F0 m pc ls (.ref (a 0) :: rest)) := by
  obtain ⟨hx, hb, -, -, hown, hts, -, -, hK, hcl⟩ := F
  exact va_get (D := D) (ci := 5) (v := .int (I 0 22)) (C := RX5) (T := TX5) (N := 32) hx hb hts in_X5 hown hK G.1 0 rfl hcl 22 (by decide) (hts _ q1211) (fun _ h9 => h9) rfl hd k
theorem mp_turned {v : Int32} (F : FM p s m meth c args D cl d A cc nL ret) (G : GM D cl a d A s.heap I H locs) (hd : decode cc pc = .ok (.putfield 268, 3)) (k : ∀ (H : Heap) (locs : List Loc), GM D cl a d A s.heap (sF I 22 v) H locs → W p l e R s m args below meth c H locs cells slots Q (F0 m (pc + 3) ls rest)) : W p l e R s m args below meth c H locs cells slots Q (F0 m pc ls (.int v :: .ref (a 0) :: rest)) := by
  obtain ⟨hx, hb, -, -, hown, hts, -, -, hK, hcl⟩ := F
  obtain ⟨hP, hD, hS⟩ := G
  exact va_put (D := D) (ci := 5) (v := .int v) (ty := .int) (C := RX5) (T := TX5) (N := 32) hx hb hts in_X5 tyX5 tyX5_ok nmX5 hown hK hP hD hS 0 rfl hcl 22 (by decide) (hts _ q1211) (fun _ h9 => h9) rfl (by decide +kernel) rfl rfl (Nat.le_of_ble_eq_true rfl) hd (fun H1 locs1 hP hD hS => k H1 locs1 ⟨hP, hD, hS⟩)
theorem mg_laid (F : FM p s m meth c args D cl d A cc nL ret) (G : GM D cl a d A s.heap I H locs) (hd : decode cc pc = .ok (.getfield 235, 3)) (k : W p l e R s m args below meth c H locs cells slots Q (F0 m (pc + 3) ls (.int (I 0 23) :: rest))) : W p l e R s m args below meth c H locs cells slots Q (F0 m pc ls (.ref (a 0) :: rest)) := by
  obtain ⟨hx, hb, -, -, hown, hts, -, -, hK, hcl⟩ := F
  exact va_get (D := D) (ci := 5) (v := .int (I 0 23)) (C := RX5) (T := TX5) (N := 32) hx hb hts in_X5 hown hK G.1 0 rfl hcl 23 (by decide) (hts _ q1212) (fun _ h9 => h9) rfl hd k
theorem mp_laid {v : Int32} (F : FM p s m meth c args D cl d A cc nL ret) (G : GM D cl a d A s.heap I H locs) (hd : decode cc pc = .ok (.putfield 235, 3)) (k : ∀ (H : Heap) (locs : List Loc), GM D cl a d A s.heap (sF I 23 v) H locs → W p l e R s m args below meth c H locs cells slots Q (F0 m (pc + 3) ls rest)) : W p l e R s m args below meth c H locs cells slots Q (F0 m pc ls (.int v :: .ref (a 0) :: rest)) := by
  obtain ⟨hx, hb, -, -, hown, hts, -, -, hK, hcl⟩ := F
  obtain ⟨hP, hD, hS⟩ := G
  exact va_put (D := D) (ci := 5) (v := .int v) (ty := .int) (C := RX5) (T := TX5) (N := 32) hx hb hts in_X5 tyX5 tyX5_ok nmX5 hown hK hP hD hS 0 rfl hcl 23 (by decide) (hts _ q1212) (fun _ h9 => h9) rfl (by decide +kernel) rfl rfl (Nat.le_of_ble_eq_true rfl) hd (fun H1 locs1 hP hD hS => k H1 locs1 ⟨hP, hD, hS⟩)
theorem mg_laidAt (F : FM p s m meth c args D cl d A cc nL ret) (G : GM D cl a d A s.heap I H locs) (hd : decode cc pc = .ok (.getfield 232, 3)) (k : W p l e R s m args below meth c H locs cells slots Q (F0 m (pc + 3) ls (.int (I 0 24) :: rest))) : W p l e R s m args below meth c H locs cells slots Q (F0 m pc ls (.ref (a 0) :: rest)) := by
  obtain ⟨hx, hb, -, -, hown, hts, -, -, hK, hcl⟩ := F
  exact va_get (D := D) (ci := 5) (v := .int (I 0 24)) (C := RX5) (T := TX5) (N := 32) hx hb hts in_X5 hown hK G.1 0 rfl hcl 24 (by decide) (hts _ q1213) (fun _ h9 => h9) rfl hd k
theorem mp_laidAt {v : Int32} (F : FM p s m meth c args D cl d A cc nL ret) (G : GM D cl a d A s.heap I H locs) (hd : decode cc pc = .ok (.putfield 232, 3)) (k : ∀ (H : Heap) (locs : List Loc), GM D cl a d A s.heap (sF I 24 v) H locs → W p l e R s m args below meth c H locs cells slots Q (F0 m (pc + 3) ls rest)) : W p l e R s m args below meth c H locs cells slots Q (F0 m pc ls (.int v :: .ref (a 0) :: rest)) := by
  obtain ⟨hx, hb, -, -, hown, hts, -, -, hK, hcl⟩ := F
  obtain ⟨hP, hD, hS⟩ := G
  exact va_put (D := D) (ci := 5) (v := .int v) (ty := .int) (C := RX5) (T := TX5) (N := 32) hx hb hts in_X5 tyX5 tyX5_ok nmX5 hown hK hP hD hS 0 rfl hcl 24 (by decide) (hts _ q1213) (fun _ h9 => h9) rfl (by decide +kernel) rfl rfl (Nat.le_of_ble_eq_true rfl) hd (fun H1 locs1 hP hD hS => k H1 locs1 ⟨hP, hD, hS⟩)
theorem mg_said (F : FM p s m meth c args D cl d A cc nL ret) (G : GM D cl a d A s.heap I H locs) (hd : decode cc pc = .ok (.getfield 262, 3)) (k : W p l e R s m args below meth c H locs cells slots Q (F0 m (pc + 3) ls (.int (I 0 25) :: rest))) : W p l e R s m args below meth c H locs cells slots Q (F0 m pc ls (.ref (a 0) :: rest)) := by
  obtain ⟨hx, hb, -, -, hown, hts, -, -, hK, hcl⟩ := F
  exact va_get (D := D) (ci := 5) (v := .int (I 0 25)) (C := RX5) (T := TX5) (N := 32) hx hb hts in_X5 hown hK G.1 0 rfl hcl 25 (by decide) (hts _ q1214) (fun _ h9 => h9) rfl hd k
theorem mp_said {v : Int32} (F : FM p s m meth c args D cl d A cc nL ret) (G : GM D cl a d A s.heap I H locs) (hd : decode cc pc = .ok (.putfield 262, 3)) (k : ∀ (H : Heap) (locs : List Loc), GM D cl a d A s.heap (sF I 25 v) H locs → W p l e R s m args below meth c H locs cells slots Q (F0 m (pc + 3) ls rest)) : W p l e R s m args below meth c H locs cells slots Q (F0 m pc ls (.int v :: .ref (a 0) :: rest)) := by
  obtain ⟨hx, hb, -, -, hown, hts, -, -, hK, hcl⟩ := F
  obtain ⟨hP, hD, hS⟩ := G
  exact va_put (D := D) (ci := 5) (v := .int v) (ty := .int) (C := RX5) (T := TX5) (N := 32) hx hb hts in_X5 tyX5 tyX5_ok nmX5 hown hK hP hD hS 0 rfl hcl 25 (by decide) (hts _ q1214) (fun _ h9 => h9) rfl (by decide +kernel) rfl rfl (Nat.le_of_ble_eq_true rfl) hd (fun H1 locs1 hP hD hS => k H1 locs1 ⟨hP, hD, hS⟩)
theorem mg_named (F : FM p s m meth c args D cl d A cc nL ret) (G : GM D cl a d A s.heap I H locs) (hd : decode cc pc = .ok (.getfield 52, 3)) (k : W p l e R s m args below meth c H locs cells slots Q (F0 m (pc + 3) ls (.ref (a 15) :: rest))) : W p l e R s m args below meth c H locs cells slots Q (F0 m pc ls (.ref (a 0) :: rest)) := by
  obtain ⟨hx, hb, -, -, hown, hts, -, -, hK, hcl⟩ := F
  exact va_get (D := D) (ci := 5) (v := .ref (a 15)) (C := RX5) (T := TX5) (N := 32) hx hb hts in_X5 hown hK G.1 0 rfl hcl 26 (by decide) (hts _ q1215) (fun _ h9 => h9) rfl hd k
theorem mg_pile (F : FM p s m meth c args D cl d A cc nL ret) (G : GM D cl a d A s.heap I H locs) (hd : decode cc pc = .ok (.getfield 55, 3)) (k : W p l e R s m args below meth c H locs cells slots Q (F0 m (pc + 3) ls (.ref (a 16) :: rest))) : W p l e R s m args below meth c H locs cells slots Q (F0 m pc ls (.ref (a 0) :: rest)) := by
  obtain ⟨hx, hb, -, -, hown, hts, -, -, hK, hcl⟩ := F
  exact va_get (D := D) (ci := 5) (v := .ref (a 16)) (C := RX5) (T := TX5) (N := 32) hx hb hts in_X5 hown hK G.1 0 rfl hcl 27 (by decide) (hts _ q1216) (fun _ h9 => h9) rfl hd k
theorem mg_carried (F : FM p s m meth c args D cl d A cc nL ret) (G : GM D cl a d A s.heap I H locs) (hd : decode cc pc = .ok (.getfield 58, 3)) (k : W p l e R s m args below meth c H locs cells slots Q (F0 m (pc + 3) ls (.ref (a 17) :: rest))) : W p l e R s m args below meth c H locs cells slots Q (F0 m pc ls (.ref (a 0) :: rest)) := by
  obtain ⟨hx, hb, -, -, hown, hts, -, -, hK, hcl⟩ := F
  exact va_get (D := D) (ci := 5) (v := .ref (a 17)) (C := RX5) (T := TX5) (N := 32) hx hb hts in_X5 hown hK G.1 0 rfl hcl 28 (by decide) (hts _ q1217) (fun _ h9 => h9) rfl hd k
theorem mg_waits (F : FM p s m meth c args D cl d A cc nL ret) (G : GM D cl a d A s.heap I H locs) (hd : decode cc pc = .ok (.getfield 61, 3)) (k : W p l e R s m args below meth c H locs cells slots Q (F0 m (pc + 3) ls (.ref (a 18) :: rest))) : W p l e R s m args below meth c H locs cells slots Q (F0 m pc ls (.ref (a 0) :: rest)) := by
  obtain ⟨hx, hb, -, -, hown, hts, -, -, hK, hcl⟩ := F
  exact va_get (D := D) (ci := 5) (v := .ref (a 18)) (C := RX5) (T := TX5) (N := 32) hx hb hts in_X5 hown hK G.1 0 rfl hcl 29 (by decide) (hts _ q1218) (fun _ h9 => h9) rfl hd k
theorem mg_waiting (F : FM p s m meth c args D cl d A cc nL ret) (G : GM D cl a d A s.heap I H locs) (hd : decode cc pc = .ok (.getfield 313, 3)) (k : W p l e R s m args below meth c H locs cells slots Q (F0 m (pc + 3) ls (.int (I 0 30) :: rest))) : W p l e R s m args below meth c H locs cells slots Q (F0 m pc ls (.ref (a 0) :: rest)) := by
  obtain ⟨hx, hb, -, -, hown, hts, -, -, hK, hcl⟩ := F
  exact va_get (D := D) (ci := 5) (v := .int (I 0 30)) (C := RX5) (T := TX5) (N := 32) hx hb hts in_X5 hown hK G.1 0 rfl hcl 30 (by decide) (hts _ q1219) (fun _ h9 => h9) rfl hd k
theorem mp_waiting {v : Int32} (F : FM p s m meth c args D cl d A cc nL ret) (G : GM D cl a d A s.heap I H locs) (hd : decode cc pc = .ok (.putfield 313, 3)) (k : ∀ (H : Heap) (locs : List Loc), GM D cl a d A s.heap (sF I 30 v) H locs → W p l e R s m args below meth c H locs cells slots Q (F0 m (pc + 3) ls rest)) : W p l e R s m args below meth c H locs cells slots Q (F0 m pc ls (.int v :: .ref (a 0) :: rest)) := by
  obtain ⟨hx, hb, -, -, hown, hts, -, -, hK, hcl⟩ := F
  obtain ⟨hP, hD, hS⟩ := G
  exact va_put (D := D) (ci := 5) (v := .int v) (ty := .int) (C := RX5) (T := TX5) (N := 32) hx hb hts in_X5 tyX5 tyX5_ok nmX5 hown hK hP hD hS 0 rfl hcl 30 (by decide) (hts _ q1219) (fun _ h9 => h9) rfl (by decide +kernel) rfl rfl (Nat.le_of_ble_eq_true rfl) hd (fun H1 locs1 hP hD hS => k H1 locs1 ⟨hP, hD, hS⟩)
theorem mg_rowDue (F : FM p s m meth c args D cl d A cc nL ret) (G : GM D cl a d A s.heap I H locs) (hd : decode cc pc = .ok (.getfield 64, 3)) (k : W p l e R s m args below meth c H locs cells slots Q (F0 m (pc + 3) ls (.ref (a 19) :: rest))) : W p l e R s m args below meth c H locs cells slots Q (F0 m pc ls (.ref (a 0) :: rest)) := by
  obtain ⟨hx, hb, -, -, hown, hts, -, -, hK, hcl⟩ := F
  exact va_get (D := D) (ci := 5) (v := .ref (a 19)) (C := RX5) (T := TX5) (N := 32) hx hb hts in_X5 hown hK G.1 0 rfl hcl 31 (by decide) (hts _ q1220) (fun _ h9 => h9) rfl hd k
/-- cell j of the world is an int array of n -/
def isA (j n : Nat) : Prop := (∀ (a : Nat → Nat) (d : ClassId) (I : St), (mL a d I)[j]? = some (a j, .inl (d, n, .inl (I j)))) ∧ ∀ (a : Nat → Nat) (d : ClassId) (I : St) (f : Nat → Int32), (mL a d I).set j (a j, .inl (d, n, .inl f)) = mL a d (u2 I j f)
theorem mA_1 : isA 1 3040 := ⟨fun _ _ _ => rfl, fun _ _ _ _ => rfl⟩
theorem mA_2 : isA 2 3040 := ⟨fun _ _ _ => rfl, fun _ _ _ _ => rfl⟩
theorem mA_3 : isA 3 3040 := ⟨fun _ _ _ => rfl, fun _ _ _ _ => rfl⟩
theorem mA_4 : isA 4 4 := ⟨fun _ _ _ => rfl, fun _ _ _ _ => rfl⟩
theorem mA_5 : isA 5 4 := ⟨fun _ _ _ => rfl, fun _ _ _ _ => rfl⟩
theorem mA_6 : isA 6 96 := ⟨fun _ _ _ => rfl, fun _ _ _ _ => rfl⟩
theorem mA_7 : isA 7 5 := ⟨fun _ _ _ => rfl, fun _ _ _ _ => rfl⟩
theorem mA_8 : isA 8 5 := ⟨fun _ _ _ => rfl, fun _ _ _ _ => rfl⟩
theorem mA_9 : isA 9 5 := ⟨fun _ _ _ => rfl, fun _ _ _ _ => rfl⟩
theorem mA_10 : isA 10 5 := ⟨fun _ _ _ => rfl, fun _ _ _ _ => rfl⟩
theorem mA_11 : isA 11 120 := ⟨fun _ _ _ => rfl, fun _ _ _ _ => rfl⟩
theorem mA_12 : isA 12 720 := ⟨fun _ _ _ => rfl, fun _ _ _ _ => rfl⟩
theorem mA_13 : isA 13 40 := ⟨fun _ _ _ => rfl, fun _ _ _ _ => rfl⟩
theorem mA_14 : isA 14 96 := ⟨fun _ _ _ => rfl, fun _ _ _ _ => rfl⟩
theorem mA_15 : isA 15 128 := ⟨fun _ _ _ => rfl, fun _ _ _ _ => rfl⟩
theorem mA_16 : isA 16 100 := ⟨fun _ _ _ => rfl, fun _ _ _ _ => rfl⟩
theorem mA_17 : isA 17 24 := ⟨fun _ _ _ => rfl, fun _ _ _ _ => rfl⟩
theorem mA_18 : isA 18 60 := ⟨fun _ _ _ => rfl, fun _ _ _ _ => rfl⟩
theorem mA_19 : isA 19 60 := ⟨fun _ _ _ => rfl, fun _ _ _ _ => rfl⟩
theorem m_ld {j n : Nat} {i : Int32} (F : FM p s m meth c args D cl d A cc nL ret) (G : GM D cl a d A s.heap I H locs) (hj : isA j n) (hi : vp_in i n) (hd : decode cc pc = .ok (.iaload, 1)) (k : W p l e R s m args below meth c H locs cells slots Q (F0 m (pc + 1) ls (.int (I j i.toNatClampNeg) :: rest))) : W p l e R s m args below meth c H locs cells slots Q (F0 m pc ls (.int i :: .ref (a j) :: rest)) := by
  obtain ⟨hx, hb, -, -, hown, hts, -, -, hK, hcl⟩ := F
  exact va_iald hx hb hK G.1 j 0 (hj.1 a d I) rfl hi hd k
theorem m_st {j n : Nat} {i x : Int32} (F : FM p s m meth c args D cl d A cc nL ret) (G : GM D cl a d A s.heap I H locs) (hj : isA j n) (hi : vp_in i n) (hd : decode cc pc = .ok (.iastore, 1)) (k : ∀ (H : Heap) (locs : List Loc), GM D cl a d A s.heap (sA I j i x) H locs → W p l e R s m args below meth c H locs cells slots Q (F0 m (pc + 1) ls rest)) : W p l e R s m args below meth c H locs cells slots Q (F0 m pc ls (.int x :: .int i :: .ref (a j) :: rest)) := by
  obtain ⟨hx, hb, -, -, hown, hts, -, -, hK, hcl⟩ := F
  obtain ⟨hP, hD, hS⟩ := G
  refine va_iast hx hb hK hP hD hS j 0 (hj.1 a d I) rfl hi hd (fun H1 locs1 hP hD hS => k H1 locs1 ?_)
  rw [hj.2] at hP hD
  exact ⟨hP, hD, hS⟩
theorem m_iret {Q : Int32 → St → Prop} {v : Int32} (F : FM p s m meth c args D cl d A cc nL (some .int)) (G : GM D cl a d A s.heap I H locs) (hd : decode cc pc = .ok (.ireturn, 1)) (h : Q v I) : wMi p l e R s m args below meth c D cl a d A Q H locs (F0 m pc ls [.int v]) := by
  obtain ⟨hx, hb, hr, -, hown, hts, hlocks, -, hK, hcl⟩ := F
  obtain ⟨hP, hD, hS⟩ := G
  exact W.iret (v := v) hx hb hr (fun t ht hW => ⟨⟨v, I, rfl, h, by rw [ht]; exact hP, va_K.moved hW.alike hK, hD⟩, hS.F ht⟩) hS.2.2 hd
theorem m_zret {Q : Int32 → St → Prop} {v : Int32} (F : FM p s m meth c args D cl d A cc nL (some .boolean)) (G : GM D cl a d A s.heap I H locs) (hz : zb v) (hd : decode cc pc = .ok (.ireturn, 1)) (h : Q v I) : wMi p l e R s m args below meth c D cl a d A Q H locs (F0 m pc ls [.int v]) := by
  obtain ⟨hx, hb, hr, -, hown, hts, hlocks, -, hK, hcl⟩ := F
  obtain ⟨hP, hD, hS⟩ := G
  exact W.zret (v := v) hx hb hr hz (fun t ht hW => ⟨⟨v, I, rfl, h, by rw [ht]; exact hP, va_K.moved hW.alike hK, hD⟩, hS.F ht⟩) hS.2.2 hd
theorem m_vret {Q : St → Prop} (F : FM p s m meth c args D cl d A cc nL none) (G : GM D cl a d A s.heap I H locs) (hd : decode cc pc = .ok (.return_, 1)) (h : Q I) : wMv p l e R s m args below meth c D cl a d A Q H locs (F0 m pc ls []) := by
  obtain ⟨hx, hb, hr, -, hown, hts, hlocks, -, hK, hcl⟩ := F
  obtain ⟨hP, hD, hS⟩ := G
  exact W.vret hx hb hr (fun t ht hW => ⟨⟨I, rfl, h, by rw [ht]; exact hP, va_K.moved hW.alike hK, hD⟩, hS.F ht⟩) hS.2.2 hd
end
theorem m_enter {l : Launch} {D : va_G} {cl : List vw_C} {a : Nat → Nat} {d : ClassId} {y : MethodName} {cc : ByteArray} {nL : Nat} {ret : Option FieldType} {rm : Room} {As : List Value} {sz : Nat} {I : St} {Qc : (Nat → Prop) → Array Value → State → Outcome → State → Prop} (hcl : cl[5]? = some (RX5, TX5, 32)) (hy : plainName y.cls = true) (hyc : y.cls = RX5) (hsl : (lg_sl As).length ≤ nL)
    (body : ∀ (p : Program) (e : Env) (s : State) (m : MethodId) (below : List Frame) (meth : Method) (c : Code) (ls : Array Slot) (A : Nat → Prop), FM p s m meth c As.toArray D cl d A cc nL ret → GM D cl a d A s.heap I s.heap [] → lv_has ls nL (lv_args 0 As) → W p l e rm s m As.toArray below meth c s.heap [] 0 0 (MQ below (Qc A) As.toArray s 0 0 A) (F0 m 0 ls [])) :
    Met l y (ws_ y cc nL ret) rm (va_Pc As (PM D cl a d sz I)) (Qc (va_A (mL a d I) sz)) 0 0 (va_A (mL a d I) sz) := by
  refine Met.ofW (cc := cc) (maxL := nL) (ret := ret) hy rfl ?_
  intro p e s m args below meth c s₁ B hml hv
  obtain ⟨rfl, hsz, hP, hK, hD0⟩ := hv
  have hts := atoms_spec (ws := ws_ y cc nL ret) B.pre
  have hts : ∀ w ∈ lw_all, w.before _ s = true := fun w h => hts w (List.mem_cons_of_mem _ h)
  have hown : s.vm.findClass y.cls = some m.cls := findClass_of_methodNamed B.named
  subst hsz
  have hD := hD0.self (sz := s.heap.size)
  generalize hAe : va_A (mL a d I) s.heap.size = A at hD ⊢
  have hA : ∀ q : Nat, s.heap.size ≤ q → A q := fun q h => by rw [← hAe]; exact Or.inr h
  have hl := lv_entry As (n := nL) hsl
  rw [lg_entry_eq]
  exact body p e s m below meth c _ A ⟨B.exec, B.bytes, B.returns, hml, hyc ▸ hown, hts, B.notSynchronized, hA, hK, hcl⟩ ⟨hP, hD, va_S.rf⟩ hl
theorem va_freeAll {A0 : Nat → Prop} {ws : va_W} {H0 H : Heap} {locs : List Loc} (hD : va_D A0 ws) (hS : va_S A0 H0 H locs) (hA : ∀ q, H0.size ≤ q → A0 q) : ∀ q, va_A ws H.size q → A0 q := by
  intro q h
  rcases h with ⟨k, e, h⟩ | h
  · exact hD.2 k (q, e) h
  · exact hA q (Nat.le_trans hS.1 h)
theorem PM_blind {D : va_G} {cl : List vw_C} {a : Nat → Nat} {d : ClassId} {sz : Nat} {I : St} {As : List Value} : FrameBlind (va_Pc As (PM D cl a d sz I)) := fun v U g mk q => by
  obtain ⟨q0, q1, qP, qK, qD⟩ := q
  exact ⟨q0, q1, qP, va_K.moved (u := U) (U := U.calling g mk v) (Vm.Alike.refl U.vm) qK, qD⟩
section
variable {p : Program} {l : Launch} {e : Env} {R : Room} {s : State} {m : MethodId} {args : Array Value} {below : List Frame} {meth : Method} {c : Code} {H : Heap} {locs : List Loc} {cells slots : Nat} {Q : State → Prop} {D : va_G} {cl : List vw_C} {a : Nat → Nat} {d : ClassId} {A : Nat → Prop} {I : St} {cc : ByteArray} {nL : Nat} {ret : Option FieldType} {pc : Nat} {ls : Array Slot} {rest : List Value}
theorem m_callVi {y : MethodName} {bytes : ByteArray} {maxL n index : Nat} {rt : FieldType} {rm : Room} {As st0 : List Value} {Q1 : Int32 → St → Prop} (F : FM p s m meth c args D cl d A cc nL ret) (G : GM D cl a d A s.heap I H locs) (hsz : ls.size = nL)
    (hM : MMi l D cl a d y bytes maxL rt rm (.ref (a 0) :: As) H.size I Q1) (cw : CallW R s args RX5 RX5 index y bytes maxL (some rt) (ws_ y bytes maxL (some rt)) rm 0 0 n) (hn : As.length = n) (hst : st0 = As.reverse ++ .ref (a 0) :: rest) (hW : (rest.map fun v => v.category).sum ≤ 8) (hd : decode cc pc = .ok (.invokevirtual index, 3))
    (k : ∀ (r : Int32) (I1 : St) (H : Heap) (locs : List Loc), GM D cl a d A s.heap I1 H locs → Q1 r I1 → W p l e R s m args below meth c H locs 0 0 Q (F0 m (pc + 3) ls (.int r :: rest))) : W p l e R s m args below meth c H locs 0 0 Q (F0 m pc ls st0) := by
  obtain ⟨hx, hb, hr, hml, hown, hts, hlocks, hA, hK, hcl⟩ := F
  obtain ⟨hP, hD, hS⟩ := G
  have hF := va_freeAll hD hS hA
  refine va_calli (va_runV (As := As) (rest := rest) ⟨hx, hb, hml, hown, hts⟩ hM cw ⟨PM_blind, va_recv hK hP (ci := 5) (q0 := 0) hcl rfl, fun U hU hW => ⟨rfl, by rw [hU], by rw [hU]; exact hP, va_K.moved hW.alike hK, hD.weaken (fun _ _ _ _ => trivial)⟩⟩ rfl hn hsz hst (lv_room hW) hd ⟨Nat.zero_le _, Nat.zero_le _⟩) hS (fun q _ h => hF q h) hF (fun r u t H1 locs1 ht hvm hp hB hz1 hk1 hS => k r u H1 locs1 ?_ hp)
  obtain ⟨hP1, hK1, hD1⟩ := hB
  rw [ht] at hP1
  exact ⟨hP1, hD1.weaken (fun _ q _ h => hF q.1 h), hS⟩
theorem m_callSi {y : MethodName} {bytes : ByteArray} {maxL n index : Nat} {rt : FieldType} {rm : Room} {As st0 : List Value} {Q1 : Int32 → St → Prop} (F : FM p s m meth c args D cl d A cc nL ret) (G : GM D cl a d A s.heap I H locs) (hsz : ls.size = nL)
    (hM : MMi l D cl a d y bytes maxL rt rm As H.size I Q1) (cw : CallB R s args RX5 index y bytes maxL (some rt) (ws_ y bytes maxL (some rt)) rm 0 0 n ∧ (Cond.static y).before args s = true) (hn : As.length = n) (hst : st0 = As.reverse ++ rest) (hW : (rest.map fun v => v.category).sum ≤ 8) (hd : decode cc pc = .ok (.invokestatic index, 3))
    (k : ∀ (r : Int32) (I1 : St) (H : Heap) (locs : List Loc), GM D cl a d A s.heap I1 H locs → Q1 r I1 → W p l e R s m args below meth c H locs 0 0 Q (F0 m (pc + 3) ls (.int r :: rest))) : W p l e R s m args below meth c H locs 0 0 Q (F0 m pc ls st0) := by
  obtain ⟨hx, hb, hr, hml, hown, hts, hlocks, hA, hK, hcl⟩ := F
  obtain ⟨hP, hD, hS⟩ := G
  have hF := va_freeAll hD hS hA
  refine va_calli (va_runS (As := As) (rest := rest) ⟨hx, hb, hml, hown, hts⟩ hM cw ⟨PM_blind, fun U hU hW => ⟨rfl, by rw [hU], by rw [hU]; exact hP, va_K.moved hW.alike hK, hD.weaken (fun _ _ _ _ => trivial)⟩⟩ rfl hn hsz hst (lv_room hW) hd ⟨Nat.zero_le _, Nat.zero_le _⟩) hS (fun q _ h => hF q h) hF (fun r u t H1 locs1 ht hvm hp hB hz1 hk1 hS => k r u H1 locs1 ?_ hp)
  obtain ⟨hP1, hK1, hD1⟩ := hB
  rw [ht] at hP1
  exact ⟨hP1, hD1.weaken (fun _ q _ h => hF q.1 h), hS⟩
theorem m_callVv {y : MethodName} {bytes : ByteArray} {maxL n index : Nat} {rm : Room} {As st0 : List Value} {Q1 : St → Prop} (F : FM p s m meth c args D cl d A cc nL ret) (G : GM D cl a d A s.heap I H locs) (hsz : ls.size = nL)
    (hM : MMv l D cl a d y bytes maxL rm (.ref (a 0) :: As) H.size I Q1) (cw : CallW R s args RX5 RX5 index y bytes maxL none (ws_ y bytes maxL none) rm 0 0 n) (hn : As.length = n) (hst : st0 = As.reverse ++ .ref (a 0) :: rest) (hW : (rest.map fun v => v.category).sum ≤ 8) (hd : decode cc pc = .ok (.invokevirtual index, 3))
    (k : ∀ (I1 : St) (H : Heap) (locs : List Loc), GM D cl a d A s.heap I1 H locs → Q1 I1 → W p l e R s m args below meth c H locs 0 0 Q (F0 m (pc + 3) ls rest)) : W p l e R s m args below meth c H locs 0 0 Q (F0 m pc ls st0) := by
  obtain ⟨hx, hb, hr, hml, hown, hts, hlocks, hA, hK, hcl⟩ := F
  obtain ⟨hP, hD, hS⟩ := G
  have hF := va_freeAll hD hS hA
  refine va_callv (va_runV (As := As) (rest := rest) ⟨hx, hb, hml, hown, hts⟩ hM cw ⟨PM_blind, va_recv hK hP (ci := 5) (q0 := 0) hcl rfl, fun U hU hW => ⟨rfl, by rw [hU], by rw [hU]; exact hP, va_K.moved hW.alike hK, hD.weaken (fun _ _ _ _ => trivial)⟩⟩ rfl hn hsz hst (lv_room hW) hd ⟨Nat.zero_le _, Nat.zero_le _⟩) hS (fun q _ h => hF q h) hF (fun u t H1 locs1 ht hvm hp hB hz1 hk1 hS => k u H1 locs1 ?_ hp)
  obtain ⟨hP1, hK1, hD1⟩ := hB
  rw [ht] at hP1
  exact ⟨hP1, hD1.weaken (fun _ q _ h => hF q.1 h), hS⟩
theorem m_callSv {y : MethodName} {bytes : ByteArray} {maxL n index : Nat} {rm : Room} {As st0 : List Value} {Q1 : St → Prop} (F : FM p s m meth c args D cl d A cc nL ret) (G : GM D cl a d A s.heap I H locs) (hsz : ls.size = nL)
    (hM : MMv l D cl a d y bytes maxL rm As H.size I Q1) (cw : CallB R s args RX5 index y bytes maxL none (ws_ y bytes maxL none) rm 0 0 n ∧ (Cond.static y).before args s = true) (hn : As.length = n) (hst : st0 = As.reverse ++ rest) (hW : (rest.map fun v => v.category).sum ≤ 8) (hd : decode cc pc = .ok (.invokestatic index, 3))
    (k : ∀ (I1 : St) (H : Heap) (locs : List Loc), GM D cl a d A s.heap I1 H locs → Q1 I1 → W p l e R s m args below meth c H locs 0 0 Q (F0 m (pc + 3) ls rest)) : W p l e R s m args below meth c H locs 0 0 Q (F0 m pc ls st0) := by
  obtain ⟨hx, hb, hr, hml, hown, hts, hlocks, hA, hK, hcl⟩ := F
  obtain ⟨hP, hD, hS⟩ := G
  have hF := va_freeAll hD hS hA
  refine va_callv (va_runS (As := As) (rest := rest) ⟨hx, hb, hml, hown, hts⟩ hM cw ⟨PM_blind, fun U hU hW => ⟨rfl, by rw [hU], by rw [hU]; exact hP, va_K.moved hW.alike hK, hD.weaken (fun _ _ _ _ => trivial)⟩⟩ rfl hn hsz hst (lv_room hW) hd ⟨Nat.zero_le _, Nat.zero_le _⟩) hS (fun q _ h => hF q h) hF (fun u t H1 locs1 ht hvm hp hB hz1 hk1 hS => k u H1 locs1 ?_ hp)
  obtain ⟨hP1, hK1, hD1⟩ := hB
  rw [ht] at hP1
  exact ⟨hP1, hD1.weaken (fun _ q _ h => hF q.1 h), hS⟩
/-- tables of jumps -/
theorem m_tsIn {dflt lo hi : Int} {offs : Array Int} {len : Nat} {x k : Int32} {off : Int} {tgt : Nat} (hx : p.tables.exec = Jvm.exec) (hb : c.code = cc) (hd : decode cc pc = .ok (.tableswitch dflt lo hi offs, len)) (hk : x = k) (h1 : ¬ k.toInt < lo) (h2 : ¬ hi < k.toInt) (ho : offs[(k.toInt - lo).toNat]? = some off) (ht : (pc : Int) + off = (tgt : Int)) (kk : W p l e R s m args below meth c H locs cells slots Q (F0 m tgt ls rest)) : W p l e R s m args below meth c H locs cells slots Q (F0 m pc ls (.int x :: rest)) := by
  subst hk
  exact lv_tableIn hx hb hd h1 h2 ho ht kk
theorem tk_nil {x : Int32} : ∀ k ∈ ([] : List Int), ¬ x.toInt = k := fun _ h => absurd h List.not_mem_nil
theorem tk_cons {x k : Int32} {a : Int} {ks : List Int} (h : ¬ x = k) (hk : k.toInt = a) (ht : ∀ k ∈ ks, ¬ x.toInt = k) : ∀ k ∈ a :: ks, ¬ x.toInt = k := by
  intro q hq
  rcases List.mem_cons.mp hq with e | e
  · rw [e]; exact lv_neT h hk
  · exact ht q e
theorem m_tsD {dflt lo hi : Int} {offs : Array Int} {len : Nat} {x : Int32} {ks : List Int} {tgt : Nat} (hx : p.tables.exec = Jvm.exec) (hb : c.code = cc) (hd : decode cc pc = .ok (.tableswitch dflt lo hi offs, len)) (hk : ∀ k ∈ ks, ¬ x.toInt = k) (ho : offs.size = (hi - lo + 1).toNat ∧ ∀ j : Fin offs.size, offs[j] = dflt ∨ lo + (j.val : Int) ∈ ks) (ht : (pc : Int) + dflt = (tgt : Int)) (kk : W p l e R s m args below meth c H locs cells slots Q (F0 m tgt ls rest)) : W p l e R s m args below meth c H locs cells slots Q (F0 m pc ls (.int x :: rest)) := by
  by_cases h1 : x.toInt < lo
  · exact lv_tableOut hx hb hd (Or.inl h1) ht kk
  · by_cases h2 : hi < x.toInt
    · exact lv_tableOut hx hb hd (Or.inr h2) ht kk
    · have hj : (x.toInt - lo).toNat < offs.size := by rw [ho.1]; omega
      refine lv_tableIn (off := dflt) hx hb hd h1 h2 ?_ ht kk
      rcases ho.2 ⟨_, hj⟩ with h | h
      · rw [Array.getElem?_eq_getElem hj]; exact congrArg some h
      · exact absurd (by show x.toInt = lo + (((x.toInt - lo).toNat : Nat) : Int); omega) (hk _ h)
theorem m_lsIn {dflt : Int} {ps : Array (Int × Int)} {len : Nat} {x k : Int32} {off : Int} {tgt : Nat} (hx : p.tables.exec = Jvm.exec) (hb : c.code = cc) (hd : decode cc pc = .ok (.lookupswitch dflt ps, len)) (hk : x = k) (hp : (ps.toList.zip (ps.toList.drop 1)).all (fun (a, next) => a.1 < next.1) = true) (ho : Op.lookupswitch.offset ps.toList dflt k.toInt = off) (ht : (pc : Int) + off = (tgt : Int)) (kk : W p l e R s m args below meth c H locs cells slots Q (F0 m tgt ls rest)) : W p l e R s m args below meth c H locs cells slots Q (F0 m pc ls (.int x :: rest)) := by
  subst hk
  exact lv_lookup hx hb hd hp ho ht kk
theorem ls_off {d a : Int} : ∀ (l : List (Int × Int)), (∀ k ∈ l.map (·.1), ¬ a = k) → Op.lookupswitch.offset l d a = d
  | [], _ => rfl
  | (k, o) :: l, h => by
    have h1 : ¬ a = k := h k (by simp)
    have ih := ls_off (d := d) l (fun q hq => h q (by simp at hq ⊢; exact Or.inr hq))
    show (if k = a then o else Op.lookupswitch.offset l d a) = d
    rw [if_neg (fun q => h1 q.symm)]
    exact ih
theorem m_lsD {dflt : Int} {ps : Array (Int × Int)} {len : Nat} {x : Int32} {ks : List Int} {tgt : Nat} (hx : p.tables.exec = Jvm.exec) (hb : c.code = cc) (hd : decode cc pc = .ok (.lookupswitch dflt ps, len)) (hk : ∀ k ∈ ks, ¬ x.toInt = k) (ho : (ps.toList.zip (ps.toList.drop 1)).all (fun (a, next) => a.1 < next.1) = true ∧ ps.toList.map (·.1) = ks) (ht : (pc : Int) + dflt = (tgt : Int)) (kk : W p l e R s m args below meth c H locs cells slots Q (F0 m tgt ls rest)) : W p l e R s m args below meth c H locs cells slots Q (F0 m pc ls (.int x :: rest)) := by
  refine lv_lookup hx hb hd ho.1 (ls_off _ ?_) ht kk
  rw [ho.2]
  exact hk
end
