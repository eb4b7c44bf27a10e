set_option maxRecDepth 100000
/-! the group either, both, test, sum, term, part0: by the depth -/
abbrev rmR (dd : Nat) : Room := { frames := dd + 3, cells := 0, slots := 0, locals := dd * 22 + 68 }
theorem rr_ok {f lo dd : Nat} (h1 : f + 1 ≤ 3) (h2 : lo ≤ 68) : f + 1 ≤ (rmR (dd + 1)).frames ∧ lo ≤ (rmR (dd + 1)).locals := ⟨Nat.le_trans h1 (by show 3 ≤ dd + 1 + 3; omega), Nat.le_trans h2 (by show 68 ≤ (dd + 1) * 22 + 68; omega)⟩
def RecOk (l : Launch) (D : va_G) (cl : List vw_C) (a : Nat → Nat) (d : ClassId) (RR : Nat → Int32 → St → (Int32 → St → Prop) → Prop) (dd : Nat) : Prop := (∀ (v1 : Int32) (I : St) (Q : Int32 → St → Prop) (sz : Nat), RR 0 v1 I Q → MMi l D cl a d yX5_either cX5_either 2 .boolean (rmR dd) [.ref (a 0), .int v1] sz I Q) ∧ (∀ (v1 : Int32) (I : St) (Q : Int32 → St → Prop) (sz : Nat), RR 1 v1 I Q → MMi l D cl a d yX5_both cX5_both 2 .boolean (rmR dd) [.ref (a 0), .int v1] sz I Q) ∧ (∀ (v1 : Int32) (I : St) (Q : Int32 → St → Prop) (sz : Nat), RR 2 v1 I Q → MMi l D cl a d yX5_test cX5_test 3 .boolean (rmR dd) [.ref (a 0), .int v1] sz I Q) ∧ (∀ (v1 : Int32) (I : St) (Q : Int32 → St → Prop) (sz : Nat), RR 3 v1 I Q → MMi l D cl a d yX5_sum cX5_sum 3 .boolean (rmR dd) [.ref (a 0), .int v1] sz I Q) ∧ (∀ (v1 : Int32) (I : St) (Q : Int32 → St → Prop) (sz : Nat), RR 4 v1 I Q → MMi l D cl a d yX5_term cX5_term 3 .boolean (rmR dd) [.ref (a 0), .int v1] sz I Q) ∧ (∀ (v1 : Int32) (I : St) (Q : Int32 → St → Prop) (sz : Nat), RR 5 v1 I Q → MMi l D cl a d yX5_part0 cX5_part0 2 .boolean (rmR dd) [.ref (a 0), .int v1] sz I Q)
set_option maxHeartbeats 4000000 in
set_option maxRecDepth 100000 in
theorem kMR_0 {p : Program} {l : Launch} {e : Env} {s : State} {m : MethodId} {args : Array Value} {below : List Frame} {meth : Method} {c : Code} {D : va_G} {cl : List vw_C} {a : Nat → Nat} {d : ClassId} {A : Nat → Prop} {Q : State → Prop} {cc : ByteArray} {nL pc : Nat} {ret : Option FieldType} {ls : Array Slot} {rest : List Value} {v1 : Int32} {I : St} {H : Heap} {locs : List Loc} {Q1 : Int32 → St → Prop} {RR : Nat → Int32 → St → (Int32 → St → Prop) → Prop} {dd : Nat} (hRR : RecOk l D cl a d RR dd) (F : FM p s m meth c args D cl d A cc nL ret) (G : GM D cl a d A s.heap I H locs) (hsz : ls.size = nL) (hW : (rest.map fun v => v.category).sum ≤ 8) (hd : decode cc pc = .ok (.invokevirtual 274, 3)) (h : RR 0 v1 I Q1) (k : ∀ (r : Int32) (I1 : St) (H : Heap) (locs : List Loc), GM D cl a d A s.heap I1 H locs → Q1 r I1 → W p l e (rmR (dd + 1)) s m args below meth c H locs 0 0 Q (F0 m (pc + 3) ls (.int r :: rest))) : W p l e (rmR (dd + 1)) s m args below meth c H locs 0 0 Q (F0 m pc ls (.int v1 :: .ref (a 0) :: rest)) := by
  obtain ⟨hx, hb, hr, hml, hown, hts, hlocks, hA, hK, hcl⟩ := id F
  exact m_callVi (As := [.int v1]) F G hsz (hRR.1 v1 I Q1 H.size h) (cwV 1 hts (lw_V q1567 q1569 qs71 q90 q1570) rfl rfl rfl (by decide +kernel) ⟨by show dd + 3 + 1 ≤ dd + 1 + 3; omega, by show 8 + (2 + 11) + (dd * 22 + 68) ≤ (dd + 1) * 22 + 68; omega⟩) rfl rfl hW hd k
set_option maxHeartbeats 4000000 in
set_option maxRecDepth 100000 in
theorem kMR_1 {p : Program} {l : Launch} {e : Env} {s : State} {m : MethodId} {args : Array Value} {below : List Frame} {meth : Method} {c : Code} {D : va_G} {cl : List vw_C} {a : Nat → Nat} {d : ClassId} {A : Nat → Prop} {Q : State → Prop} {cc : ByteArray} {nL pc : Nat} {ret : Option FieldType} {ls : Array Slot} {rest : List Value} {v1 : Int32} {I : St} {H : Heap} {locs : List Loc} {Q1 : Int32 → St → Prop} {RR : Nat → Int32 → St → (Int32 → St → Prop) → Prop} {dd : Nat} (hRR : RecOk l D cl a d RR dd) (F : FM p s m meth c args D cl d A cc nL ret) (G : GM D cl a d A s.heap I H locs) (hsz : ls.size = nL) (hW : (rest.map fun v => v.category).sum ≤ 8) (hd : decode cc pc = .ok (.invokevirtual 238, 3)) (h : RR 1 v1 I Q1) (k : ∀ (r : Int32) (I1 : St) (H : Heap) (locs : List Loc), GM D cl a d A s.heap I1 H locs → Q1 r I1 → W p l e (rmR (dd + 1)) s m args below meth c H locs 0 0 Q (F0 m (pc + 3) ls (.int r :: rest))) : W p l e (rmR (dd + 1)) s m args below meth c H locs 0 0 Q (F0 m pc ls (.int v1 :: .ref (a 0) :: rest)) := by
  obtain ⟨hx, hb, hr, hml, hown, hts, hlocks, hA, hK, hcl⟩ := id F
  exact m_callVi (As := [.int v1]) F G hsz (hRR.2.1 v1 I Q1 H.size h) (cwV 1 hts (lw_V q1571 q1573 qs72 q90 q1574) rfl rfl rfl (by decide +kernel) ⟨by show dd + 3 + 1 ≤ dd + 1 + 3; omega, by show 8 + (2 + 11) + (dd * 22 + 68) ≤ (dd + 1) * 22 + 68; omega⟩) rfl rfl hW hd k
set_option maxHeartbeats 4000000 in
set_option maxRecDepth 100000 in
theorem kMR_2 {p : Program} {l : Launch} {e : Env} {s : State} {m : MethodId} {args : Array Value} {below : List Frame} {meth : Method} {c : Code} {D : va_G} {cl : List vw_C} {a : Nat → Nat} {d : ClassId} {A : Nat → Prop} {Q : State → Prop} {cc : ByteArray} {nL pc : Nat} {ret : Option FieldType} {ls : Array Slot} {rest : List Value} {v1 : Int32} {I : St} {H : Heap} {locs : List Loc} {Q1 : Int32 → St → Prop} {RR : Nat → Int32 → St → (Int32 → St → Prop) → Prop} {dd : Nat} (hRR : RecOk l D cl a d RR dd) (F : FM p s m meth c args D cl d A cc nL ret) (G : GM D cl a d A s.heap I H locs) (hsz : ls.size = nL) (hW : (rest.map fun v => v.category).sum ≤ 8) (hd : decode cc pc = .ok (.invokevirtual 250, 3)) (h : RR 2 v1 I Q1) (k : ∀ (r : Int32) (I1 : St) (H : Heap) (locs : List Loc), GM D cl a d A s.heap I1 H locs → Q1 r I1 → W p l e (rmR (dd + 1)) s m args below meth c H locs 0 0 Q (F0 m (pc + 3) ls (.int r :: rest))) : W p l e (rmR (dd + 1)) s m args below meth c H locs 0 0 Q (F0 m pc ls (.int v1 :: .ref (a 0) :: rest)) := by
  obtain ⟨hx, hb, hr, hml, hown, hts, hlocks, hA, hK, hcl⟩ := id F
  exact m_callVi (As := [.int v1]) F G hsz (hRR.2.2.1 v1 I Q1 H.size h) (cwV 1 hts (lw_V q1575 q1577 qs73 q90 q1578) rfl rfl rfl (by decide +kernel) ⟨by show dd + 3 + 1 ≤ dd + 1 + 3; omega, by show 8 + (3 + 11) + (dd * 22 + 68) ≤ (dd + 1) * 22 + 68; omega⟩) rfl rfl hW hd k
set_option maxHeartbeats 4000000 in
set_option maxRecDepth 100000 in
theorem kMR_3 {p : Program} {l : Launch} {e : Env} {s : State} {m : MethodId} {args : Array Value} {below : List Frame} {meth : Method} {c : Code} {D : va_G} {cl : List vw_C} {a : Nat → Nat} {d : ClassId} {A : Nat → Prop} {Q : State → Prop} {cc : ByteArray} {nL pc : Nat} {ret : Option FieldType} {ls : Array Slot} {rest : List Value} {v1 : Int32} {I : St} {H : Heap} {locs : List Loc} {Q1 : Int32 → St → Prop} {RR : Nat → Int32 → St → (Int32 → St → Prop) → Prop} {dd : Nat} (hRR : RecOk l D cl a d RR dd) (F : FM p s m meth c args D cl d A cc nL ret) (G : GM D cl a d A s.heap I H locs) (hsz : ls.size = nL) (hW : (rest.map fun v => v.category).sum ≤ 8) (hd : decode cc pc = .ok (.invokevirtual 253, 3)) (h : RR 3 v1 I Q1) (k : ∀ (r : Int32) (I1 : St) (H : Heap) (locs : List Loc), GM D cl a d A s.heap I1 H locs → Q1 r I1 → W p l e (rmR (dd + 1)) s m args below meth c H locs 0 0 Q (F0 m (pc + 3) ls (.int r :: rest))) : W p l e (rmR (dd + 1)) s m args below meth c H locs 0 0 Q (F0 m pc ls (.int v1 :: .ref (a 0) :: rest)) := by
  obtain ⟨hx, hb, hr, hml, hown, hts, hlocks, hA, hK, hcl⟩ := id F
  exact m_callVi (As := [.int v1]) F G hsz (hRR.2.2.2.1 v1 I Q1 H.size h) (cwV 1 hts (lw_V q1579 q1581 qs74 q90 q1582) rfl rfl rfl (by decide +kernel) ⟨by show dd + 3 + 1 ≤ dd + 1 + 3; omega, by show 8 + (3 + 11) + (dd * 22 + 68) ≤ (dd + 1) * 22 + 68; omega⟩) rfl rfl hW hd k
set_option maxHeartbeats 4000000 in
set_option maxRecDepth 100000 in
theorem kMR_4 {p : Program} {l : Launch} {e : Env} {s : State} {m : MethodId} {args : Array Value} {below : List Frame} {meth : Method} {c : Code} {D : va_G} {cl : List vw_C} {a : Nat → Nat} {d : ClassId} {A : Nat → Prop} {Q : State → Prop} {cc : ByteArray} {nL pc : Nat} {ret : Option FieldType} {ls : Array Slot} {rest : List Value} {v1 : Int32} {I : St} {H : Heap} {locs : List Loc} {Q1 : Int32 → St → Prop} {RR : Nat → Int32 → St → (Int32 → St → Prop) → Prop} {dd : Nat} (hRR : RecOk l D cl a d RR dd) (F : FM p s m meth c args D cl d A cc nL ret) (G : GM D cl a d A s.heap I H locs) (hsz : ls.size = nL) (hW : (rest.map fun v => v.category).sum ≤ 8) (hd : decode cc pc = .ok (.invokevirtual 256, 3)) (h : RR 4 v1 I Q1) (k : ∀ (r : Int32) (I1 : St) (H : Heap) (locs : List Loc), GM D cl a d A s.heap I1 H locs → Q1 r I1 → W p l e (rmR (dd + 1)) s m args below meth c H locs 0 0 Q (F0 m (pc + 3) ls (.int r :: rest))) : W p l e (rmR (dd + 1)) s m args below meth c H locs 0 0 Q (F0 m pc ls (.int v1 :: .ref (a 0) :: rest)) := by
  obtain ⟨hx, hb, hr, hml, hown, hts, hlocks, hA, hK, hcl⟩ := id F
  exact m_callVi (As := [.int v1]) F G hsz (hRR.2.2.2.2.1 v1 I Q1 H.size h) (cwV 1 hts (lw_V q1583 q1585 qs75 q90 q1586) rfl rfl rfl (by decide +kernel) ⟨by show dd + 3 + 1 ≤ dd + 1 + 3; omega, by show 8 + (3 + 11) + (dd * 22 + 68) ≤ (dd + 1) * 22 + 68; omega⟩) rfl rfl hW hd k
set_option maxHeartbeats 4000000 in
set_option maxRecDepth 100000 in
theorem kMR_5 {p : Program} {l : Launch} {e : Env} {s : State} {m : MethodId} {args : Array Value} {below : List Frame} {meth : Method} {c : Code} {D : va_G} {cl : List vw_C} {a : Nat → Nat} {d : ClassId} {A : Nat → Prop} {Q : State → Prop} {cc : ByteArray} {nL pc : Nat} {ret : Option FieldType} {ls : Array Slot} {rest : List Value} {v1 : Int32} {I : St} {H : Heap} {locs : List Loc} {Q1 : Int32 → St → Prop} {RR : Nat → Int32 → St → (Int32 → St → Prop) → Prop} {dd : Nat} (hRR : RecOk l D cl a d RR dd) (F : FM p s m meth c args D cl d A cc nL ret) (G : GM D cl a d A s.heap I H locs) (hsz : ls.size = nL) (hW : (rest.map fun v => v.category).sum ≤ 8) (hd : decode cc pc = .ok (.invokevirtual 259, 3)) (h : RR 5 v1 I Q1) (k : ∀ (r : Int32) (I1 : St) (H : Heap) (locs : List Loc), GM D cl a d A s.heap I1 H locs → Q1 r I1 → W p l e (rmR (dd + 1)) s m args below meth c H locs 0 0 Q (F0 m (pc + 3) ls (.int r :: rest))) : W p l e (rmR (dd + 1)) s m args below meth c H locs 0 0 Q (F0 m pc ls (.int v1 :: .ref (a 0) :: rest)) := by
  obtain ⟨hx, hb, hr, hml, hown, hts, hlocks, hA, hK, hcl⟩ := id F
  exact m_callVi (As := [.int v1]) F G hsz (hRR.2.2.2.2.2 v1 I Q1 H.size h) (cwV 1 hts (lw_V q1587 q1589 qs76 q90 q1590) rfl rfl rfl (by decide +kernel) ⟨by show dd + 3 + 1 ≤ dd + 1 + 3; omega, by show 8 + (2 + 11) + (dd * 22 + 68) ≤ (dd + 1) * 22 + 68; omega⟩) rfl rfl hW hd k
/-! either -/
def M_either_L10 (Q : Int32 → St → Prop) (RR : Nat → Int32 → St → (Int32 → St → Prop) → Prop)  (v1 : Int32) : Nat → St → Prop
  | 0, _ => False
  | n + 1, I => M_isSign 124 I (fun r_4 I_5 => (r_4 = 0 → Q 1 I_5) ∧ (¬ r_4 = 0 → M_nextToken  I_5 (fun I_8 => RR 1 v1 I_8 (fun r_9 I_10 => (¬ r_9 = 0 → M_step 2 124 I_10 (fun I_13 => M_either_L10 Q RR v1 n  I_13)) ∧ (r_9 = 0 → Q 0 I_10)))))
def M_either_b (RR : Nat → Int32 → St → (Int32 → St → Prop) → Prop) (v1 : Int32) (I : St) (Q : Int32 → St → Prop) : Prop := RR 1 v1 I (fun r_1 I_2 => (¬ r_1 = 0 → ∃ k10, M_either_L10 Q RR v1 k10  I_2) ∧ (r_1 = 0 → Q 0 I_2))
set_option maxHeartbeats 4000000 in
set_option maxRecDepth 100000 in
theorem wM_either_L10 {p : Program} {l : Launch} {e : Env} {s : State} {m : MethodId} {args : Array Value} {below : List Frame} {meth : Method} {c : Code} {D : va_G} {cl : List vw_C} {a : Nat → Nat} {d : ClassId} {A : Nat → Prop} {Q : Int32 → St → Prop}  (F : FM p s m meth c args D cl d A cX5_either 2 (some .boolean)) {RR : Nat → Int32 → St → (Int32 → St → Prop) → Prop} {dd : Nat} (hRR : RecOk l D cl a d RR dd) (v1 : Int32)  :
    ∀ (n : Nat)  (I : St) (H : Heap) (locs : List Loc) (ls : Array Slot), GM D cl a d A s.heap I H locs → lv_has ls 2 [(0, .ref (a 0)), (1, .int v1)] → M_either_L10 Q RR v1 n I → wMi p l e (rmR (dd + 1)) s m args below meth c D cl a d A Q H locs (F0 m 10 ls []) := by
  obtain ⟨hx, hb, hr, hml, hown, hts, hlocks, hA, hK, hcl⟩ := id F
  intro n
  induction n with
  | zero => intro  I H locs ls G hl h; exact absurd h (fun q => q)
  | succ n ih =>
    intro  I H locs ls G hl h
    unfold M_either_L10 at h
    refine lv_aload_n hx hb dX5_either_10 rfl (lv_at hl 0 rfl) ?_
    refine lv_bipush (v := 124) hx hb dX5_either_11 (by decide) ?_
    refine kM_isSign F G hl.1 (rr_ok (Nat.le_of_ble_eq_true rfl) (Nat.le_of_ble_eq_true rfl)) (Nat.le_of_ble_eq_true rfl) dX5_either_13 h (fun r_4 I_5 H locs G h => ?_)
    refine lv_if_eq (tgt := 43) hx hb dX5_either_16 (by decide) (fun c_6 => ?_) (fun c_6 => ?_)
    · replace h := h.1 c_6
      refine lv_iconst (v := 1) hx hb dX5_either_43 (by decide) ?_
      exact m_zret F G rfl dX5_either_44 h
    · replace h := h.2 c_6
      refine lv_aload_n hx hb dX5_either_19 rfl (lv_at hl 0 rfl) ?_
      refine kM_nextToken F G hl.1 (rr_ok (Nat.le_of_ble_eq_true rfl) (Nat.le_of_ble_eq_true rfl)) (Nat.le_of_ble_eq_true rfl) dX5_either_20 h (fun I_8 H locs G h => ?_)
      refine lv_aload_n hx hb dX5_either_23 rfl (lv_at hl 0 rfl) ?_
      refine lv_iload_n hx hb dX5_either_24 rfl (lv_at hl 1 rfl) ?_
      refine kMR_1 hRR F G hl.1 (Nat.le_of_ble_eq_true rfl) dX5_either_25 h (fun r_9 I_10 H locs G h => ?_)
      refine lv_if_ne (tgt := 33) hx hb dX5_either_28 (by decide) (fun c_11 => ?_) (fun c_11 => ?_)
      · replace h := h.1 c_11
        refine lv_aload_n hx hb dX5_either_33 rfl (lv_at hl 0 rfl) ?_
        refine lv_iconst (v := 2) hx hb dX5_either_34 (by decide) ?_
        refine lv_bipush (v := 124) hx hb dX5_either_35 (by decide) ?_
        refine kM_step F G hl.1 (rr_ok (Nat.le_of_ble_eq_true rfl) (Nat.le_of_ble_eq_true rfl)) (Nat.le_of_ble_eq_true rfl) dX5_either_37 h (fun I_13 H locs G h => ?_)
        refine lv_goto (tgt := 10) hx hb dX5_either_40 (by decide) ?_
        exact ih  I_13 _ _ _ G (lv_sub hl [0, 1] rfl) h
      · replace h := h.2 c_11
        refine lv_iconst (v := 0) hx hb dX5_either_31 (by decide) ?_
        exact m_zret F G rfl dX5_either_32 h
set_option maxHeartbeats 4000000 in
set_option maxRecDepth 100000 in
theorem wM_either_b {l : Launch} {D : va_G} {cl : List vw_C} {a : Nat → Nat} {d : ClassId} (hcl : cl[5]? = some (RX5, TX5, 32)) {RR : Nat → Int32 → St → (Int32 → St → Prop) → Prop} {dd : Nat} (hRR : RecOk l D cl a d RR dd) (sz : Nat) (v1 : Int32) (I : St) (Q : Int32 → St → Prop) (h : M_either_b RR v1 I Q) : MMi l D cl a d yX5_either cX5_either 2 .boolean (rmR (dd + 1)) [.ref (a 0), .int v1] sz I Q := by
  refine m_enter (Qc := fun A => va_Qi Q (BM D cl a d A) A) hcl (by decide) rfl (Nat.le_of_ble_eq_true rfl) ?_
  intro p e s m below meth c ls A F hG hl
  have G := hG
  have hl : lv_has ls 2 [(0, .ref (a 0)), (1, .int v1)] := hl
  obtain ⟨hx, hb, hr, hml, hown, hts, hlocks, hA, hK, hcl⟩ := id F
  unfold M_either_b at h
  refine lv_aload_n hx hb dX5_either_0 rfl (lv_at hl 0 rfl) ?_
  refine lv_iload_n hx hb dX5_either_1 rfl (lv_at hl 1 rfl) ?_
  refine kMR_1 hRR F G hl.1 (Nat.le_of_ble_eq_true rfl) dX5_either_2 h (fun r_1 I_2 H locs G h => ?_)
  refine lv_if_ne (tgt := 10) hx hb dX5_either_5 (by decide) (fun c_3 => ?_) (fun c_3 => ?_)
  · replace h := h.1 c_3
    obtain ⟨k10, h⟩ := h
    exact wM_either_L10 F hRR v1  k10  I_2 _ _ _ G (lv_sub hl [0, 1] rfl) h
  · replace h := h.2 c_3
    refine lv_iconst (v := 0) hx hb dX5_either_8 (by decide) ?_
    exact m_zret F G rfl dX5_either_9 h
/-! both -/
def M_both_L10 (Q : Int32 → St → Prop) (RR : Nat → Int32 → St → (Int32 → St → Prop) → Prop)  (v1 : Int32) : Nat → St → Prop
  | 0, _ => False
  | n + 1, I => M_isSign 38 I (fun r_4 I_5 => (r_4 = 0 → Q 1 I_5) ∧ (¬ r_4 = 0 → M_nextToken  I_5 (fun I_8 => RR 2 v1 I_8 (fun r_9 I_10 => (¬ r_9 = 0 → M_step 2 38 I_10 (fun I_13 => M_both_L10 Q RR v1 n  I_13)) ∧ (r_9 = 0 → Q 0 I_10)))))
def M_both_b (RR : Nat → Int32 → St → (Int32 → St → Prop) → Prop) (v1 : Int32) (I : St) (Q : Int32 → St → Prop) : Prop := RR 2 v1 I (fun r_1 I_2 => (¬ r_1 = 0 → ∃ k10, M_both_L10 Q RR v1 k10  I_2) ∧ (r_1 = 0 → Q 0 I_2))
set_option maxHeartbeats 4000000 in
set_option maxRecDepth 100000 in
theorem wM_both_L10 {p : Program} {l : Launch} {e : Env} {s : State} {m : MethodId} {args : Array Value} {below : List Frame} {meth : Method} {c : Code} {D : va_G} {cl : List vw_C} {a : Nat → Nat} {d : ClassId} {A : Nat → Prop} {Q : Int32 → St → Prop}  (F : FM p s m meth c args D cl d A cX5_both 2 (some .boolean)) {RR : Nat → Int32 → St → (Int32 → St → Prop) → Prop} {dd : Nat} (hRR : RecOk l D cl a d RR dd) (v1 : Int32)  :
    ∀ (n : Nat)  (I : St) (H : Heap) (locs : List Loc) (ls : Array Slot), GM D cl a d A s.heap I H locs → lv_has ls 2 [(0, .ref (a 0)), (1, .int v1)] → M_both_L10 Q RR v1 n I → wMi p l e (rmR (dd + 1)) s m args below meth c D cl a d A Q H locs (F0 m 10 ls []) := by
  obtain ⟨hx, hb, hr, hml, hown, hts, hlocks, hA, hK, hcl⟩ := id F
  intro n
  induction n with
  | zero => intro  I H locs ls G hl h; exact absurd h (fun q => q)
  | succ n ih =>
    intro  I H locs ls G hl h
    unfold M_both_L10 at h
    refine lv_aload_n hx hb dX5_both_10 rfl (lv_at hl 0 rfl) ?_
    refine lv_bipush (v := 38) hx hb dX5_both_11 (by decide) ?_
    refine kM_isSign F G hl.1 (rr_ok (Nat.le_of_ble_eq_true rfl) (Nat.le_of_ble_eq_true rfl)) (Nat.le_of_ble_eq_true rfl) dX5_both_13 h (fun r_4 I_5 H locs G h => ?_)
    refine lv_if_eq (tgt := 43) hx hb dX5_both_16 (by decide) (fun c_6 => ?_) (fun c_6 => ?_)
    · replace h := h.1 c_6
      refine lv_iconst (v := 1) hx hb dX5_both_43 (by decide) ?_
      exact m_zret F G rfl dX5_both_44 h
    · replace h := h.2 c_6
      refine lv_aload_n hx hb dX5_both_19 rfl (lv_at hl 0 rfl) ?_
      refine kM_nextToken F G hl.1 (rr_ok (Nat.le_of_ble_eq_true rfl) (Nat.le_of_ble_eq_true rfl)) (Nat.le_of_ble_eq_true rfl) dX5_both_20 h (fun I_8 H locs G h => ?_)
      refine lv_aload_n hx hb dX5_both_23 rfl (lv_at hl 0 rfl) ?_
      refine lv_iload_n hx hb dX5_both_24 rfl (lv_at hl 1 rfl) ?_
      refine kMR_2 hRR F G hl.1 (Nat.le_of_ble_eq_true rfl) dX5_both_25 h (fun r_9 I_10 H locs G h => ?_)
      refine lv_if_ne (tgt := 33) hx hb dX5_both_28 (by decide) (fun c_11 => ?_) (fun c_11 => ?_)
      · replace h := h.1 c_11
        refine lv_aload_n hx hb dX5_both_33 rfl (lv_at hl 0 rfl) ?_
        refine lv_iconst (v := 2) hx hb dX5_both_34 (by decide) ?_
        refine lv_bipush (v := 38) hx hb dX5_both_35 (by decide) ?_
        refine kM_step F G hl.1 (rr_ok (Nat.le_of_ble_eq_true rfl) (Nat.le_of_ble_eq_true rfl)) (Nat.le_of_ble_eq_true rfl) dX5_both_37 h (fun I_13 H locs G h => ?_)
        refine lv_goto (tgt := 10) hx hb dX5_both_40 (by decide) ?_
        exact ih  I_13 _ _ _ G (lv_sub hl [0, 1] rfl) h
      · replace h := h.2 c_11
        refine lv_iconst (v := 0) hx hb dX5_both_31 (by decide) ?_
        exact m_zret F G rfl dX5_both_32 h
set_option maxHeartbeats 4000000 in
set_option maxRecDepth 100000 in
theorem wM_both_b {l : Launch} {D : va_G} {cl : List vw_C} {a : Nat → Nat} {d : ClassId} (hcl : cl[5]? = some (RX5, TX5, 32)) {RR : Nat → Int32 → St → (Int32 → St → Prop) → Prop} {dd : Nat} (hRR : RecOk l D cl a d RR dd) (sz : Nat) (v1 : Int32) (I : St) (Q : Int32 → St → Prop) (h : M_both_b RR v1 I Q) : MMi l D cl a d yX5_both cX5_both 2 .boolean (rmR (dd + 1)) [.ref (a 0), .int v1] sz I Q := by
  refine m_enter (Qc := fun A => va_Qi Q (BM D cl a d A) A) hcl (by decide) rfl (Nat.le_of_ble_eq_true rfl) ?_
  intro p e s m below meth c ls A F hG hl
  have G := hG
  have hl : lv_has ls 2 [(0, .ref (a 0)), (1, .int v1)] := hl
  obtain ⟨hx, hb, hr, hml, hown, hts, hlocks, hA, hK, hcl⟩ := id F
  unfold M_both_b at h
  refine lv_aload_n hx hb dX5_both_0 rfl (lv_at hl 0 rfl) ?_
  refine lv_iload_n hx hb dX5_both_1 rfl (lv_at hl 1 rfl) ?_
  refine kMR_2 hRR F G hl.1 (Nat.le_of_ble_eq_true rfl) dX5_both_2 h (fun r_1 I_2 H locs G h => ?_)
  refine lv_if_ne (tgt := 10) hx hb dX5_both_5 (by decide) (fun c_3 => ?_) (fun c_3 => ?_)
  · replace h := h.1 c_3
    obtain ⟨k10, h⟩ := h
    exact wM_both_L10 F hRR v1  k10  I_2 _ _ _ G (lv_sub hl [0, 1] rfl) h
  · replace h := h.2 c_3
    refine lv_iconst (v := 0) hx hb dX5_both_8 (by decide) ?_
    exact m_zret F G rfl dX5_both_9 h
/-! test -/
def M_test_p37 (Q : Int32 → St → Prop) (RR : Nat → Int32 → St → (Int32 → St → Prop) → Prop)  (v1 : Int32) (I : St) : Prop := ∀ x_13 : Int32, x_13 = (I 0 20) → M_nextToken  I (fun I_15 => RR 3 v1 I_15 (fun r_16 I_17 => (¬ r_16 = 0 → M_step 2 x_13 I_17 (fun I_20 => Q 1 I_20)) ∧ (r_16 = 0 → Q 0 I_17)))
def M_test_b (RR : Nat → Int32 → St → (Int32 → St → Prop) → Prop) (v1 : Int32) (I : St) (Q : Int32 → St → Prop) : Prop := RR 3 v1 I (fun r_1 I_2 => (¬ r_1 = 0 → M_isSign 60 I_2 (fun r_4 I_5 => (¬ r_4 = 0 → M_test_p37 Q RR v1 I_5) ∧ (r_4 = 0 → M_isSign 61 I_5 (fun r_7 I_8 => (¬ r_7 = 0 → M_test_p37 Q RR v1 I_8) ∧ (r_7 = 0 → M_isSign 62 I_8 (fun r_10 I_11 => (r_10 = 0 → Q 1 I_11) ∧ (¬ r_10 = 0 → M_test_p37 Q RR v1 I_11))))))) ∧ (r_1 = 0 → Q 0 I_2))
set_option maxHeartbeats 4000000 in
set_option maxRecDepth 100000 in
theorem wM_test_p37 {p : Program} {l : Launch} {e : Env} {s : State} {m : MethodId} {args : Array Value} {below : List Frame} {meth : Method} {c : Code} {D : va_G} {cl : List vw_C} {a : Nat → Nat} {d : ClassId} {A : Nat → Prop} {Q : Int32 → St → Prop}  (F : FM p s m meth c args D cl d A cX5_test 3 (some .boolean)) {RR : Nat → Int32 → St → (Int32 → St → Prop) → Prop} {dd : Nat} (hRR : RecOk l D cl a d RR dd) (v1 : Int32) (I : St)  {H : Heap} {locs : List Loc} {ls : Array Slot} (G : GM D cl a d A s.heap I H locs) (hl : lv_has ls 3 [(0, .ref (a 0)), (1, .int v1)]) (h : M_test_p37 Q RR v1 I) : wMi p l e (rmR (dd + 1)) s m args below meth c D cl a d A Q H locs (F0 m 37 ls []) := by
  obtain ⟨hx, hb, hr, hml, hown, hts, hlocks, hA, hK, hcl⟩ := id F
  unfold M_test_p37 at h
  refine lv_aload_n hx hb dX5_test_37 rfl (lv_at hl 0 rfl) ?_
  refine mg_letter F G dX5_test_38 ?_
  refine lv_topi (fun x_13 ex_13 => ?_)
  replace h := h x_13 ex_13
  refine lv_istore_n (lv' := [(2, .int x_13), (0, .ref (a 0)), (1, .int v1)]) hx hb dX5_test_41 rfl hl (by decide) rfl (fun ls hl => ?_)
  refine lv_aload_n hx hb dX5_test_42 rfl (lv_at hl 1 rfl) ?_
  refine kM_nextToken F G hl.1 (rr_ok (Nat.le_of_ble_eq_true rfl) (Nat.le_of_ble_eq_true rfl)) (Nat.le_of_ble_eq_true rfl) dX5_test_43 h (fun I_15 H locs G h => ?_)
  refine lv_aload_n hx hb dX5_test_46 rfl (lv_at hl 1 rfl) ?_
  refine lv_iload_n hx hb dX5_test_47 rfl (lv_at hl 2 rfl) ?_
  refine kMR_3 hRR F G hl.1 (Nat.le_of_ble_eq_true rfl) dX5_test_48 h (fun r_16 I_17 H locs G h => ?_)
  refine lv_if_ne (tgt := 56) hx hb dX5_test_51 (by decide) (fun c_18 => ?_) (fun c_18 => ?_)
  · replace h := h.1 c_18
    refine lv_aload_n hx hb dX5_test_56 rfl (lv_at hl 1 rfl) ?_
    refine lv_iconst (v := 2) hx hb dX5_test_57 (by decide) ?_
    refine lv_iload_n hx hb dX5_test_58 rfl (lv_at hl 0 rfl) ?_
    refine kM_step F G hl.1 (rr_ok (Nat.le_of_ble_eq_true rfl) (Nat.le_of_ble_eq_true rfl)) (Nat.le_of_ble_eq_true rfl) dX5_test_59 h (fun I_20 H locs G h => ?_)
    refine lv_iconst (v := 1) hx hb dX5_test_62 (by decide) ?_
    exact m_zret F G rfl dX5_test_63 h
  · replace h := h.2 c_18
    refine lv_iconst (v := 0) hx hb dX5_test_54 (by decide) ?_
    exact m_zret F G rfl dX5_test_55 h
set_option maxHeartbeats 4000000 in
set_option maxRecDepth 100000 in
theorem wM_test_b {l : Launch} {D : va_G} {cl : List vw_C} {a : Nat → Nat} {d : ClassId} (hcl : cl[5]? = some (RX5, TX5, 32)) {RR : Nat → Int32 → St → (Int32 → St → Prop) → Prop} {dd : Nat} (hRR : RecOk l D cl a d RR dd) (sz : Nat) (v1 : Int32) (I : St) (Q : Int32 → St → Prop) (h : M_test_b RR v1 I Q) : MMi l D cl a d yX5_test cX5_test 3 .boolean (rmR (dd + 1)) [.ref (a 0), .int v1] sz I Q := by
  refine m_enter (Qc := fun A => va_Qi Q (BM D cl a d A) A) hcl (by decide) rfl (Nat.le_of_ble_eq_true rfl) ?_
  intro p e s m below meth c ls A F hG hl
  have G := hG
  have hl : lv_has ls 3 [(0, .ref (a 0)), (1, .int v1)] := hl
  obtain ⟨hx, hb, hr, hml, hown, hts, hlocks, hA, hK, hcl⟩ := id F
  unfold M_test_b at h
  refine lv_aload_n hx hb dX5_test_0 rfl (lv_at hl 0 rfl) ?_
  refine lv_iload_n hx hb dX5_test_1 rfl (lv_at hl 1 rfl) ?_
  refine kMR_3 hRR F G hl.1 (Nat.le_of_ble_eq_true rfl) dX5_test_2 h (fun r_1 I_2 H locs G h => ?_)
  refine lv_if_ne (tgt := 10) hx hb dX5_test_5 (by decide) (fun c_3 => ?_) (fun c_3 => ?_)
  · replace h := h.1 c_3
    refine lv_aload_n hx hb dX5_test_10 rfl (lv_at hl 0 rfl) ?_
    refine lv_bipush (v := 60) hx hb dX5_test_11 (by decide) ?_
    refine kM_isSign F G hl.1 (rr_ok (Nat.le_of_ble_eq_true rfl) (Nat.le_of_ble_eq_true rfl)) (Nat.le_of_ble_eq_true rfl) dX5_test_13 h (fun r_4 I_5 H locs G h => ?_)
    refine lv_if_ne (tgt := 37) hx hb dX5_test_16 (by decide) (fun c_6 => ?_) (fun c_6 => ?_)
    · replace h := h.1 c_6
      exact wM_test_p37 F hRR v1 I_5  G (lv_sub hl [0, 1] rfl) h
    · replace h := h.2 c_6
      refine lv_aload_n hx hb dX5_test_19 rfl (lv_at hl 0 rfl) ?_
      refine lv_bipush (v := 61) hx hb dX5_test_20 (by decide) ?_
      refine kM_isSign F G hl.1 (rr_ok (Nat.le_of_ble_eq_true rfl) (Nat.le_of_ble_eq_true rfl)) (Nat.le_of_ble_eq_true rfl) dX5_test_22 h (fun r_7 I_8 H locs G h => ?_)
      refine lv_if_ne (tgt := 37) hx hb dX5_test_25 (by decide) (fun c_9 => ?_) (fun c_9 => ?_)
      · replace h := h.1 c_9
        exact wM_test_p37 F hRR v1 I_8  G (lv_sub hl [0, 1] rfl) h
      · replace h := h.2 c_9
        refine lv_aload_n hx hb dX5_test_28 rfl (lv_at hl 0 rfl) ?_
        refine lv_bipush (v := 62) hx hb dX5_test_29 (by decide) ?_
        refine kM_isSign F G hl.1 (rr_ok (Nat.le_of_ble_eq_true rfl) (Nat.le_of_ble_eq_true rfl)) (Nat.le_of_ble_eq_true rfl) dX5_test_31 h (fun r_10 I_11 H locs G h => ?_)
        refine lv_if_eq (tgt := 62) hx hb dX5_test_34 (by decide) (fun c_12 => ?_) (fun c_12 => ?_)
        · replace h := h.1 c_12
          refine lv_iconst (v := 1) hx hb dX5_test_62 (by decide) ?_
          exact m_zret F G rfl dX5_test_63 h
        · replace h := h.2 c_12
          exact wM_test_p37 F hRR v1 I_11  G (lv_sub hl [0, 1] rfl) h
  · replace h := h.2 c_3
    refine lv_iconst (v := 0) hx hb dX5_test_8 (by decide) ?_
    exact m_zret F G rfl dX5_test_9 h
/-! sum -/
def M_sum_p28 (Q : Int32 → St → Prop) (RR : Nat → Int32 → St → (Int32 → St → Prop) → Prop) (K10 : St → Prop) (v1 : Int32) (I : St) : Prop := ∀ x_10 : Int32, x_10 = (I 0 20) → M_nextToken  I (fun I_12 => RR 4 v1 I_12 (fun r_13 I_14 => (¬ r_13 = 0 → M_step 2 x_10 I_14 (fun I_17 => K10  I_17)) ∧ (r_13 = 0 → Q 0 I_14)))
def M_sum_L10 (Q : Int32 → St → Prop) (RR : Nat → Int32 → St → (Int32 → St → Prop) → Prop)  (v1 : Int32) : Nat → St → Prop
  | 0, _ => False
  | n + 1, I => M_isSign 43 I (fun r_4 I_5 => (¬ r_4 = 0 → M_sum_p28 Q RR (fun  I_ => M_sum_L10 Q RR v1 n  I_) v1 I_5) ∧ (r_4 = 0 → M_isSign 45 I_5 (fun r_7 I_8 => (r_7 = 0 → Q 1 I_8) ∧ (¬ r_7 = 0 → M_sum_p28 Q RR (fun  I_ => M_sum_L10 Q RR v1 n  I_) v1 I_8))))
def M_sum_b (RR : Nat → Int32 → St → (Int32 → St → Prop) → Prop) (v1 : Int32) (I : St) (Q : Int32 → St → Prop) : Prop := RR 4 v1 I (fun r_1 I_2 => (¬ r_1 = 0 → ∃ k10, M_sum_L10 Q RR v1 k10  I_2) ∧ (r_1 = 0 → Q 0 I_2))
set_option maxHeartbeats 4000000 in
set_option maxRecDepth 100000 in
theorem wM_sum_p28 {p : Program} {l : Launch} {e : Env} {s : State} {m : MethodId} {args : Array Value} {below : List Frame} {meth : Method} {c : Code} {D : va_G} {cl : List vw_C} {a : Nat → Nat} {d : ClassId} {A : Nat → Prop} {Q : Int32 → St → Prop} {K10 : St → Prop} (F : FM p s m meth c args D cl d A cX5_sum 3 (some .boolean)) {RR : Nat → Int32 → St → (Int32 → St → Prop) → Prop} {dd : Nat} (hRR : RecOk l D cl a d RR dd) (v1 : Int32) (I : St) (hK10 : ∀  (I : St) (H : Heap) (locs : List Loc) (ls : Array Slot), GM D cl a d A s.heap I H locs → lv_has ls 3 [(0, .ref (a 0)), (1, .int v1)] → K10  I → wMi p l e (rmR (dd + 1)) s m args below meth c D cl a d A Q H locs (F0 m 10 ls [])) {H : Heap} {locs : List Loc} {ls : Array Slot} (G : GM D cl a d A s.heap I H locs) (hl : lv_has ls 3 [(0, .ref (a 0)), (1, .int v1)]) (h : M_sum_p28 Q RR K10 v1 I) : wMi p l e (rmR (dd + 1)) s m args below meth c D cl a d A Q H locs (F0 m 28 ls []) := by
  obtain ⟨hx, hb, hr, hml, hown, hts, hlocks, hA, hK, hcl⟩ := id F
  unfold M_sum_p28 at h
  refine lv_aload_n hx hb dX5_sum_28 rfl (lv_at hl 0 rfl) ?_
  refine mg_letter F G dX5_sum_29 ?_
  refine lv_topi (fun x_10 ex_10 => ?_)
  replace h := h x_10 ex_10
  refine lv_istore_n (lv' := [(2, .int x_10), (0, .ref (a 0)), (1, .int v1)]) hx hb dX5_sum_32 rfl hl (by decide) rfl (fun ls hl => ?_)
  refine lv_aload_n hx hb dX5_sum_33 rfl (lv_at hl 1 rfl) ?_
  refine kM_nextToken F G hl.1 (rr_ok (Nat.le_of_ble_eq_true rfl) (Nat.le_of_ble_eq_true rfl)) (Nat.le_of_ble_eq_true rfl) dX5_sum_34 h (fun I_12 H locs G h => ?_)
  refine lv_aload_n hx hb dX5_sum_37 rfl (lv_at hl 1 rfl) ?_
  refine lv_iload_n hx hb dX5_sum_38 rfl (lv_at hl 2 rfl) ?_
  refine kMR_4 hRR F G hl.1 (Nat.le_of_ble_eq_true rfl) dX5_sum_39 h (fun r_13 I_14 H locs G h => ?_)
  refine lv_if_ne (tgt := 47) hx hb dX5_sum_42 (by decide) (fun c_15 => ?_) (fun c_15 => ?_)
  · replace h := h.1 c_15
    refine lv_aload_n hx hb dX5_sum_47 rfl (lv_at hl 1 rfl) ?_
    refine lv_iconst (v := 2) hx hb dX5_sum_48 (by decide) ?_
    refine lv_iload_n hx hb dX5_sum_49 rfl (lv_at hl 0 rfl) ?_
    refine kM_step F G hl.1 (rr_ok (Nat.le_of_ble_eq_true rfl) (Nat.le_of_ble_eq_true rfl)) (Nat.le_of_ble_eq_true rfl) dX5_sum_50 h (fun I_17 H locs G h => ?_)
    refine lv_goto (tgt := 10) hx hb dX5_sum_53 (by decide) ?_
    exact hK10  I_17 _ _ _ G (lv_sub hl [1, 2] rfl) h
  · replace h := h.2 c_15
    refine lv_iconst (v := 0) hx hb dX5_sum_45 (by decide) ?_
    exact m_zret F G rfl dX5_sum_46 h
set_option maxHeartbeats 4000000 in
set_option maxRecDepth 100000 in
theorem wM_sum_L10 {p : Program} {l : Launch} {e : Env} {s : State} {m : MethodId} {args : Array Value} {below : List Frame} {meth : Method} {c : Code} {D : va_G} {cl : List vw_C} {a : Nat → Nat} {d : ClassId} {A : Nat → Prop} {Q : Int32 → St → Prop}  (F : FM p s m meth c args D cl d A cX5_sum 3 (some .boolean)) {RR : Nat → Int32 → St → (Int32 → St → Prop) → Prop} {dd : Nat} (hRR : RecOk l D cl a d RR dd) (v1 : Int32)  :
    ∀ (n : Nat)  (I : St) (H : Heap) (locs : List Loc) (ls : Array Slot), GM D cl a d A s.heap I H locs → lv_has ls 3 [(0, .ref (a 0)), (1, .int v1)] → M_sum_L10 Q RR v1 n I → wMi p l e (rmR (dd + 1)) s m args below meth c D cl a d A Q H locs (F0 m 10 ls []) := by
  obtain ⟨hx, hb, hr, hml, hown, hts, hlocks, hA, hK, hcl⟩ := id F
  intro n
  induction n with
  | zero => intro  I H locs ls G hl h; exact absurd h (fun q => q)
  | succ n ih =>
    intro  I H locs ls G hl h
    unfold M_sum_L10 at h
    refine lv_aload_n hx hb dX5_sum_10 rfl (lv_at hl 0 rfl) ?_
    refine lv_bipush (v := 43) hx hb dX5_sum_11 (by decide) ?_
    refine kM_isSign F G hl.1 (rr_ok (Nat.le_of_ble_eq_true rfl) (Nat.le_of_ble_eq_true rfl)) (Nat.le_of_ble_eq_true rfl) dX5_sum_13 h (fun r_4 I_5 H locs G h => ?_)
    refine lv_if_ne (tgt := 28) hx hb dX5_sum_16 (by decide) (fun c_6 => ?_) (fun c_6 => ?_)
    · replace h := h.1 c_6
      exact wM_sum_p28 F hRR v1 I_5 ih G (lv_sub hl [0, 1] rfl) h
    · replace h := h.2 c_6
      refine lv_aload_n hx hb dX5_sum_19 rfl (lv_at hl 0 rfl) ?_
      refine lv_bipush (v := 45) hx hb dX5_sum_20 (by decide) ?_
      refine kM_isSign F G hl.1 (rr_ok (Nat.le_of_ble_eq_true rfl) (Nat.le_of_ble_eq_true rfl)) (Nat.le_of_ble_eq_true rfl) dX5_sum_22 h (fun r_7 I_8 H locs G h => ?_)
      refine lv_if_eq (tgt := 56) hx hb dX5_sum_25 (by decide) (fun c_9 => ?_) (fun c_9 => ?_)
      · replace h := h.1 c_9
        refine lv_iconst (v := 1) hx hb dX5_sum_56 (by decide) ?_
        exact m_zret F G rfl dX5_sum_57 h
      · replace h := h.2 c_9
        exact wM_sum_p28 F hRR v1 I_8 ih G (lv_sub hl [0, 1] rfl) h
set_option maxHeartbeats 4000000 in
set_option maxRecDepth 100000 in
theorem wM_sum_b {l : Launch} {D : va_G} {cl : List vw_C} {a : Nat → Nat} {d : ClassId} (hcl : cl[5]? = some (RX5, TX5, 32)) {RR : Nat → Int32 → St → (Int32 → St → Prop) → Prop} {dd : Nat} (hRR : RecOk l D cl a d RR dd) (sz : Nat) (v1 : Int32) (I : St) (Q : Int32 → St → Prop) (h : M_sum_b RR v1 I Q) : MMi l D cl a d yX5_sum cX5_sum 3 .boolean (rmR (dd + 1)) [.ref (a 0), .int v1] sz I Q := by
  refine m_enter (Qc := fun A => va_Qi Q (BM D cl a d A) A) hcl (by decide) rfl (Nat.le_of_ble_eq_true rfl) ?_
  intro p e s m below meth c ls A F hG hl
  have G := hG
  have hl : lv_has ls 3 [(0, .ref (a 0)), (1, .int v1)] := hl
  obtain ⟨hx, hb, hr, hml, hown, hts, hlocks, hA, hK, hcl⟩ := id F
  unfold M_sum_b at h
  refine lv_aload_n hx hb dX5_sum_0 rfl (lv_at hl 0 rfl) ?_
  refine lv_iload_n hx hb dX5_sum_1 rfl (lv_at hl 1 rfl) ?_
  refine kMR_4 hRR F G hl.1 (Nat.le_of_ble_eq_true rfl) dX5_sum_2 h (fun r_1 I_2 H locs G h => ?_)
  refine lv_if_ne (tgt := 10) hx hb dX5_sum_5 (by decide) (fun c_3 => ?_) (fun c_3 => ?_)
  · replace h := h.1 c_3
    obtain ⟨k10, h⟩ := h
    exact wM_sum_L10 F hRR v1  k10  I_2 _ _ _ G (lv_sub hl [0, 1] rfl) h
  · replace h := h.2 c_3
    refine lv_iconst (v := 0) hx hb dX5_sum_8 (by decide) ?_
    exact m_zret F G rfl dX5_sum_9 h
/-! term -/
def M_term_p28 (Q : Int32 → St → Prop) (RR : Nat → Int32 → St → (Int32 → St → Prop) → Prop) (K10 : St → Prop) (v1 : Int32) (I : St) : Prop := ∀ x_10 : Int32, x_10 = (I 0 20) → M_nextToken  I (fun I_12 => RR 5 v1 I_12 (fun r_13 I_14 => (¬ r_13 = 0 → M_step 2 x_10 I_14 (fun I_17 => K10  I_17)) ∧ (r_13 = 0 → Q 0 I_14)))
def M_term_L10 (Q : Int32 → St → Prop) (RR : Nat → Int32 → St → (Int32 → St → Prop) → Prop)  (v1 : Int32) : Nat → St → Prop
  | 0, _ => False
  | n + 1, I => M_isSign 42 I (fun r_4 I_5 => (¬ r_4 = 0 → M_term_p28 Q RR (fun  I_ => M_term_L10 Q RR v1 n  I_) v1 I_5) ∧ (r_4 = 0 → M_isSign 47 I_5 (fun r_7 I_8 => (r_7 = 0 → Q 1 I_8) ∧ (¬ r_7 = 0 → M_term_p28 Q RR (fun  I_ => M_term_L10 Q RR v1 n  I_) v1 I_8))))
def M_term_b (RR : Nat → Int32 → St → (Int32 → St → Prop) → Prop) (v1 : Int32) (I : St) (Q : Int32 → St → Prop) : Prop := RR 5 v1 I (fun r_1 I_2 => (¬ r_1 = 0 → ∃ k10, M_term_L10 Q RR v1 k10  I_2) ∧ (r_1 = 0 → Q 0 I_2))
set_option maxHeartbeats 4000000 in
set_option maxRecDepth 100000 in
theorem wM_term_p28 {p : Program} {l : Launch} {e : Env} {s : State} {m : MethodId} {args : Array Value} {below : List Frame} {meth : Method} {c : Code} {D : va_G} {cl : List vw_C} {a : Nat → Nat} {d : ClassId} {A : Nat → Prop} {Q : Int32 → St → Prop} {K10 : St → Prop} (F : FM p s m meth c args D cl d A cX5_term 3 (some .boolean)) {RR : Nat → Int32 → St → (Int32 → St → Prop) → Prop} {dd : Nat} (hRR : RecOk l D cl a d RR dd) (v1 : Int32) (I : St) (hK10 : ∀  (I : St) (H : Heap) (locs : List Loc) (ls : Array Slot), GM D cl a d A s.heap I H locs → lv_has ls 3 [(0, .ref (a 0)), (1, .int v1)] → K10  I → wMi p l e (rmR (dd + 1)) s m args below meth c D cl a d A Q H locs (F0 m 10 ls [])) {H : Heap} {locs : List Loc} {ls : Array Slot} (G : GM D cl a d A s.heap I H locs) (hl : lv_has ls 3 [(0, .ref (a 0)), (1, .int v1)]) (h : M_term_p28 Q RR K10 v1 I) : wMi p l e (rmR (dd + 1)) s m args below meth c D cl a d A Q H locs (F0 m 28 ls []) := by
  obtain ⟨hx, hb, hr, hml, hown, hts, hlocks, hA, hK, hcl⟩ := id F
  unfold M_term_p28 at h
  refine lv_aload_n hx hb dX5_term_28 rfl (lv_at hl 0 rfl) ?_
  refine mg_letter F G dX5_term_29 ?_
  refine lv_topi (fun x_10 ex_10 => ?_)
  replace h := h x_10 ex_10
  refine lv_istore_n (lv' := [(2, .int x_10), (0, .ref (a 0)), (1, .int v1)]) hx hb dX5_term_32 rfl hl (by decide) rfl (fun ls hl => ?_)
  refine lv_aload_n hx hb dX5_term_33 rfl (lv_at hl 1 rfl) ?_
  refine kM_nextToken F G hl.1 (rr_ok (Nat.le_of_ble_eq_true rfl) (Nat.le_of_ble_eq_true rfl)) (Nat.le_of_ble_eq_true rfl) dX5_term_34 h (fun I_12 H locs G h => ?_)
  refine lv_aload_n hx hb dX5_term_37 rfl (lv_at hl 1 rfl) ?_
  refine lv_iload_n hx hb dX5_term_38 rfl (lv_at hl 2 rfl) ?_
  refine kMR_5 hRR F G hl.1 (Nat.le_of_ble_eq_true rfl) dX5_term_39 h (fun r_13 I_14 H locs G h => ?_)
  refine lv_if_ne (tgt := 47) hx hb dX5_term_42 (by decide) (fun c_15 => ?_) (fun c_15 => ?_)
  · replace h := h.1 c_15
    refine lv_aload_n hx hb dX5_term_47 rfl (lv_at hl 1 rfl) ?_
    refine lv_iconst (v := 2) hx hb dX5_term_48 (by decide) ?_
    refine lv_iload_n hx hb dX5_term_49 rfl (lv_at hl 0 rfl) ?_
    refine kM_step F G hl.1 (rr_ok (Nat.le_of_ble_eq_true rfl) (Nat.le_of_ble_eq_true rfl)) (Nat.le_of_ble_eq_true rfl) dX5_term_50 h (fun I_17 H locs G h => ?_)
    refine lv_goto (tgt := 10) hx hb dX5_term_53 (by decide) ?_
    exact hK10  I_17 _ _ _ G (lv_sub hl [1, 2] rfl) h
  · replace h := h.2 c_15
    refine lv_iconst (v := 0) hx hb dX5_term_45 (by decide) ?_
    exact m_zret F G rfl dX5_term_46 h
set_option maxHeartbeats 4000000 in
set_option maxRecDepth 100000 in
theorem wM_term_L10 {p : Program} {l : Launch} {e : Env} {s : State} {m : MethodId} {args : Array Value} {below : List Frame} {meth : Method} {c : Code} {D : va_G} {cl : List vw_C} {a : Nat → Nat} {d : ClassId} {A : Nat → Prop} {Q : Int32 → St → Prop}  (F : FM p s m meth c args D cl d A cX5_term 3 (some .boolean)) {RR : Nat → Int32 → St → (Int32 → St → Prop) → Prop} {dd : Nat} (hRR : RecOk l D cl a d RR dd) (v1 : Int32)  :
    ∀ (n : Nat)  (I : St) (H : Heap) (locs : List Loc) (ls : Array Slot), GM D cl a d A s.heap I H locs → lv_has ls 3 [(0, .ref (a 0)), (1, .int v1)] → M_term_L10 Q RR v1 n I → wMi p l e (rmR (dd + 1)) s m args below meth c D cl a d A Q H locs (F0 m 10 ls []) := by
  obtain ⟨hx, hb, hr, hml, hown, hts, hlocks, hA, hK, hcl⟩ := id F
  intro n
  induction n with
  | zero => intro  I H locs ls G hl h; exact absurd h (fun q => q)
  | succ n ih =>
    intro  I H locs ls G hl h
    unfold M_term_L10 at h
    refine lv_aload_n hx hb dX5_term_10 rfl (lv_at hl 0 rfl) ?_
    refine lv_bipush (v := 42) hx hb dX5_term_11 (by decide) ?_
    refine kM_isSign F G hl.1 (rr_ok (Nat.le_of_ble_eq_true rfl) (Nat.le_of_ble_eq_true rfl)) (Nat.le_of_ble_eq_true rfl) dX5_term_13 h (fun r_4 I_5 H locs G h => ?_)
    refine lv_if_ne (tgt := 28) hx hb dX5_term_16 (by decide) (fun c_6 => ?_) (fun c_6 => ?_)
    · replace h := h.1 c_6
      exact wM_term_p28 F hRR v1 I_5 ih G (lv_sub hl [0, 1] rfl) h
    · replace h := h.2 c_6
      refine lv_aload_n hx hb dX5_term_19 rfl (lv_at hl 0 rfl) ?_
      refine lv_bipush (v := 47) hx hb dX5_term_20 (by decide) ?_
      refine kM_isSign F G hl.1 (rr_ok (Nat.le_of_ble_eq_true rfl) (Nat.le_of_ble_eq_true rfl)) (Nat.le_of_ble_eq_true rfl) dX5_term_22 h (fun r_7 I_8 H locs G h => ?_)
      refine lv_if_eq (tgt := 56) hx hb dX5_term_25 (by decide) (fun c_9 => ?_) (fun c_9 => ?_)
      · replace h := h.1 c_9
        refine lv_iconst (v := 1) hx hb dX5_term_56 (by decide) ?_
        exact m_zret F G rfl dX5_term_57 h
      · replace h := h.2 c_9
        exact wM_term_p28 F hRR v1 I_8 ih G (lv_sub hl [0, 1] rfl) h
set_option maxHeartbeats 4000000 in
set_option maxRecDepth 100000 in
theorem wM_term_b {l : Launch} {D : va_G} {cl : List vw_C} {a : Nat → Nat} {d : ClassId} (hcl : cl[5]? = some (RX5, TX5, 32)) {RR : Nat → Int32 → St → (Int32 → St → Prop) → Prop} {dd : Nat} (hRR : RecOk l D cl a d RR dd) (sz : Nat) (v1 : Int32) (I : St) (Q : Int32 → St → Prop) (h : M_term_b RR v1 I Q) : MMi l D cl a d yX5_term cX5_term 3 .boolean (rmR (dd + 1)) [.ref (a 0), .int v1] sz I Q := by
  refine m_enter (Qc := fun A => va_Qi Q (BM D cl a d A) A) hcl (by decide) rfl (Nat.le_of_ble_eq_true rfl) ?_
  intro p e s m below meth c ls A F hG hl
  have G := hG
  have hl : lv_has ls 3 [(0, .ref (a 0)), (1, .int v1)] := hl
  obtain ⟨hx, hb, hr, hml, hown, hts, hlocks, hA, hK, hcl⟩ := id F
  unfold M_term_b at h
  refine lv_aload_n hx hb dX5_term_0 rfl (lv_at hl 0 rfl) ?_
  refine lv_iload_n hx hb dX5_term_1 rfl (lv_at hl 1 rfl) ?_
  refine kMR_5 hRR F G hl.1 (Nat.le_of_ble_eq_true rfl) dX5_term_2 h (fun r_1 I_2 H locs G h => ?_)
  refine lv_if_ne (tgt := 10) hx hb dX5_term_5 (by decide) (fun c_3 => ?_) (fun c_3 => ?_)
  · replace h := h.1 c_3
    obtain ⟨k10, h⟩ := h
    exact wM_term_L10 F hRR v1  k10  I_2 _ _ _ G (lv_sub hl [0, 1] rfl) h
  · replace h := h.2 c_3
    refine lv_iconst (v := 0) hx hb dX5_term_8 (by decide) ?_
    exact m_zret F G rfl dX5_term_9 h
/-! part0 -/
def M_part0_p145 (Q : Int32 → St → Prop) (RR : Nat → Int32 → St → (Int32 → St → Prop) → Prop)  (v1 : Int32) (I : St) : Prop := M_isSign 40 I (fun r_26 I_27 => (r_26 = 0 → Q 0 I_27) ∧ (¬ r_26 = 0 → (¬ (I_27 0 21) = 8 → M_nextToken  (sF I_27 21 ((I_27 0 21) + 1)) (fun I_31 => RR 0 v1 I_31 (fun r_32 I_33 => (r_32 = 0 → Q 0 I_33) ∧ (¬ r_32 = 0 → M_isSign 41 I_33 (fun r_35 I_36 => (¬ r_35 = 0 → M_nextToken  (sF I_36 21 ((I_36 0 21) - 1)) (fun I_39 => Q 1 I_39)) ∧ (r_35 = 0 → Q 0 I_36)))))) ∧ ((I_27 0 21) = 8 → Q 0 I_27)))
def M_part0_p84 (Q : Int32 → St → Prop) (RR : Nat → Int32 → St → (Int32 → St → Prop) → Prop)  (v1 : Int32) (I : St) : Prop := M_isSign 33 I (fun r_15 I_16 => (r_15 = 0 → M_part0_p145 Q RR v1 I_16) ∧ (¬ r_15 = 0 → (8 ≤ (I_16 0 22) → M_part0_p145 Q RR v1 I_16) ∧ (¬ 8 ≤ (I_16 0 22) → M_nextToken  (sF I_16 22 ((I_16 0 22) + 1)) (fun I_20 => RR 5 v1 I_20 (fun r_21 I_22 => (¬ r_21 = 0 → M_step 2 33 (sF I_22 22 ((I_22 0 22) - 1)) (fun I_25 => Q 1 I_25)) ∧ (r_21 = 0 → Q 0 I_22))))))
def M_part0_b (RR : Nat → Int32 → St → (Int32 → St → Prop) → Prop) (v1 : Int32) (I : St) (Q : Int32 → St → Prop) : Prop := (¬ (I 0 18) = 2 → (¬ (I 0 18) = 1 → M_part0_p84 Q RR v1 I) ∧ ((I 0 18) = 1 → ((I 0 20) = 0 → M_part0_p84 Q RR v1 I) ∧ (¬ (I 0 20) = 0 → M_isName v1 (I 0 20) I (fun r_4 I_5 => (r_4 = 0 → M_part0_p84 Q RR v1 I_5) ∧ (¬ r_4 = 0 → M_step 1 (I_5 0 20) I_5 (fun I_8 => M_nextToken  (sF I_8 25 ((I_8 0 25) + 1)) (fun I_10 => Q 1 I_10))))))) ∧ ((I 0 18) = 2 → M_step 0 (I 0 19) I (fun I_12 => M_nextToken  (sF I_12 25 ((I_12 0 25) + 1)) (fun I_14 => Q 1 I_14)))
set_option maxHeartbeats 4000000 in
set_option maxRecDepth 100000 in
theorem wM_part0_p145 {p : Program} {l : Launch} {e : Env} {s : State} {m : MethodId} {args : Array Value} {below : List Frame} {meth : Method} {c : Code} {D : va_G} {cl : List vw_C} {a : Nat → Nat} {d : ClassId} {A : Nat → Prop} {Q : Int32 → St → Prop}  (F : FM p s m meth c args D cl d A cX5_part0 2 (some .boolean)) {RR : Nat → Int32 → St → (Int32 → St → Prop) → Prop} {dd : Nat} (hRR : RecOk l D cl a d RR dd) (v1 : Int32) (I : St)  {H : Heap} {locs : List Loc} {ls : Array Slot} (G : GM D cl a d A s.heap I H locs) (hl : lv_has ls 2 [(0, .ref (a 0)), (1, .int v1)]) (h : M_part0_p145 Q RR v1 I) : wMi p l e (rmR (dd + 1)) s m args below meth c D cl a d A Q H locs (F0 m 145 ls []) := by
  obtain ⟨hx, hb, hr, hml, hown, hts, hlocks, hA, hK, hcl⟩ := id F
  unfold M_part0_p145 at h
  refine lv_aload_n hx hb dX5_part0_145 rfl (lv_at hl 0 rfl) ?_
  refine lv_bipush (v := 40) hx hb dX5_part0_146 (by decide) ?_
  refine kM_isSign F G hl.1 (rr_ok (Nat.le_of_ble_eq_true rfl) (Nat.le_of_ble_eq_true rfl)) (Nat.le_of_ble_eq_true rfl) dX5_part0_148 h (fun r_26 I_27 H locs G h => ?_)
  refine lv_if_eq (tgt := 163) hx hb dX5_part0_151 (by decide) (fun c_28 => ?_) (fun c_28 => ?_)
  · replace h := h.1 c_28
    refine lv_iconst (v := 0) hx hb dX5_part0_163 (by decide) ?_
    exact m_zret F G rfl dX5_part0_164 h
  · replace h := h.2 c_28
    refine lv_aload_n hx hb dX5_part0_154 rfl (lv_at hl 0 rfl) ?_
    refine mg_deep F G dX5_part0_155 ?_
    refine lv_bipush (v := 8) hx hb dX5_part0_158 (by decide) ?_
    refine lv_icmp_ne (tgt := 165) hx hb dX5_part0_160 (by decide) (fun c_29 => ?_) (fun c_29 => ?_)
    · replace h := h.1 c_29
      refine lv_aload_n hx hb dX5_part0_165 rfl (lv_at hl 0 rfl) ?_
      refine lv_dup hx hb dX5_part0_166 rfl ?_
      refine mg_deep F G dX5_part0_167 ?_
      refine lv_iconst (v := 1) hx hb dX5_part0_170 (by decide) ?_
      refine lv_iadd hx hb dX5_part0_171 ?_
      refine mp_deep F G dX5_part0_172 (fun H locs G => ?_)
      refine lv_aload_n hx hb dX5_part0_175 rfl (lv_at hl 0 rfl) ?_
      refine kM_nextToken F G hl.1 (rr_ok (Nat.le_of_ble_eq_true rfl) (Nat.le_of_ble_eq_true rfl)) (Nat.le_of_ble_eq_true rfl) dX5_part0_176 h (fun I_31 H locs G h => ?_)
      refine lv_aload_n hx hb dX5_part0_179 rfl (lv_at hl 0 rfl) ?_
      refine lv_iload_n hx hb dX5_part0_180 rfl (lv_at hl 1 rfl) ?_
      refine kMR_0 hRR F G hl.1 (Nat.le_of_ble_eq_true rfl) dX5_part0_181 h (fun r_32 I_33 H locs G h => ?_)
      refine lv_if_eq (tgt := 196) hx hb dX5_part0_184 (by decide) (fun c_34 => ?_) (fun c_34 => ?_)
      · replace h := h.1 c_34
        refine lv_iconst (v := 0) hx hb dX5_part0_196 (by decide) ?_
        exact m_zret F G rfl dX5_part0_197 h
      · replace h := h.2 c_34
        refine lv_aload_n hx hb dX5_part0_187 rfl (lv_at hl 0 rfl) ?_
        refine lv_bipush (v := 41) hx hb dX5_part0_188 (by decide) ?_
        refine kM_isSign F G hl.1 (rr_ok (Nat.le_of_ble_eq_true rfl) (Nat.le_of_ble_eq_true rfl)) (Nat.le_of_ble_eq_true rfl) dX5_part0_190 h (fun r_35 I_36 H locs G h => ?_)
        refine lv_if_ne (tgt := 198) hx hb dX5_part0_193 (by decide) (fun c_37 => ?_) (fun c_37 => ?_)
        · replace h := h.1 c_37
          refine lv_aload_n hx hb dX5_part0_198 rfl (lv_at hl 0 rfl) ?_
          refine lv_dup hx hb dX5_part0_199 rfl ?_
          refine mg_deep F G dX5_part0_200 ?_
          refine lv_iconst (v := 1) hx hb dX5_part0_203 (by decide) ?_
          refine lv_isub hx hb dX5_part0_204 ?_
          refine mp_deep F G dX5_part0_205 (fun H locs G => ?_)
          refine lv_aload_n hx hb dX5_part0_208 rfl (lv_at hl 0 rfl) ?_
          refine kM_nextToken F G hl.1 (rr_ok (Nat.le_of_ble_eq_true rfl) (Nat.le_of_ble_eq_true rfl)) (Nat.le_of_ble_eq_true rfl) dX5_part0_209 h (fun I_39 H locs G h => ?_)
          refine lv_iconst (v := 1) hx hb dX5_part0_212 (by decide) ?_
          exact m_zret F G rfl dX5_part0_213 h
        · replace h := h.2 c_37
          refine lv_iconst (v := 0) hx hb dX5_part0_196 (by decide) ?_
          exact m_zret F G rfl dX5_part0_197 h
    · replace h := h.2 c_29
      refine lv_iconst (v := 0) hx hb dX5_part0_163 (by decide) ?_
      exact m_zret F G rfl dX5_part0_164 h
set_option maxHeartbeats 4000000 in
set_option maxRecDepth 100000 in
theorem wM_part0_p84 {p : Program} {l : Launch} {e : Env} {s : State} {m : MethodId} {args : Array Value} {below : List Frame} {meth : Method} {c : Code} {D : va_G} {cl : List vw_C} {a : Nat → Nat} {d : ClassId} {A : Nat → Prop} {Q : Int32 → St → Prop}  (F : FM p s m meth c args D cl d A cX5_part0 2 (some .boolean)) {RR : Nat → Int32 → St → (Int32 → St → Prop) → Prop} {dd : Nat} (hRR : RecOk l D cl a d RR dd) (v1 : Int32) (I : St)  {H : Heap} {locs : List Loc} {ls : Array Slot} (G : GM D cl a d A s.heap I H locs) (hl : lv_has ls 2 [(0, .ref (a 0)), (1, .int v1)]) (h : M_part0_p84 Q RR v1 I) : wMi p l e (rmR (dd + 1)) s m args below meth c D cl a d A Q H locs (F0 m 84 ls []) := by
  obtain ⟨hx, hb, hr, hml, hown, hts, hlocks, hA, hK, hcl⟩ := id F
  unfold M_part0_p84 at h
  refine lv_aload_n hx hb dX5_part0_84 rfl (lv_at hl 0 rfl) ?_
  refine lv_bipush (v := 33) hx hb dX5_part0_85 (by decide) ?_
  refine kM_isSign F G hl.1 (rr_ok (Nat.le_of_ble_eq_true rfl) (Nat.le_of_ble_eq_true rfl)) (Nat.le_of_ble_eq_true rfl) dX5_part0_87 h (fun r_15 I_16 H locs G h => ?_)
  refine lv_if_eq (tgt := 145) hx hb dX5_part0_90 (by decide) (fun c_17 => ?_) (fun c_17 => ?_)
  · replace h := h.1 c_17
    exact wM_part0_p145 F hRR v1 I_16  G (lv_sub hl [0, 1] rfl) h
  · replace h := h.2 c_17
    refine lv_aload_n hx hb dX5_part0_93 rfl (lv_at hl 0 rfl) ?_
    refine mg_turned F G dX5_part0_94 ?_
    refine lv_bipush (v := 8) hx hb dX5_part0_97 (by decide) ?_
    refine lv_icmp_ge (tgt := 145) hx hb dX5_part0_99 (by decide) (fun c_18 => ?_) (fun c_18 => ?_)
    · replace h := h.1 c_18
      exact wM_part0_p145 F hRR v1 I_16  G (lv_sub hl [0, 1] rfl) h
    · replace h := h.2 c_18
      refine lv_aload_n hx hb dX5_part0_102 rfl (lv_at hl 0 rfl) ?_
      refine lv_dup hx hb dX5_part0_103 rfl ?_
      refine mg_turned F G dX5_part0_104 ?_
      refine lv_iconst (v := 1) hx hb dX5_part0_107 (by decide) ?_
      refine lv_iadd hx hb dX5_part0_108 ?_
      refine mp_turned F G dX5_part0_109 (fun H locs G => ?_)
      refine lv_aload_n hx hb dX5_part0_112 rfl (lv_at hl 0 rfl) ?_
      refine kM_nextToken F G hl.1 (rr_ok (Nat.le_of_ble_eq_true rfl) (Nat.le_of_ble_eq_true rfl)) (Nat.le_of_ble_eq_true rfl) dX5_part0_113 h (fun I_20 H locs G h => ?_)
      refine lv_aload_n hx hb dX5_part0_116 rfl (lv_at hl 0 rfl) ?_
      refine lv_iload_n hx hb dX5_part0_117 rfl (lv_at hl 1 rfl) ?_
      refine kMR_5 hRR F G hl.1 (Nat.le_of_ble_eq_true rfl) dX5_part0_118 h (fun r_21 I_22 H locs G h => ?_)
      refine lv_if_ne (tgt := 126) hx hb dX5_part0_121 (by decide) (fun c_23 => ?_) (fun c_23 => ?_)
      · replace h := h.1 c_23
        refine lv_aload_n hx hb dX5_part0_126 rfl (lv_at hl 0 rfl) ?_
        refine lv_dup hx hb dX5_part0_127 rfl ?_
        refine mg_turned F G dX5_part0_128 ?_
        refine lv_iconst (v := 1) hx hb dX5_part0_131 (by decide) ?_
        refine lv_isub hx hb dX5_part0_132 ?_
        refine mp_turned F G dX5_part0_133 (fun H locs G => ?_)
        refine lv_aload_n hx hb dX5_part0_136 rfl (lv_at hl 0 rfl) ?_
        refine lv_iconst (v := 2) hx hb dX5_part0_137 (by decide) ?_
        refine lv_bipush (v := 33) hx hb dX5_part0_138 (by decide) ?_
        refine kM_step F G hl.1 (rr_ok (Nat.le_of_ble_eq_true rfl) (Nat.le_of_ble_eq_true rfl)) (Nat.le_of_ble_eq_true rfl) dX5_part0_140 h (fun I_25 H locs G h => ?_)
        refine lv_iconst (v := 1) hx hb dX5_part0_143 (by decide) ?_
        exact m_zret F G rfl dX5_part0_144 h
      · replace h := h.2 c_23
        refine lv_iconst (v := 0) hx hb dX5_part0_124 (by decide) ?_
        exact m_zret F G rfl dX5_part0_125 h
set_option maxHeartbeats 4000000 in
set_option maxRecDepth 100000 in
theorem wM_part0_b {l : Launch} {D : va_G} {cl : List vw_C} {a : Nat → Nat} {d : ClassId} (hcl : cl[5]? = some (RX5, TX5, 32)) {RR : Nat → Int32 → St → (Int32 → St → Prop) → Prop} {dd : Nat} (hRR : RecOk l D cl a d RR dd) (sz : Nat) (v1 : Int32) (I : St) (Q : Int32 → St → Prop) (h : M_part0_b RR v1 I Q) : MMi l D cl a d yX5_part0 cX5_part0 2 .boolean (rmR (dd + 1)) [.ref (a 0), .int v1] sz I Q := by
  refine m_enter (Qc := fun A => va_Qi Q (BM D cl a d A) A) hcl (by decide) rfl (Nat.le_of_ble_eq_true rfl) ?_
  intro p e s m below meth c ls A F hG hl
  have G := hG
  have hl : lv_has ls 2 [(0, .ref (a 0)), (1, .int v1)] := hl
  obtain ⟨hx, hb, hr, hml, hown, hts, hlocks, hA, hK, hcl⟩ := id F
  unfold M_part0_b at h
  refine lv_aload_n hx hb dX5_part0_0 rfl (lv_at hl 0 rfl) ?_
  refine mg_token F G dX5_part0_1 ?_
  refine lv_iconst (v := 2) hx hb dX5_part0_4 (by decide) ?_
  refine lv_icmp_ne (tgt := 33) hx hb dX5_part0_5 (by decide) (fun c_1 => ?_) (fun c_1 => ?_)
  · replace h := h.1 c_1
    refine lv_aload_n hx hb dX5_part0_33 rfl (lv_at hl 0 rfl) ?_
    refine mg_token F G dX5_part0_34 ?_
    refine lv_iconst (v := 1) hx hb dX5_part0_37 (by decide) ?_
    refine lv_icmp_ne (tgt := 84) hx hb dX5_part0_38 (by decide) (fun c_2 => ?_) (fun c_2 => ?_)
    · replace h := h.1 c_2
      exact wM_part0_p84 F hRR v1 I  G (lv_sub hl [0, 1] rfl) h
    · replace h := h.2 c_2
      refine lv_aload_n hx hb dX5_part0_41 rfl (lv_at hl 0 rfl) ?_
      refine mg_letter F G dX5_part0_42 ?_
      refine lv_if_eq (tgt := 84) hx hb dX5_part0_45 (by decide) (fun c_3 => ?_) (fun c_3 => ?_)
      · replace h := h.1 c_3
        exact wM_part0_p84 F hRR v1 I  G (lv_sub hl [0, 1] rfl) h
      · replace h := h.2 c_3
        refine lv_iload_n hx hb dX5_part0_48 rfl (lv_at hl 1 rfl) ?_
        refine lv_aload_n hx hb dX5_part0_49 rfl (lv_at hl 0 rfl) ?_
        refine mg_letter F G dX5_part0_50 ?_
        refine kM_isName F G hl.1 (rr_ok (Nat.le_of_ble_eq_true rfl) (Nat.le_of_ble_eq_true rfl)) (Nat.le_of_ble_eq_true rfl) dX5_part0_53 h (fun r_4 I_5 H locs G h => ?_)
        refine lv_if_eq (tgt := 84) hx hb dX5_part0_56 (by decide) (fun c_6 => ?_) (fun c_6 => ?_)
        · replace h := h.1 c_6
          exact wM_part0_p84 F hRR v1 I_5  G (lv_sub hl [0, 1] rfl) h
        · replace h := h.2 c_6
          refine lv_aload_n hx hb dX5_part0_59 rfl (lv_at hl 0 rfl) ?_
          refine lv_iconst (v := 1) hx hb dX5_part0_60 (by decide) ?_
          refine lv_aload_n hx hb dX5_part0_61 rfl (lv_at hl 0 rfl) ?_
          refine mg_letter F G dX5_part0_62 ?_
          refine kM_step F G hl.1 (rr_ok (Nat.le_of_ble_eq_true rfl) (Nat.le_of_ble_eq_true rfl)) (Nat.le_of_ble_eq_true rfl) dX5_part0_65 h (fun I_8 H locs G h => ?_)
          refine lv_aload_n hx hb dX5_part0_68 rfl (lv_at hl 0 rfl) ?_
          refine lv_dup hx hb dX5_part0_69 rfl ?_
          refine mg_said F G dX5_part0_70 ?_
          refine lv_iconst (v := 1) hx hb dX5_part0_73 (by decide) ?_
          refine lv_iadd hx hb dX5_part0_74 ?_
          refine mp_said F G dX5_part0_75 (fun H locs G => ?_)
          refine lv_aload_n hx hb dX5_part0_78 rfl (lv_at hl 0 rfl) ?_
          refine kM_nextToken F G hl.1 (rr_ok (Nat.le_of_ble_eq_true rfl) (Nat.le_of_ble_eq_true rfl)) (Nat.le_of_ble_eq_true rfl) dX5_part0_79 h (fun I_10 H locs G h => ?_)
          refine lv_iconst (v := 1) hx hb dX5_part0_82 (by decide) ?_
          exact m_zret F G rfl dX5_part0_83 h
  · replace h := h.2 c_1
    refine lv_aload_n hx hb dX5_part0_8 rfl (lv_at hl 0 rfl) ?_
    refine lv_iconst (v := 0) hx hb dX5_part0_9 (by decide) ?_
    refine lv_aload_n hx hb dX5_part0_10 rfl (lv_at hl 0 rfl) ?_
    refine mg_number F G dX5_part0_11 ?_
    refine kM_step F G hl.1 (rr_ok (Nat.le_of_ble_eq_true rfl) (Nat.le_of_ble_eq_true rfl)) (Nat.le_of_ble_eq_true rfl) dX5_part0_14 h (fun I_12 H locs G h => ?_)
    refine lv_aload_n hx hb dX5_part0_17 rfl (lv_at hl 0 rfl) ?_
    refine lv_dup hx hb dX5_part0_18 rfl ?_
    refine mg_said F G dX5_part0_19 ?_
    refine lv_iconst (v := 1) hx hb dX5_part0_22 (by decide) ?_
    refine lv_iadd hx hb dX5_part0_23 ?_
    refine mp_said F G dX5_part0_24 (fun H locs G => ?_)
    refine lv_aload_n hx hb dX5_part0_27 rfl (lv_at hl 0 rfl) ?_
    refine kM_nextToken F G hl.1 (rr_ok (Nat.le_of_ble_eq_true rfl) (Nat.le_of_ble_eq_true rfl)) (Nat.le_of_ble_eq_true rfl) dX5_part0_28 h (fun I_14 H locs G h => ?_)
    refine lv_iconst (v := 1) hx hb dX5_part0_31 (by decide) ?_
    exact m_zret F G rfl dX5_part0_32 h
def M_rec : Nat → Nat → Int32 → St → (Int32 → St → Prop) → Prop
  | 0, _, _, _, _ => False
  | dd + 1, 0, v, I, Q => M_either_b (M_rec dd) v I Q
  | dd + 1, 1, v, I, Q => M_both_b (M_rec dd) v I Q
  | dd + 1, 2, v, I, Q => M_test_b (M_rec dd) v I Q
  | dd + 1, 3, v, I, Q => M_sum_b (M_rec dd) v I Q
  | dd + 1, 4, v, I, Q => M_term_b (M_rec dd) v I Q
  | dd + 1, _, v, I, Q => M_part0_b (M_rec dd) v I Q
theorem wM_rec {l : Launch} {D : va_G} {cl : List vw_C} {a : Nat → Nat} {d : ClassId} (hcl : cl[5]? = some (RX5, TX5, 32)) : ∀ dd : Nat, RecOk l D cl a d (M_rec dd) dd := by
  intro dd
  induction dd with
  | zero => exact ⟨fun _ _ _ _ h => absurd h (fun q => q), fun _ _ _ _ h => absurd h (fun q => q), fun _ _ _ _ h => absurd h (fun q => q), fun _ _ _ _ h => absurd h (fun q => q), fun _ _ _ _ h => absurd h (fun q => q), fun _ _ _ _ h => absurd h (fun q => q)⟩
  | succ dd ih => exact ⟨fun v I Q sz h => wM_either_b hcl ih sz v I Q h, fun v I Q sz h => wM_both_b hcl ih sz v I Q h, fun v I Q sz h => wM_test_b hcl ih sz v I Q h, fun v I Q sz h => wM_sum_b hcl ih sz v I Q h, fun v I Q sz h => wM_term_b hcl ih sz v I Q h, fun v I Q sz h => wM_part0_b hcl ih sz v I Q h⟩
def M_either (v1 : Int32) (I : St) (Q : Int32 → St → Prop) : Prop := M_rec 80 0 v1 I Q
abbrev rmX5_either : Room := rmR 80
theorem wM_either {l : Launch} {D : va_G} {cl : List vw_C} {a : Nat → Nat} {d : ClassId} (hcl : cl[5]? = some (RX5, TX5, 32)) (sz : Nat) (v1 : Int32) (I : St) (Q : Int32 → St → Prop) (h : M_either v1 I Q) : MMi l D cl a d yX5_either cX5_either 2 .boolean rmX5_either [.ref (a 0), .int v1] sz I Q := (wM_rec hcl 80).1 v1 I Q sz h
set_option maxHeartbeats 4000000 in
set_option maxRecDepth 100000 in
theorem kM_either {p : Program} {l : Launch} {e : Env} {s : State} {m : MethodId} {R : Room} {args : Array Value} {below : List Frame} {meth : Method} {c : Code} {D : va_G} {cl : List vw_C} {a : Nat → Nat} {d : ClassId} {A : Nat → Prop} {Q : State → Prop} {cc : ByteArray} {nL pc : Nat} {ret : Option FieldType} {ls : Array Slot} {rest : List Value} {v1 : Int32} {I : St} {H : Heap} {locs : List Loc} {Q1 : Int32 → St → Prop} (F : FM p s m meth c args D cl d A cc nL ret) (G : GM D cl a d A s.heap I H locs) (hsz : ls.size = nL) (hR : rmX5_either.frames + 1 ≤ R.frames ∧ 8 + (2 + 11) + rmX5_either.locals ≤ R.locals) (hW : (rest.map fun v => v.category).sum ≤ 8) (hd : decode cc pc = .ok (.invokevirtual 274, 3)) (h : M_either v1 I Q1) (k : ∀ (r : Int32) (I1 : St) (H : Heap) (locs : List Loc), GM D cl a d A s.heap I1 H locs → Q1 r I1 → W p l e R s m args below meth c H locs 0 0 Q (F0 m (pc + 3) ls (.int r :: rest))) : W p l e R s m args below meth c H locs 0 0 Q (F0 m pc ls (.int v1 :: .ref (a 0) :: rest)) := by
  obtain ⟨hx, hb, hr, hml, hown, hts, hlocks, hA, hK, hcl⟩ := id F
  exact m_callVi (As := [.int v1]) F G hsz (wM_either hcl H.size v1 I Q1 h) (cwV 1 hts (lw_V q1567 q1569 qs71 q90 q1570) rfl rfl rfl (by decide +kernel) hR) rfl rfl hW hd k
/-! parse -/
def M_parse_p111 (Q : Int32 → St → Prop)  (v1 : Int32) (v2 : Int32) (I : St) : Prop := (v2 = 0 → Q (-1) (sF I 15 0)) ∧ (¬ v2 = 0 → Q v1 (sF I 15 0))
def M_parse_p110 (Q : Int32 → St → Prop)  (v1 : Int32) (t0 : Int32) (I : St) : Prop := M_parse_p111 Q v1 t0 I
def M_parse_p109 (Q : Int32 → St → Prop)  (v1 : Int32) (I : St) : Prop := M_parse_p110 Q v1 0 I
def M_parse_p81 (Q : Int32 → St → Prop)  (v1 : Int32) (t0 : Int32) (I : St) : Prop := (t0 = 0 → M_parse_p111 Q v1 t0 I) ∧ (¬ t0 = 0 → M_nextToken  I (fun I_11 => M_either v1 I_11 (fun r_12 I_13 => (r_12 = 0 → M_parse_p109 Q v1 I_13) ∧ (¬ r_12 = 0 → (¬ (I_13 0 18) = 0 → M_parse_p109 Q v1 I_13) ∧ ((I_13 0 18) = 0 → M_parse_p110 Q v1 1 I_13)))))
def M_parse_p60 (Q : Int32 → St → Prop)  (t0 : Int32) (I : St) : Prop := M_nextToken  (sF I 24 t0) (fun I_5 => M_key  I_5 (fun r_6 I_7 => (r_6 < 0 → M_parse_p81 Q r_6 0 I_7) ∧ (¬ r_6 < 0 → M_parse_p81 Q r_6 1 I_7)))
def M_parse  (I : St) (Q : Int32 → St → Prop) : Prop := (14 ≤ ((sF (sF (sF (sF (sF (sF I 17 0) 18 3) 21 0) 22 0) 23 0) 25 0) 1 1) → M_parse_p60 Q 2840 (sF (sF (sF (sF (sF (sF I 17 0) 18 3) 21 0) 22 0) 23 0) 25 0)) ∧ (¬ 14 ≤ ((sF (sF (sF (sF (sF (sF I 17 0) 18 3) 21 0) 22 0) 23 0) 25 0) 1 1) → M_textAt ((sF (sF (sF (sF (sF (sF I 17 0) 18 3) 21 0) 22 0) 23 0) 25 0) 1 1) (sF (sF (sF (sF (sF (sF I 17 0) 18 3) 21 0) 22 0) 23 0) 25 0) (fun r_2 I_3 => M_parse_p60 Q (r_2 + 4) I_3))
abbrev rmX5_parse : Room := { frames := 84, cells := 0, slots := 0, locals := 1849 }
set_option maxHeartbeats 4000000 in
set_option maxRecDepth 100000 in
theorem wM_parse_p111 {p : Program} {l : Launch} {e : Env} {s : State} {m : MethodId} {args : Array Value} {below : List Frame} {meth : Method} {c : Code} {D : va_G} {cl : List vw_C} {a : Nat → Nat} {d : ClassId} {A : Nat → Prop} {Q : Int32 → St → Prop}  (F : FM p s m meth c args D cl d A cX5_parse 3 (some .int)) (v1 : Int32) (v2 : Int32) (I : St)  {H : Heap} {locs : List Loc} {ls : Array Slot} (G : GM D cl a d A s.heap I H locs) (hl : lv_has ls 3 [(0, .ref (a 0)), (1, .int v1), (2, .int v2)]) (h : M_parse_p111 Q v1 v2 I) : wMi p l e rmX5_parse s m args below meth c D cl a d A Q H locs (F0 m 111 ls []) := by
  obtain ⟨hx, hb, hr, hml, hown, hts, hlocks, hA, hK, hcl⟩ := id F
  unfold M_parse_p111 at h
  refine lv_aload_n hx hb dX5_parse_111 rfl (lv_at hl 0 rfl) ?_
  refine lv_iconst (v := 0) hx hb dX5_parse_112 (by decide) ?_
  refine mp_taped F G dX5_parse_113 (fun H locs G => ?_)
  refine lv_iload_n hx hb dX5_parse_116 rfl (lv_at hl 2 rfl) ?_
  refine lv_if_eq (tgt := 124) hx hb dX5_parse_117 (by decide) (fun c_16 => ?_) (fun c_16 => ?_)
  · replace h := h.1 c_16
    refine lv_iconst (v := (-1)) hx hb dX5_parse_124 (by decide) ?_
    exact m_iret F G dX5_parse_125 h
  · replace h := h.2 c_16
    refine lv_iload_n hx hb dX5_parse_120 rfl (lv_at hl 1 rfl) ?_
    refine lv_goto (tgt := 125) hx hb dX5_parse_121 (by decide) ?_
    exact m_iret F G dX5_parse_125 h
set_option maxHeartbeats 4000000 in
set_option maxRecDepth 100000 in
theorem wM_parse_p110 {p : Program} {l : Launch} {e : Env} {s : State} {m : MethodId} {args : Array Value} {below : List Frame} {meth : Method} {c : Code} {D : va_G} {cl : List vw_C} {a : Nat → Nat} {d : ClassId} {A : Nat → Prop} {Q : Int32 → St → Prop}  (F : FM p s m meth c args D cl d A cX5_parse 3 (some .int)) (v1 : Int32) (t0 : Int32) (I : St)  {H : Heap} {locs : List Loc} {ls : Array Slot} (G : GM D cl a d A s.heap I H locs) (hl : lv_has ls 3 [(0, .ref (a 0)), (1, .int v1)]) (h : M_parse_p110 Q v1 t0 I) : wMi p l e rmX5_parse s m args below meth c D cl a d A Q H locs (F0 m 110 ls [.int t0]) := by
  obtain ⟨hx, hb, hr, hml, hown, hts, hlocks, hA, hK, hcl⟩ := id F
  unfold M_parse_p110 at h
  refine lv_istore_n (lv' := [(2, .int t0), (0, .ref (a 0)), (1, .int v1)]) hx hb dX5_parse_110 rfl hl (by decide) rfl (fun ls hl => ?_)
  exact wM_parse_p111 F v1 t0 I  G (lv_sub hl [1, 2, 0] rfl) h
set_option maxHeartbeats 4000000 in
set_option maxRecDepth 100000 in
theorem wM_parse_p109 {p : Program} {l : Launch} {e : Env} {s : State} {m : MethodId} {args : Array Value} {below : List Frame} {meth : Method} {c : Code} {D : va_G} {cl : List vw_C} {a : Nat → Nat} {d : ClassId} {A : Nat → Prop} {Q : Int32 → St → Prop}  (F : FM p s m meth c args D cl d A cX5_parse 3 (some .int)) (v1 : Int32) (I : St)  {H : Heap} {locs : List Loc} {ls : Array Slot} (G : GM D cl a d A s.heap I H locs) (hl : lv_has ls 3 [(0, .ref (a 0)), (1, .int v1)]) (h : M_parse_p109 Q v1 I) : wMi p l e rmX5_parse s m args below meth c D cl a d A Q H locs (F0 m 109 ls []) := by
  obtain ⟨hx, hb, hr, hml, hown, hts, hlocks, hA, hK, hcl⟩ := id F
  unfold M_parse_p109 at h
  refine lv_iconst (v := 0) hx hb dX5_parse_109 (by decide) ?_
  exact wM_parse_p110 F v1 0 I  G (lv_sub hl [0, 1] rfl) h
set_option maxHeartbeats 4000000 in
set_option maxRecDepth 100000 in
theorem wM_parse_p81 {p : Program} {l : Launch} {e : Env} {s : State} {m : MethodId} {args : Array Value} {below : List Frame} {meth : Method} {c : Code} {D : va_G} {cl : List vw_C} {a : Nat → Nat} {d : ClassId} {A : Nat → Prop} {Q : Int32 → St → Prop}  (F : FM p s m meth c args D cl d A cX5_parse 3 (some .int)) (v1 : Int32) (t0 : Int32) (I : St)  {H : Heap} {locs : List Loc} {ls : Array Slot} (G : GM D cl a d A s.heap I H locs) (hl : lv_has ls 3 [(0, .ref (a 0)), (1, .int v1)]) (h : M_parse_p81 Q v1 t0 I) : wMi p l e rmX5_parse s m args below meth c D cl a d A Q H locs (F0 m 81 ls [.int t0]) := by
  obtain ⟨hx, hb, hr, hml, hown, hts, hlocks, hA, hK, hcl⟩ := id F
  unfold M_parse_p81 at h
  refine lv_istore_n (lv' := [(2, .int t0), (0, .ref (a 0)), (1, .int v1)]) hx hb dX5_parse_81 rfl hl (by decide) rfl (fun ls hl => ?_)
  refine lv_iload_n hx hb dX5_parse_82 rfl (lv_at hl 0 rfl) ?_
  refine lv_if_eq (tgt := 111) hx hb dX5_parse_83 (by decide) (fun c_9 => ?_) (fun c_9 => ?_)
  · replace h := h.1 c_9
    exact wM_parse_p111 F v1 t0 I  G (lv_sub hl [1, 2, 0] rfl) h
  · replace h := h.2 c_9
    refine lv_aload_n hx hb dX5_parse_86 rfl (lv_at hl 1 rfl) ?_
    refine kM_nextToken F G hl.1 ⟨Nat.le_of_ble_eq_true rfl, Nat.le_of_ble_eq_true rfl⟩ (Nat.le_of_ble_eq_true rfl) dX5_parse_87 h (fun I_11 H locs G h => ?_)
    refine lv_aload_n hx hb dX5_parse_90 rfl (lv_at hl 1 rfl) ?_
    refine lv_iload_n hx hb dX5_parse_91 rfl (lv_at hl 2 rfl) ?_
    refine kM_either F G hl.1 ⟨Nat.le_of_ble_eq_true rfl, Nat.le_of_ble_eq_true rfl⟩ (Nat.le_of_ble_eq_true rfl) dX5_parse_92 h (fun r_12 I_13 H locs G h => ?_)
    refine lv_if_eq (tgt := 109) hx hb dX5_parse_95 (by decide) (fun c_14 => ?_) (fun c_14 => ?_)
    · replace h := h.1 c_14
      exact wM_parse_p109 F v1 I_13  G (lv_sub hl [1, 2] rfl) h
    · replace h := h.2 c_14
      refine lv_aload_n hx hb dX5_parse_98 rfl (lv_at hl 1 rfl) ?_
      refine mg_token F G dX5_parse_99 ?_
      refine lv_if_ne (tgt := 109) hx hb dX5_parse_102 (by decide) (fun c_15 => ?_) (fun c_15 => ?_)
      · replace h := h.1 c_15
        exact wM_parse_p109 F v1 I_13  G (lv_sub hl [1, 2] rfl) h
      · replace h := h.2 c_15
        refine lv_iconst (v := 1) hx hb dX5_parse_105 (by decide) ?_
        refine lv_goto (tgt := 110) hx hb dX5_parse_106 (by decide) ?_
        exact wM_parse_p110 F v1 1 I_13  G (lv_sub hl [1, 2] rfl) h
set_option maxHeartbeats 4000000 in
set_option maxRecDepth 100000 in
theorem wM_parse_p60 {p : Program} {l : Launch} {e : Env} {s : State} {m : MethodId} {args : Array Value} {below : List Frame} {meth : Method} {c : Code} {D : va_G} {cl : List vw_C} {a : Nat → Nat} {d : ClassId} {A : Nat → Prop} {Q : Int32 → St → Prop}  (F : FM p s m meth c args D cl d A cX5_parse 3 (some .int)) (t0 : Int32) (I : St)  {H : Heap} {locs : List Loc} {ls : Array Slot} (G : GM D cl a d A s.heap I H locs) (hl : lv_has ls 3 [(0, .ref (a 0))]) (h : M_parse_p60 Q t0 I) : wMi p l e rmX5_parse s m args below meth c D cl a d A Q H locs (F0 m 60 ls [.int t0, .ref (a 0)]) := by
  obtain ⟨hx, hb, hr, hml, hown, hts, hlocks, hA, hK, hcl⟩ := id F
  unfold M_parse_p60 at h
  refine mp_laidAt F G dX5_parse_60 (fun H locs G => ?_)
  refine lv_aload_n hx hb dX5_parse_63 rfl (lv_at hl 0 rfl) ?_
  refine kM_nextToken F G hl.1 ⟨Nat.le_of_ble_eq_true rfl, Nat.le_of_ble_eq_true rfl⟩ (Nat.le_of_ble_eq_true rfl) dX5_parse_64 h (fun I_5 H locs G h => ?_)
  refine lv_aload_n hx hb dX5_parse_67 rfl (lv_at hl 0 rfl) ?_
  refine kM_key F G hl.1 ⟨Nat.le_of_ble_eq_true rfl, Nat.le_of_ble_eq_true rfl⟩ (Nat.le_of_ble_eq_true rfl) dX5_parse_68 h (fun r_6 I_7 H locs G h => ?_)
  refine lv_istore_n (lv' := [(1, .int r_6), (0, .ref (a 0))]) hx hb dX5_parse_71 rfl hl (by decide) rfl (fun ls hl => ?_)
  refine lv_iload_n hx hb dX5_parse_72 rfl (lv_at hl 0 rfl) ?_
  refine lv_if_lt (tgt := 80) hx hb dX5_parse_73 (by decide) (fun c_8 => ?_) (fun c_8 => ?_)
  · replace h := h.1 c_8
    refine lv_iconst (v := 0) hx hb dX5_parse_80 (by decide) ?_
    exact wM_parse_p81 F r_6 0 I_7  G (lv_sub hl [1, 0] rfl) h
  · replace h := h.2 c_8
    refine lv_iconst (v := 1) hx hb dX5_parse_76 (by decide) ?_
    refine lv_goto (tgt := 81) hx hb dX5_parse_77 (by decide) ?_
    exact wM_parse_p81 F r_6 1 I_7  G (lv_sub hl [1, 0] rfl) h
set_option maxHeartbeats 4000000 in
set_option maxRecDepth 100000 in
theorem wM_parse {l : Launch} {D : va_G} {cl : List vw_C} {a : Nat → Nat} {d : ClassId} (hcl : cl[5]? = some (RX5, TX5, 32)) (sz : Nat)  (I : St) (Q : Int32 → St → Prop) (h : M_parse  I Q) : MMi l D cl a d yX5_parse cX5_parse 3 .int rmX5_parse [.ref (a 0)] sz I Q := by
  refine m_enter (Qc := fun A => va_Qi Q (BM D cl a d A) A) hcl (by decide) rfl (Nat.le_of_ble_eq_true rfl) ?_
  intro p e s m below meth c ls A F hG hl
  have G := hG
  have hl : lv_has ls 3 [(0, .ref (a 0))] := hl
  obtain ⟨hx, hb, hr, hml, hown, hts, hlocks, hA, hK, hcl⟩ := id F
  unfold M_parse at h
  refine lv_aload_n hx hb dX5_parse_0 rfl (lv_at hl 0 rfl) ?_
  refine lv_iconst (v := 0) hx hb dX5_parse_1 (by decide) ?_
  refine mp_behind F G dX5_parse_2 (fun H locs G => ?_)
  refine lv_aload_n hx hb dX5_parse_5 rfl (lv_at hl 0 rfl) ?_
  refine lv_iconst (v := 3) hx hb dX5_parse_6 (by decide) ?_
  refine mp_token F G dX5_parse_7 (fun H locs G => ?_)
  refine lv_aload_n hx hb dX5_parse_10 rfl (lv_at hl 0 rfl) ?_
  refine lv_iconst (v := 0) hx hb dX5_parse_11 (by decide) ?_
  refine mp_deep F G dX5_parse_12 (fun H locs G => ?_)
  refine lv_aload_n hx hb dX5_parse_15 rfl (lv_at hl 0 rfl) ?_
  refine lv_iconst (v := 0) hx hb dX5_parse_16 (by decide) ?_
  refine mp_turned F G dX5_parse_17 (fun H locs G => ?_)
  refine lv_aload_n hx hb dX5_parse_20 rfl (lv_at hl 0 rfl) ?_
  refine lv_iconst (v := 0) hx hb dX5_parse_21 (by decide) ?_
  refine mp_laid F G dX5_parse_22 (fun H locs G => ?_)
  refine lv_aload_n hx hb dX5_parse_25 rfl (lv_at hl 0 rfl) ?_
  refine lv_iconst (v := 0) hx hb dX5_parse_26 (by decide) ?_
  refine mp_said F G dX5_parse_27 (fun H locs G => ?_)
  refine lv_aload_n hx hb dX5_parse_30 rfl (lv_at hl 0 rfl) ?_
  refine lv_aload_n hx hb dX5_parse_31 rfl (lv_at hl 0 rfl) ?_
  refine mg_s F G dX5_parse_32 ?_
  refine lv_iconst (v := 1) hx hb dX5_parse_35 (by decide) ?_
  refine m_ld F G mA_1 (by unfold vp_in; decide) dX5_parse_36 ?_
  refine lv_bipush (v := 14) hx hb dX5_parse_37 (by decide) ?_
  refine lv_icmp_ge (tgt := 57) hx hb dX5_parse_39 (by decide) (fun c_1 => ?_) (fun c_1 => ?_)
  · replace h := h.1 c_1
    refine lv_sipush (v := 2840) hx hb dX5_parse_57 (by decide) ?_
    exact wM_parse_p60 F 2840 (sF (sF (sF (sF (sF (sF I 17 0) 18 3) 21 0) 22 0) 23 0) 25 0)  G (lv_sub hl [0] rfl) h
  · replace h := h.2 c_1
    refine lv_aload_n hx hb dX5_parse_42 rfl (lv_at hl 0 rfl) ?_
    refine lv_aload_n hx hb dX5_parse_43 rfl (lv_at hl 0 rfl) ?_
    refine mg_s F G dX5_parse_44 ?_
    refine lv_iconst (v := 1) hx hb dX5_parse_47 (by decide) ?_
    refine m_ld F G mA_1 (by unfold vp_in; decide) dX5_parse_48 ?_
    refine kM_textAt F G hl.1 ⟨Nat.le_of_ble_eq_true rfl, Nat.le_of_ble_eq_true rfl⟩ (Nat.le_of_ble_eq_true rfl) dX5_parse_49 h (fun r_2 I_3 H locs G h => ?_)
    refine lv_iconst (v := 4) hx hb dX5_parse_52 (by decide) ?_
    refine lv_iadd hx hb dX5_parse_53 ?_
    refine lv_goto (tgt := 60) hx hb dX5_parse_54 (by decide) ?_
    exact wM_parse_p60 F (r_2 + 4) I_3  G (lv_sub hl [0] rfl) h
set_option maxHeartbeats 4000000 in
set_option maxRecDepth 100000 in
theorem kM_parse {p : Program} {l : Launch} {e : Env} {s : State} {m : MethodId} {R : Room} {args : Array Value} {below : List Frame} {meth : Method} {c : Code} {D : va_G} {cl : List vw_C} {a : Nat → Nat} {d : ClassId} {A : Nat → Prop} {Q : State → Prop} {cc : ByteArray} {nL pc : Nat} {ret : Option FieldType} {ls : Array Slot} {rest : List Value}  {I : St} {H : Heap} {locs : List Loc} {Q1 : Int32 → St → Prop} (F : FM p s m meth c args D cl d A cc nL ret) (G : GM D cl a d A s.heap I H locs) (hsz : ls.size = nL) (hR : rmX5_parse.frames + 1 ≤ R.frames ∧ 8 + (3 + 11) + rmX5_parse.locals ≤ R.locals) (hW : (rest.map fun v => v.category).sum ≤ 8) (hd : decode cc pc = .ok (.invokevirtual 283, 3)) (h : M_parse  I Q1) (k : ∀ (r : Int32) (I1 : St) (H : Heap) (locs : List Loc), GM D cl a d A s.heap I1 H locs → Q1 r I1 → W p l e R s m args below meth c H locs 0 0 Q (F0 m (pc + 3) ls (.int r :: rest))) : W p l e R s m args below meth c H locs 0 0 Q (F0 m pc ls (.ref (a 0) :: rest)) := by
  obtain ⟨hx, hb, hr, hml, hown, hts, hlocks, hA, hK, hcl⟩ := id F
  exact m_callVi (As := []) F G hsz (wM_parse hcl H.size  I Q1 h) (cwV 0 hts (lw_V q1535 q1537 qs64 q90 q1538) rfl rfl rfl (by decide +kernel) hR) rfl rfl hW hd k
/-! text -/
def M_text  (I : St) (Q : Int32 → St → Prop) : Prop := M_parse  I (fun r_1 I_2 => (0 ≤ r_1 → (¬ (I_2 1 1) = 14 → M_textAt (I_2 1 1) I_2 (fun r_5 I_6 => vp_in (r_5 + 0) 3040 ∧ (vp_in (r_5 + 1) 3040 ∧ (vp_in (r_5 + 2) 3040 ∧ (Q (((sA (sA (sA (sA I_6 1 (r_5 + 0) r_1) 1 (r_5 + 1) ((sA I_6 1 (r_5 + 0) r_1) 0 25)) 1 (r_5 + 2) ((sA (sA I_6 1 (r_5 + 0) r_1) 1 (r_5 + 1) ((sA I_6 1 (r_5 + 0) r_1) 0 25)) 0 23)) 1 1 (((sA (sA (sA I_6 1 (r_5 + 0) r_1) 1 (r_5 + 1) ((sA I_6 1 (r_5 + 0) r_1) 0 25)) 1 (r_5 + 2) ((sA (sA I_6 1 (r_5 + 0) r_1) 1 (r_5 + 1) ((sA I_6 1 (r_5 + 0) r_1) 0 25)) 0 23)) 1 1) + 1)) 1 1) - 1) (sA (sA (sA (sA I_6 1 (r_5 + 0) r_1) 1 (r_5 + 1) ((sA I_6 1 (r_5 + 0) r_1) 0 25)) 1 (r_5 + 2) ((sA (sA I_6 1 (r_5 + 0) r_1) 1 (r_5 + 1) ((sA I_6 1 (r_5 + 0) r_1) 0 25)) 0 23)) 1 1 (((sA (sA (sA I_6 1 (r_5 + 0) r_1) 1 (r_5 + 1) ((sA I_6 1 (r_5 + 0) r_1) 0 25)) 1 (r_5 + 2) ((sA (sA I_6 1 (r_5 + 0) r_1) 1 (r_5 + 1) ((sA I_6 1 (r_5 + 0) r_1) 0 25)) 0 23)) 1 1) + 1))))))) ∧ ((I_2 1 1) = 14 → Q (-1000000003) I_2)) ∧ (¬ 0 ≤ r_1 → Q ((-100) - (I_2 0 16)) I_2))
abbrev rmX5_text : Room := { frames := 85, cells := 0, slots := 0, locals := 1871 }
set_option maxHeartbeats 4000000 in
set_option maxRecDepth 100000 in
theorem wM_text {l : Launch} {D : va_G} {cl : List vw_C} {a : Nat → Nat} {d : ClassId} (hcl : cl[5]? = some (RX5, TX5, 32)) (sz : Nat)  (I : St) (Q : Int32 → St → Prop) (h : M_text  I Q) : MMi l D cl a d yX5_text cX5_text 3 .int rmX5_text [.ref (a 0)] sz I Q := by
  refine m_enter (Qc := fun A => va_Qi Q (BM D cl a d A) A) hcl (by decide) rfl (Nat.le_of_ble_eq_true rfl) ?_
  intro p e s m below meth c ls A F hG hl
  have G := hG
  have hl : lv_has ls 3 [(0, .ref (a 0))] := hl
  obtain ⟨hx, hb, hr, hml, hown, hts, hlocks, hA, hK, hcl⟩ := id F
  unfold M_text at h
  refine lv_aload_n hx hb dX5_text_0 rfl (lv_at hl 0 rfl) ?_
  refine kM_parse F G hl.1 ⟨Nat.le_of_ble_eq_true rfl, Nat.le_of_ble_eq_true rfl⟩ (Nat.le_of_ble_eq_true rfl) dX5_text_1 h (fun r_1 I_2 H locs G h => ?_)
  refine lv_istore_n (lv' := [(1, .int r_1), (0, .ref (a 0))]) hx hb dX5_text_4 rfl hl (by decide) rfl (fun ls hl => ?_)
  refine lv_iload_n hx hb dX5_text_5 rfl (lv_at hl 0 rfl) ?_
  refine lv_if_ge (tgt := 17) hx hb dX5_text_6 (by decide) (fun c_3 => ?_) (fun c_3 => ?_)
  · replace h := h.1 c_3
    refine lv_aload_n hx hb dX5_text_17 rfl (lv_at hl 1 rfl) ?_
    refine mg_s F G dX5_text_18 ?_
    refine lv_iconst (v := 1) hx hb dX5_text_21 (by decide) ?_
    refine m_ld F G mA_1 (by unfold vp_in; decide) dX5_text_22 ?_
    refine lv_bipush (v := 14) hx hb dX5_text_23 (by decide) ?_
    refine lv_icmp_ne (tgt := 31) hx hb dX5_text_25 (by decide) (fun c_4 => ?_) (fun c_4 => ?_)
    · replace h := h.1 c_4
      refine lv_aload_n hx hb dX5_text_31 rfl (lv_at hl 1 rfl) ?_
      refine lv_aload_n hx hb dX5_text_32 rfl (lv_at hl 1 rfl) ?_
      refine mg_s F G dX5_text_33 ?_
      refine lv_iconst (v := 1) hx hb dX5_text_36 (by decide) ?_
      refine m_ld F G mA_1 (by unfold vp_in; decide) dX5_text_37 ?_
      refine kM_textAt F G hl.1 ⟨Nat.le_of_ble_eq_true rfl, Nat.le_of_ble_eq_true rfl⟩ (Nat.le_of_ble_eq_true rfl) dX5_text_38 h (fun r_5 I_6 H locs G h => ?_)
      refine lv_istore_n (lv' := [(2, .int r_5), (1, .int r_1), (0, .ref (a 0))]) hx hb dX5_text_41 rfl hl (by decide) rfl (fun ls hl => ?_)
      refine lv_aload_n hx hb dX5_text_42 rfl (lv_at hl 2 rfl) ?_
      refine mg_s F G dX5_text_43 ?_
      refine lv_iload_n hx hb dX5_text_46 rfl (lv_at hl 0 rfl) ?_
      refine lv_iconst (v := 0) hx hb dX5_text_47 (by decide) ?_
      refine lv_iadd hx hb dX5_text_48 ?_
      refine lv_iload_n hx hb dX5_text_49 rfl (lv_at hl 1 rfl) ?_
      obtain ⟨b_7, h⟩ := h
      refine m_st F G mA_1 b_7 dX5_text_50 (fun H locs G => ?_)
      refine lv_aload_n hx hb dX5_text_51 rfl (lv_at hl 2 rfl) ?_
      refine mg_s F G dX5_text_52 ?_
      refine lv_iload_n hx hb dX5_text_55 rfl (lv_at hl 0 rfl) ?_
      refine lv_iconst (v := 1) hx hb dX5_text_56 (by decide) ?_
      refine lv_iadd hx hb dX5_text_57 ?_
      refine lv_aload_n hx hb dX5_text_58 rfl (lv_at hl 2 rfl) ?_
      refine mg_said F G dX5_text_59 ?_
      obtain ⟨b_8, h⟩ := h
      refine m_st F G mA_1 b_8 dX5_text_62 (fun H locs G => ?_)
      refine lv_aload_n hx hb dX5_text_63 rfl (lv_at hl 2 rfl) ?_
      refine mg_s F G dX5_text_64 ?_
      refine lv_iload_n hx hb dX5_text_67 rfl (lv_at hl 0 rfl) ?_
      refine lv_iconst (v := 2) hx hb dX5_text_68 (by decide) ?_
      refine lv_iadd hx hb dX5_text_69 ?_
      refine lv_aload_n hx hb dX5_text_70 rfl (lv_at hl 2 rfl) ?_
      refine mg_laid F G dX5_text_71 ?_
      obtain ⟨b_9, h⟩ := h
      refine m_st F G mA_1 b_9 dX5_text_74 (fun H locs G => ?_)
      refine lv_aload_n hx hb dX5_text_75 rfl (lv_at hl 2 rfl) ?_
      refine mg_s F G dX5_text_76 ?_
      refine lv_iconst (v := 1) hx hb dX5_text_79 (by decide) ?_
      refine lv_dup2_11 hx hb dX5_text_80 rfl rfl ?_
      refine m_ld F G mA_1 (by unfold vp_in; decide) dX5_text_81 ?_
      refine lv_iconst (v := 1) hx hb dX5_text_82 (by decide) ?_
      refine lv_iadd hx hb dX5_text_83 ?_
      refine m_st F G mA_1 (by unfold vp_in; decide) dX5_text_84 (fun H locs G => ?_)
      refine lv_aload_n hx hb dX5_text_85 rfl (lv_at hl 2 rfl) ?_
      refine mg_s F G dX5_text_86 ?_
      refine lv_iconst (v := 1) hx hb dX5_text_89 (by decide) ?_
      refine m_ld F G mA_1 (by unfold vp_in; decide) dX5_text_90 ?_
      refine lv_iconst (v := 1) hx hb dX5_text_91 (by decide) ?_
      refine lv_isub hx hb dX5_text_92 ?_
      exact m_iret F G dX5_text_93 h
    · replace h := h.2 c_4
      refine lv_ldc hx hb hown (hts _ q1297) dX5_text_28 ?_
      exact m_iret F G dX5_text_30 h
  · replace h := h.2 c_3
    refine lv_bipush (v := (-100)) hx hb dX5_text_9 (by decide) ?_
    refine lv_aload_n hx hb dX5_text_11 rfl (lv_at hl 1 rfl) ?_
    refine mg_begin F G dX5_text_12 ?_
    refine lv_isub hx hb dX5_text_15 ?_
    exact m_iret F G dX5_text_16 h

