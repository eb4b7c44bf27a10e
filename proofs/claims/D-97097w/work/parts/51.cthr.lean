set_option maxRecDepth 100000
/-! StrokesHeard.wrong -/
def C0_wrong  (S : CS) (Q : CS → Prop) (E : Nat → CS → Prop) : Prop := ∃ y_1 : Nat, (S.2.1 0 8) = some y_1 ∧ (∃ (fs_2 : List Value), has S y_1 (.inr (2, fs_2)) ∧ 6 < fs_2.length ∧ (∃ y_5 : Nat, ((cP S y_1 (.inr (2, fs_2.set 6 (.int (S.1 0 9))))).2.1 0 8) = some y_5 ∧ (E y_5 (cP S y_1 (.inr (2, fs_2.set 6 (.int (S.1 0 9))))))))
abbrev rmX0_wrong : Room := { frames := 0, cells := 0, slots := 0, locals := 0 }
set_option maxHeartbeats 4000000 in
set_option maxRecDepth 100000 in
theorem wC0_wrong {l : Launch} {D : va_G} {a : Nat → Nat} {d : Nat → ClassId} (sz : Nat)  (S : CS) (Q : CS → Prop) (E : Nat → CS → Prop) (h : C0_wrong  S Q E) : CTv l D a d yX0_wrong cX0_wrong 1 rmX0_wrong 0 0 [.ref (a 0)] sz S Q E := by
  refine t_enter (Qc := fun A => QTv Q E (BC D a d A) A) RX0 (by decide +kernel) rfl (Nat.le_of_ble_eq_true rfl) ?_
  intro p e s m below meth c ls A Ft hG hl
  have G := hG
  have hl : lv_has ls 1 [(0, .ref (a 0))] := hl
  have F := Ft.1
  obtain ⟨hx, hb, hr, hml, hown, hts, hlocks, hA, hK, hN⟩ := id F
  unfold C0_wrong at h
  refine lv_aload_n hx hb dX0_wrong_0 rfl (lv_at hl 0 rfl) ?_
  refine cgX0_0_fault F G dX0_wrong_1 ?_
  obtain ⟨y_1, hy_1, h⟩ := h
  refine c_nn hy_1 ?_
  refine lv_aload_n hx hb dX0_wrong_4 rfl (lv_at hl 0 rfl) ?_
  refine cgX0_0_from F G dX0_wrong_5 ?_
  obtain ⟨fs_2, z_3, u_4, h⟩ := h
  refine ppX0_X2_place F G z_3 rfl rfl u_4 dX0_wrong_8 (fun H locs G => ?_)
  refine lv_aload_n hx hb dX0_wrong_11 rfl (lv_at hl 0 rfl) ?_
  refine cgX0_0_fault F G dX0_wrong_12 ?_
  obtain ⟨y_5, hy_5, h⟩ := h
  refine c_nn hy_5 ?_
  exact t_athrowv Ft G dX0_wrong_15 h
set_option maxHeartbeats 4000000 in
set_option maxRecDepth 100000 in
theorem kX0_C0_isLetter {p : Program} {l : Launch} {e : Env} {s : State} {m : MethodId} {R : Room} {args : Array Value} {below : List Frame} {meth : Method} {c : Code} {D : va_G} {a : Nat → Nat} {d : Nat → ClassId} {A : Nat → Prop} {Q : State → Prop} {cc : ByteArray} {nL pc cells slots : Nat} {ret : Option FieldType} {ls : Array Slot} {rest : List Value} {v0 : Int32} {S : CS} {H : Heap} {locs : List Loc} {Q1 : Int32 → CS → Prop} (F : FC p s m meth c args D a d A RX0 cc nL ret) (G : GC D a d A s.heap S H locs) (hsz : ls.size = nL) (hR : rmX0_isLetter.frames + 1 ≤ R.frames ∧ 8 + (1 + 11) + rmX0_isLetter.locals ≤ R.locals) (hc : cells + 0 ≤ R.cells ∧ slots + 0 ≤ R.slots) (hW : (rest.map fun v => v.category).sum ≤ 8) (hd : decode cc pc = .ok (.invokestatic 146, 3)) (h : C0_isLetter v0 S Q1) (k : ∀ (r : Int32) (S1 : CS) (H : Heap) (locs : List Loc), GC D a d A s.heap S1 H locs → Q1 r S1 → W p l e R s m args below meth c H locs cells slots Q (F0 m (pc + 3) ls (.int r :: rest))) : W p l e R s m args below meth c H locs cells slots Q (F0 m pc ls (.int v0 :: rest)) := by
  obtain ⟨hx, hb, hr, hml, hown, hts, hlocks, hA, hK, hN⟩ := id F
  exact c_calli F G (va_runS (As := [.int v0]) (rest := rest) ⟨hx, hb, hml, hown, hts⟩ (wC0_isLetter H.size v0 S Q1 h) (va_cwS 1 hts (lw_S q381 q382 q82 q383) rfl rfl rfl (by decide +kernel) hR) ⟨PC_blind, c_pre F G⟩ rfl rfl hsz rfl (lv_room hW) hd hc) k
set_option maxHeartbeats 4000000 in
set_option maxRecDepth 100000 in
theorem kX0_C0_isDigit {p : Program} {l : Launch} {e : Env} {s : State} {m : MethodId} {R : Room} {args : Array Value} {below : List Frame} {meth : Method} {c : Code} {D : va_G} {a : Nat → Nat} {d : Nat → ClassId} {A : Nat → Prop} {Q : State → Prop} {cc : ByteArray} {nL pc cells slots : Nat} {ret : Option FieldType} {ls : Array Slot} {rest : List Value} {v0 : Int32} {S : CS} {H : Heap} {locs : List Loc} {Q1 : Int32 → CS → Prop} (F : FC p s m meth c args D a d A RX0 cc nL ret) (G : GC D a d A s.heap S H locs) (hsz : ls.size = nL) (hR : rmX0_isDigit.frames + 1 ≤ R.frames ∧ 8 + (1 + 11) + rmX0_isDigit.locals ≤ R.locals) (hc : cells + 0 ≤ R.cells ∧ slots + 0 ≤ R.slots) (hW : (rest.map fun v => v.category).sum ≤ 8) (hd : decode cc pc = .ok (.invokestatic 150, 3)) (h : C0_isDigit v0 S Q1) (k : ∀ (r : Int32) (S1 : CS) (H : Heap) (locs : List Loc), GC D a d A s.heap S1 H locs → Q1 r S1 → W p l e R s m args below meth c H locs cells slots Q (F0 m (pc + 3) ls (.int r :: rest))) : W p l e R s m args below meth c H locs cells slots Q (F0 m pc ls (.int v0 :: rest)) := by
  obtain ⟨hx, hb, hr, hml, hown, hts, hlocks, hA, hK, hN⟩ := id F
  exact c_calli F G (va_runS (As := [.int v0]) (rest := rest) ⟨hx, hb, hml, hown, hts⟩ (wC0_isDigit H.size v0 S Q1 h) (va_cwS 1 hts (lw_S q384 q385 q82 q386) rfl rfl rfl (by decide +kernel) hR) ⟨PC_blind, c_pre F G⟩ rfl rfl hsz rfl (lv_room hW) hd hc) k
set_option maxHeartbeats 4000000 in
set_option maxRecDepth 100000 in
theorem kX0_C0_wrong {p : Program} {l : Launch} {e : Env} {s : State} {m : MethodId} {R : Room} {args : Array Value} {below : List Frame} {meth : Method} {c : Code} {D : va_G} {a : Nat → Nat} {d : Nat → ClassId} {A : Nat → Prop} {Q : State → Prop} {cc : ByteArray} {nL pc cells slots : Nat} {ret : Option FieldType} {ls : Array Slot} {rest : List Value}  {S : CS} {H : Heap} {locs : List Loc} {Q1 : CS → Prop} {E1 : Nat → CS → Prop} (F : FC p s m meth c args D a d A RX0 cc nL ret) (G : GC D a d A s.heap S H locs) (hsz : ls.size = nL) (hR : rmX0_wrong.frames + 1 ≤ R.frames ∧ 8 + (1 + 11) + rmX0_wrong.locals ≤ R.locals) (hc : cells + 0 ≤ R.cells ∧ slots + 0 ≤ R.slots) (hW : (rest.map fun v => v.category).sum ≤ 8) (hd : decode cc pc = .ok (.invokevirtual 153, 3)) (h : C0_wrong  S Q1 E1) (k : ∀ (S1 : CS) (H : Heap) (locs : List Loc), GC D a d A s.heap S1 H locs → Q1 S1 → W p l e R s m args below meth c H locs cells slots Q (F0 m (pc + 3) ls rest)) (kx : ∀ (z : Nat) (S1 : CS) (H : Heap) (locs : List Loc), GC D a d A s.heap S1 H locs → E1 z S1 → WX p l e R s m args below meth c H locs cells slots Q (F0 m pc ls rest) z) : W p l e R s m args below meth c H locs cells slots Q (F0 m pc ls (.ref (a 0) :: rest)) := by
  obtain ⟨hx, hb, hr, hml, hown, hts, hlocks, hA, hK, hN⟩ := id F
  exact t_callVv (n := 0) (As := []) (rt := .int) F G hsz (wC0_wrong H.size  S Q1 E1 h) q387 q389 qs4 q82 q390 (va_recv hK G.1 (ci := 0) (q0 := 0) rfl rfl) (by decide +kernel) rfl rfl rfl rfl hR hc hW hd k kx
/-! StrokesHeard.goes -/
def C0_goes_p290 (Q : CS → Prop) (E : Nat → CS → Prop)   (S : CS) : Prop := C0_wrong  S (fun S_42 => Q S_42) E
def C0_goes_p275 (Q : CS → Prop) (E : Nat → CS → Prop)  (v2 : Int32) (v3 : Int32) (t0 : Int32) (S : CS) : Prop := (t0 = 0 → Q S) ∧ (¬ t0 = 0 → (¬ v2 = 0 → C0_goes_p290 Q E  S) ∧ (v2 = 0 → (v3 = 0 → Q S) ∧ (¬ v3 = 0 → C0_goes_p290 Q E  S)))
def C0_goes_p274 (Q : CS → Prop) (E : Nat → CS → Prop)  (v2 : Int32) (v3 : Int32) (S : CS) : Prop := C0_goes_p275 Q E v2 v3 0 S
def C0_goes_p270 (Q : CS → Prop) (E : Nat → CS → Prop)  (v2 : Int32) (v3 : Int32) (S : CS) : Prop := C0_goes_p275 Q E v2 v3 1 S
def C0_goes_p230 (Q : CS → Prop) (E : Nat → CS → Prop)  (v1 : Int32) (v2 : Int32) (v3 : Int32) (S : CS) : Prop := (¬ (S.1 0 9) = v1 → C0_goes_p274 Q E v2 v3 S) ∧ ((S.1 0 9) = v1 → (v1 ≤ 0 → C0_goes_p274 Q E v2 v3 S) ∧ (¬ v1 ≤ 0 → vp_in (v1 - 1) 96 ∧ (C0_isLetter (S.1 22 ((v1 - 1).toNatClampNeg)) S (fun r_21 S_22 => (¬ r_21 = 0 → C0_goes_p270 Q E v2 v3 S_22) ∧ (r_21 = 0 → vp_in (v1 - 1) 96 ∧ (C0_isDigit (S_22.1 22 ((v1 - 1).toNatClampNeg)) S_22 (fun r_25 S_26 => (r_25 = 0 → C0_goes_p274 Q E v2 v3 S_26) ∧ (¬ r_25 = 0 → C0_goes_p270 Q E v2 v3 S_26))))))))
def C0_goes_L170 (Q : CS → Prop) (E : Nat → CS → Prop)  (v1 : Int32) (v2 : Int32) (v3 : Int32) : Nat → CS → Prop
  | 0, _ => False
  | n + 1, S => ((S.1 0 11) ≤ (S.1 0 10) → C0_goes_p230 Q E v1 v2 v3 S) ∧ (¬ (S.1 0 11) ≤ (S.1 0 10) → vp_in (S.1 0 10) 96 ∧ (C0_isDigit (S.1 22 ((S.1 0 10).toNatClampNeg)) S (fun r_30 S_31 => (r_30 = 0 → C0_goes_p230 Q E v1 v2 v3 S_31) ∧ (¬ r_30 = 0 → C0_goes_L170 Q E v1 v2 v3 n  (cF S_31 0 10 ((S_31.1 0 10) + 1))))))
def C0_goes_L127 (Q : CS → Prop) (E : Nat → CS → Prop)  (v1 : Int32) (v2 : Int32) (v3 : Int32) : Nat → CS → Prop
  | 0, _ => False
  | n + 1, S => ((S.1 0 11) ≤ (S.1 0 10) → C0_goes_p230 Q E v1 v2 v3 S) ∧ (¬ (S.1 0 11) ≤ (S.1 0 10) → vp_in (S.1 0 10) 96 ∧ (C0_isLetter (S.1 22 ((S.1 0 10).toNatClampNeg)) S (fun r_35 S_36 => (r_35 = 0 → C0_goes_p230 Q E v1 v2 v3 S_36) ∧ (¬ r_35 = 0 → C0_goes_L127 Q E v1 v2 v3 n  (cF S_36 0 10 ((S_36.1 0 10) + 1))))))
def C0_goes_p122 (Q : CS → Prop) (E : Nat → CS → Prop)  (v1 : Int32) (v2 : Int32) (t0 : Int32) (S : CS) : Prop := (v2 = 0 → (t0 = 0 → ((S.1 0 11) ≤ (S.1 0 9) → C0_goes_p230 Q E v1 v2 t0 S) ∧ (¬ (S.1 0 11) ≤ (S.1 0 9) → C0_goes_p230 Q E v1 v2 t0 (cF S 0 10 ((S.1 0 10) + 1)))) ∧ (¬ t0 = 0 → ∃ k170, C0_goes_L170 Q E v1 v2 t0 k170  S)) ∧ (¬ v2 = 0 → ∃ k127, C0_goes_L127 Q E v1 v2 t0 k127  S)
def C0_goes_p121 (Q : CS → Prop) (E : Nat → CS → Prop)  (v1 : Int32) (v2 : Int32) (S : CS) : Prop := C0_goes_p122 Q E v1 v2 0 S
def C0_goes_p90 (Q : CS → Prop) (E : Nat → CS → Prop)  (v1 : Int32) (t0 : Int32) (S : CS) : Prop := ((S.1 0 11) ≤ (S.1 0 9) → C0_goes_p121 Q E v1 t0 S) ∧ (¬ (S.1 0 11) ≤ (S.1 0 9) → vp_in (S.1 0 9) 96 ∧ (C0_isDigit (S.1 22 ((S.1 0 9).toNatClampNeg)) S (fun r_12 S_13 => (r_12 = 0 → C0_goes_p121 Q E v1 t0 S_13) ∧ (¬ r_12 = 0 → C0_goes_p122 Q E v1 t0 1 S_13))))
def C0_goes_p89 (Q : CS → Prop) (E : Nat → CS → Prop)  (v1 : Int32) (S : CS) : Prop := C0_goes_p90 Q E v1 0 S
def C0_goes_p51 (Q : CS → Prop) (E : Nat → CS → Prop)  (v1 : Int32) (S : CS) : Prop := (((cF S 0 10 (S.1 0 9)).1 0 11) ≤ ((cF S 0 10 (S.1 0 9)).1 0 9) → C0_goes_p89 Q E v1 (cF S 0 10 (S.1 0 9))) ∧ (¬ ((cF S 0 10 (S.1 0 9)).1 0 11) ≤ ((cF S 0 10 (S.1 0 9)).1 0 9) → vp_in ((cF S 0 10 (S.1 0 9)).1 0 9) 96 ∧ (C0_isLetter ((cF S 0 10 (S.1 0 9)).1 22 (((cF S 0 10 (S.1 0 9)).1 0 9).toNatClampNeg)) (cF S 0 10 (S.1 0 9)) (fun r_7 S_8 => (r_7 = 0 → C0_goes_p89 Q E v1 S_8) ∧ (¬ r_7 = 0 → C0_goes_p90 Q E v1 1 S_8))))
def C0_goes_L13 (Q : CS → Prop) (E : Nat → CS → Prop)  (v1 : Int32) : Nat → CS → Prop
  | 0, _ => False
  | n + 1, S => ((S.1 0 11) ≤ (S.1 0 9) → C0_goes_p51 Q E v1 S) ∧ (¬ (S.1 0 11) ≤ (S.1 0 9) → vp_in (S.1 0 9) 96 ∧ ((¬ (S.1 22 ((S.1 0 9).toNatClampNeg)) = 32 → C0_goes_p51 Q E v1 S) ∧ ((S.1 22 ((S.1 0 9).toNatClampNeg)) = 32 → C0_goes_L13 Q E v1 n  (cF S 0 9 ((S.1 0 9) + 1)))))
def C0_goes  (S : CS) (Q : CS → Prop) (E : Nat → CS → Prop) : Prop := ∀ x_1 : Int32, x_1 = (S.1 0 10) → ∃ k13, C0_goes_L13 Q E x_1 k13  (cF S 0 9 (S.1 0 10))
abbrev rmX0_goes : Room := { frames := 2, cells := 0, slots := 0, locals := 42 }
set_option maxHeartbeats 4000000 in
set_option maxRecDepth 100000 in
theorem wC0_goes_p290 {p : Program} {l : Launch} {e : Env} {s : State} {m : MethodId} {args : Array Value} {below : List Frame} {meth : Method} {c : Code} {D : va_G} {a : Nat → Nat} {d : Nat → ClassId} {A : Nat → Prop} {Q : CS → Prop} {E : Nat → CS → Prop}  (Ft : FT p s m meth c args D a d A RX0 cX0_goes 5 none)  (S : CS)  {H : Heap} {locs : List Loc} {ls : Array Slot} (G : GC D a d A s.heap S H locs) (hl : lv_has ls 5 [(0, .ref (a 0))]) (h : C0_goes_p290 Q E S) : wTv p l e rmX0_goes s m args below meth c D a d A Q E 0 0 H locs 0 0 (F0 m 290 ls []) := by
  have F := Ft.1
  obtain ⟨hx, hb, hr, hml, hown, hts, hlocks, hA, hK, hN⟩ := id F
  unfold C0_goes_p290 at h
  refine lv_aload_n hx hb dX0_goes_290 rfl (lv_at hl 0 rfl) ?_
  refine kX0_C0_wrong F G hl.1 ⟨(Nat.le_of_ble_eq_true rfl), (Nat.le_of_ble_eq_true rfl)⟩ ⟨(Nat.le_of_ble_eq_true rfl), (Nat.le_of_ble_eq_true rfl)⟩ (Nat.le_of_ble_eq_true rfl) dX0_goes_291 h (fun S_42 H locs G h => ?_) (fun z S1 H locs G h => WX.widen (k := 0) (n := 0) (Nat.le_of_ble_eq_true rfl) (Nat.le_of_ble_eq_true rfl) (t_outv Ft G h))
  exact t_vret Ft G dX0_goes_294 h
set_option maxHeartbeats 4000000 in
set_option maxRecDepth 100000 in
theorem wC0_goes_p275 {p : Program} {l : Launch} {e : Env} {s : State} {m : MethodId} {args : Array Value} {below : List Frame} {meth : Method} {c : Code} {D : va_G} {a : Nat → Nat} {d : Nat → ClassId} {A : Nat → Prop} {Q : CS → Prop} {E : Nat → CS → Prop}  (Ft : FT p s m meth c args D a d A RX0 cX0_goes 5 none) (v2 : Int32) (v3 : Int32) (t0 : Int32) (S : CS)  {H : Heap} {locs : List Loc} {ls : Array Slot} (G : GC D a d A s.heap S H locs) (hl : lv_has ls 5 [(0, .ref (a 0)), (2, .int v2), (3, .int v3)]) (h : C0_goes_p275 Q E v2 v3 t0 S) : wTv p l e rmX0_goes s m args below meth c D a d A Q E 0 0 H locs 0 0 (F0 m 275 ls [.int t0]) := by
  have F := Ft.1
  obtain ⟨hx, hb, hr, hml, hown, hts, hlocks, hA, hK, hN⟩ := id F
  unfold C0_goes_p275 at h
  refine lv_istore (lv' := [(4, .int t0), (0, .ref (a 0)), (2, .int v2), (3, .int v3)]) hx hb dX0_goes_275 hl (by decide) rfl (fun ls hl => ?_)
  refine lv_iload hx hb dX0_goes_277 (lv_at hl 0 rfl) ?_
  refine lv_if_eq (tgt := 294) hx hb dX0_goes_279 (by decide) (fun c_38 => ?_) (fun c_38 => ?_)
  · replace h := h.1 c_38
    exact t_vret Ft G dX0_goes_294 h
  · replace h := h.2 c_38
    refine lv_iload_n hx hb dX0_goes_282 rfl (lv_at hl 2 rfl) ?_
    refine lv_if_ne (tgt := 290) hx hb dX0_goes_283 (by decide) (fun c_39 => ?_) (fun c_39 => ?_)
    · replace h := h.1 c_39
      exact wC0_goes_p290 Ft  S  G (lv_sub hl [1] rfl) h
    · replace h := h.2 c_39
      refine lv_iload_n hx hb dX0_goes_286 rfl (lv_at hl 3 rfl) ?_
      refine lv_if_eq (tgt := 294) hx hb dX0_goes_287 (by decide) (fun c_40 => ?_) (fun c_40 => ?_)
      · replace h := h.1 c_40
        exact t_vret Ft G dX0_goes_294 h
      · replace h := h.2 c_40
        exact wC0_goes_p290 Ft  S  G (lv_sub hl [1] rfl) h
set_option maxHeartbeats 4000000 in
set_option maxRecDepth 100000 in
theorem wC0_goes_p274 {p : Program} {l : Launch} {e : Env} {s : State} {m : MethodId} {args : Array Value} {below : List Frame} {meth : Method} {c : Code} {D : va_G} {a : Nat → Nat} {d : Nat → ClassId} {A : Nat → Prop} {Q : CS → Prop} {E : Nat → CS → Prop}  (Ft : FT p s m meth c args D a d A RX0 cX0_goes 5 none) (v2 : Int32) (v3 : Int32) (S : CS)  {H : Heap} {locs : List Loc} {ls : Array Slot} (G : GC D a d A s.heap S H locs) (hl : lv_has ls 5 [(0, .ref (a 0)), (2, .int v2), (3, .int v3)]) (h : C0_goes_p274 Q E v2 v3 S) : wTv p l e rmX0_goes s m args below meth c D a d A Q E 0 0 H locs 0 0 (F0 m 274 ls []) := by
  have F := Ft.1
  obtain ⟨hx, hb, hr, hml, hown, hts, hlocks, hA, hK, hN⟩ := id F
  unfold C0_goes_p274 at h
  refine lv_iconst (v := 0) hx hb dX0_goes_274 (by decide) ?_
  exact wC0_goes_p275 Ft v2 v3 0 S  G (lv_sub hl [0, 1, 2] rfl) h
set_option maxHeartbeats 4000000 in
set_option maxRecDepth 100000 in
theorem wC0_goes_p270 {p : Program} {l : Launch} {e : Env} {s : State} {m : MethodId} {args : Array Value} {below : List Frame} {meth : Method} {c : Code} {D : va_G} {a : Nat → Nat} {d : Nat → ClassId} {A : Nat → Prop} {Q : CS → Prop} {E : Nat → CS → Prop}  (Ft : FT p s m meth c args D a d A RX0 cX0_goes 5 none) (v2 : Int32) (v3 : Int32) (S : CS)  {H : Heap} {locs : List Loc} {ls : Array Slot} (G : GC D a d A s.heap S H locs) (hl : lv_has ls 5 [(0, .ref (a 0)), (2, .int v2), (3, .int v3)]) (h : C0_goes_p270 Q E v2 v3 S) : wTv p l e rmX0_goes s m args below meth c D a d A Q E 0 0 H locs 0 0 (F0 m 270 ls []) := by
  have F := Ft.1
  obtain ⟨hx, hb, hr, hml, hown, hts, hlocks, hA, hK, hN⟩ := id F
  unfold C0_goes_p270 at h
  refine lv_iconst (v := 1) hx hb dX0_goes_270 (by decide) ?_
  refine lv_goto (tgt := 275) hx hb dX0_goes_271 (by decide) ?_
  exact wC0_goes_p275 Ft v2 v3 1 S  G (lv_sub hl [0, 1, 2] rfl) h
set_option maxHeartbeats 4000000 in
set_option maxRecDepth 100000 in
theorem wC0_goes_p230 {p : Program} {l : Launch} {e : Env} {s : State} {m : MethodId} {args : Array Value} {below : List Frame} {meth : Method} {c : Code} {D : va_G} {a : Nat → Nat} {d : Nat → ClassId} {A : Nat → Prop} {Q : CS → Prop} {E : Nat → CS → Prop}  (Ft : FT p s m meth c args D a d A RX0 cX0_goes 5 none) (v1 : Int32) (v2 : Int32) (v3 : Int32) (S : CS)  {H : Heap} {locs : List Loc} {ls : Array Slot} (G : GC D a d A s.heap S H locs) (hl : lv_has ls 5 [(0, .ref (a 0)), (1, .int v1), (2, .int v2), (3, .int v3)]) (h : C0_goes_p230 Q E v1 v2 v3 S) : wTv p l e rmX0_goes s m args below meth c D a d A Q E 0 0 H locs 0 0 (F0 m 230 ls []) := by
  have F := Ft.1
  obtain ⟨hx, hb, hr, hml, hown, hts, hlocks, hA, hK, hN⟩ := id F
  unfold C0_goes_p230 at h
  refine lv_aload_n hx hb dX0_goes_230 rfl (lv_at hl 0 rfl) ?_
  refine cgX0_0_from F G dX0_goes_231 ?_
  refine lv_iload_n hx hb dX0_goes_234 rfl (lv_at hl 1 rfl) ?_
  refine lv_icmp_ne (tgt := 274) hx hb dX0_goes_235 (by decide) (fun c_18 => ?_) (fun c_18 => ?_)
  · replace h := h.1 c_18
    exact wC0_goes_p274 Ft v2 v3 S  G (lv_sub hl [0, 2, 3] rfl) h
  · replace h := h.2 c_18
    refine lv_iload_n hx hb dX0_goes_238 rfl (lv_at hl 1 rfl) ?_
    refine lv_if_le (tgt := 274) hx hb dX0_goes_239 (by decide) (fun c_19 => ?_) (fun c_19 => ?_)
    · replace h := h.1 c_19
      exact wC0_goes_p274 Ft v2 v3 S  G (lv_sub hl [0, 2, 3] rfl) h
    · replace h := h.2 c_19
      refine lv_aload_n hx hb dX0_goes_242 rfl (lv_at hl 0 rfl) ?_
      refine cgX0_0_tape F G dX0_goes_243 ?_
      refine lv_iload_n hx hb dX0_goes_246 rfl (lv_at hl 1 rfl) ?_
      refine lv_iconst (v := 1) hx hb dX0_goes_247 (by decide) ?_
      refine lv_isub hx hb dX0_goes_248 ?_
      obtain ⟨b_20, h⟩ := h
      refine c_baload F G cI_22 b_20 dX0_goes_249 ?_
      refine kX0_C0_isLetter F G hl.1 ⟨(Nat.le_of_ble_eq_true rfl), (Nat.le_of_ble_eq_true rfl)⟩ ⟨(Nat.le_of_ble_eq_true rfl), (Nat.le_of_ble_eq_true rfl)⟩ (Nat.le_of_ble_eq_true rfl) dX0_goes_250 h (fun r_21 S_22 H locs G h => ?_)
      refine lv_if_ne (tgt := 270) hx hb dX0_goes_253 (by decide) (fun c_23 => ?_) (fun c_23 => ?_)
      · replace h := h.1 c_23
        exact wC0_goes_p270 Ft v2 v3 S_22  G (lv_sub hl [0, 2, 3] rfl) h
      · replace h := h.2 c_23
        refine lv_aload_n hx hb dX0_goes_256 rfl (lv_at hl 0 rfl) ?_
        refine cgX0_0_tape F G dX0_goes_257 ?_
        refine lv_iload_n hx hb dX0_goes_260 rfl (lv_at hl 1 rfl) ?_
        refine lv_iconst (v := 1) hx hb dX0_goes_261 (by decide) ?_
        refine lv_isub hx hb dX0_goes_262 ?_
        obtain ⟨b_24, h⟩ := h
        refine c_baload F G cI_22 b_24 dX0_goes_263 ?_
        refine kX0_C0_isDigit F G hl.1 ⟨(Nat.le_of_ble_eq_true rfl), (Nat.le_of_ble_eq_true rfl)⟩ ⟨(Nat.le_of_ble_eq_true rfl), (Nat.le_of_ble_eq_true rfl)⟩ (Nat.le_of_ble_eq_true rfl) dX0_goes_264 h (fun r_25 S_26 H locs G h => ?_)
        refine lv_if_eq (tgt := 274) hx hb dX0_goes_267 (by decide) (fun c_27 => ?_) (fun c_27 => ?_)
        · replace h := h.1 c_27
          exact wC0_goes_p274 Ft v2 v3 S_26  G (lv_sub hl [0, 2, 3] rfl) h
        · replace h := h.2 c_27
          exact wC0_goes_p270 Ft v2 v3 S_26  G (lv_sub hl [0, 2, 3] rfl) h
set_option maxHeartbeats 4000000 in
set_option maxRecDepth 100000 in
theorem wC0_goes_L170 {p : Program} {l : Launch} {e : Env} {s : State} {m : MethodId} {args : Array Value} {below : List Frame} {meth : Method} {c : Code} {D : va_G} {a : Nat → Nat} {d : Nat → ClassId} {A : Nat → Prop} {Q : CS → Prop} {E : Nat → CS → Prop}  (Ft : FT p s m meth c args D a d A RX0 cX0_goes 5 none) (v1 : Int32) (v2 : Int32) (v3 : Int32)  :
    ∀ (n : Nat)  (S : CS) (H : Heap) (locs : List Loc) (ls : Array Slot), GC D a d A s.heap S H locs → lv_has ls 5 [(0, .ref (a 0)), (1, .int v1), (2, .int v2), (3, .int v3)] → C0_goes_L170 Q E v1 v2 v3 n S → wTv p l e rmX0_goes s m args below meth c D a d A Q E 0 0 H locs 0 0 (F0 m 170 ls []) := by
  have F := Ft.1
  obtain ⟨hx, hb, hr, hml, hown, hts, hlocks, hA, hK, hN⟩ := id F
  intro n
  induction n with
  | zero => intro  S H locs ls G hl h; exact absurd h (fun q => q)
  | succ n ih =>
    intro  S H locs ls G hl h
    unfold C0_goes_L170 at h
    refine lv_aload_n hx hb dX0_goes_170 rfl (lv_at hl 0 rfl) ?_
    refine cgX0_0_to F G dX0_goes_171 ?_
    refine lv_aload_n hx hb dX0_goes_174 rfl (lv_at hl 0 rfl) ?_
    refine cgX0_0_end F G dX0_goes_175 ?_
    refine lv_icmp_ge (tgt := 230) hx hb dX0_goes_178 (by decide) (fun c_28 => ?_) (fun c_28 => ?_)
    · replace h := h.1 c_28
      exact wC0_goes_p230 Ft v1 v2 v3 S  G (lv_sub hl [0, 1, 2, 3] rfl) h
    · replace h := h.2 c_28
      refine lv_aload_n hx hb dX0_goes_181 rfl (lv_at hl 0 rfl) ?_
      refine cgX0_0_tape F G dX0_goes_182 ?_
      refine lv_aload_n hx hb dX0_goes_185 rfl (lv_at hl 0 rfl) ?_
      refine cgX0_0_to F G dX0_goes_186 ?_
      obtain ⟨b_29, h⟩ := h
      refine c_baload F G cI_22 b_29 dX0_goes_189 ?_
      refine kX0_C0_isDigit F G hl.1 ⟨(Nat.le_of_ble_eq_true rfl), (Nat.le_of_ble_eq_true rfl)⟩ ⟨(Nat.le_of_ble_eq_true rfl), (Nat.le_of_ble_eq_true rfl)⟩ (Nat.le_of_ble_eq_true rfl) dX0_goes_190 h (fun r_30 S_31 H locs G h => ?_)
      refine lv_if_eq (tgt := 230) hx hb dX0_goes_193 (by decide) (fun c_32 => ?_) (fun c_32 => ?_)
      · replace h := h.1 c_32
        exact wC0_goes_p230 Ft v1 v2 v3 S_31  G (lv_sub hl [0, 1, 2, 3] rfl) h
      · replace h := h.2 c_32
        refine lv_aload_n hx hb dX0_goes_196 rfl (lv_at hl 0 rfl) ?_
        refine lv_dup hx hb dX0_goes_197 rfl ?_
        refine cgX0_0_to F G dX0_goes_198 ?_
        refine lv_iconst (v := 1) hx hb dX0_goes_201 (by decide) ?_
        refine lv_iadd hx hb dX0_goes_202 ?_
        refine cpX0_0_to F G dX0_goes_203 (fun H locs G => ?_)
        refine lv_goto (tgt := 170) hx hb dX0_goes_206 (by decide) ?_
        exact ih  (cF S_31 0 10 ((S_31.1 0 10) + 1)) _ _ _ G (lv_sub hl [0, 1, 2, 3] rfl) h
set_option maxHeartbeats 4000000 in
set_option maxRecDepth 100000 in
theorem wC0_goes_L127 {p : Program} {l : Launch} {e : Env} {s : State} {m : MethodId} {args : Array Value} {below : List Frame} {meth : Method} {c : Code} {D : va_G} {a : Nat → Nat} {d : Nat → ClassId} {A : Nat → Prop} {Q : CS → Prop} {E : Nat → CS → Prop}  (Ft : FT p s m meth c args D a d A RX0 cX0_goes 5 none) (v1 : Int32) (v2 : Int32) (v3 : Int32)  :
    ∀ (n : Nat)  (S : CS) (H : Heap) (locs : List Loc) (ls : Array Slot), GC D a d A s.heap S H locs → lv_has ls 5 [(0, .ref (a 0)), (1, .int v1), (2, .int v2), (3, .int v3)] → C0_goes_L127 Q E v1 v2 v3 n S → wTv p l e rmX0_goes s m args below meth c D a d A Q E 0 0 H locs 0 0 (F0 m 127 ls []) := by
  have F := Ft.1
  obtain ⟨hx, hb, hr, hml, hown, hts, hlocks, hA, hK, hN⟩ := id F
  intro n
  induction n with
  | zero => intro  S H locs ls G hl h; exact absurd h (fun q => q)
  | succ n ih =>
    intro  S H locs ls G hl h
    unfold C0_goes_L127 at h
    refine lv_aload_n hx hb dX0_goes_127 rfl (lv_at hl 0 rfl) ?_
    refine cgX0_0_to F G dX0_goes_128 ?_
    refine lv_aload_n hx hb dX0_goes_131 rfl (lv_at hl 0 rfl) ?_
    refine cgX0_0_end F G dX0_goes_132 ?_
    refine lv_icmp_ge (tgt := 230) hx hb dX0_goes_135 (by decide) (fun c_33 => ?_) (fun c_33 => ?_)
    · replace h := h.1 c_33
      exact wC0_goes_p230 Ft v1 v2 v3 S  G (lv_sub hl [0, 1, 2, 3] rfl) h
    · replace h := h.2 c_33
      refine lv_aload_n hx hb dX0_goes_138 rfl (lv_at hl 0 rfl) ?_
      refine cgX0_0_tape F G dX0_goes_139 ?_
      refine lv_aload_n hx hb dX0_goes_142 rfl (lv_at hl 0 rfl) ?_
      refine cgX0_0_to F G dX0_goes_143 ?_
      obtain ⟨b_34, h⟩ := h
      refine c_baload F G cI_22 b_34 dX0_goes_146 ?_
      refine kX0_C0_isLetter F G hl.1 ⟨(Nat.le_of_ble_eq_true rfl), (Nat.le_of_ble_eq_true rfl)⟩ ⟨(Nat.le_of_ble_eq_true rfl), (Nat.le_of_ble_eq_true rfl)⟩ (Nat.le_of_ble_eq_true rfl) dX0_goes_147 h (fun r_35 S_36 H locs G h => ?_)
      refine lv_if_eq (tgt := 230) hx hb dX0_goes_150 (by decide) (fun c_37 => ?_) (fun c_37 => ?_)
      · replace h := h.1 c_37
        exact wC0_goes_p230 Ft v1 v2 v3 S_36  G (lv_sub hl [0, 1, 2, 3] rfl) h
      · replace h := h.2 c_37
        refine lv_aload_n hx hb dX0_goes_153 rfl (lv_at hl 0 rfl) ?_
        refine lv_dup hx hb dX0_goes_154 rfl ?_
        refine cgX0_0_to F G dX0_goes_155 ?_
        refine lv_iconst (v := 1) hx hb dX0_goes_158 (by decide) ?_
        refine lv_iadd hx hb dX0_goes_159 ?_
        refine cpX0_0_to F G dX0_goes_160 (fun H locs G => ?_)
        refine lv_goto (tgt := 127) hx hb dX0_goes_163 (by decide) ?_
        exact ih  (cF S_36 0 10 ((S_36.1 0 10) + 1)) _ _ _ G (lv_sub hl [0, 1, 2, 3] rfl) h
set_option maxHeartbeats 4000000 in
set_option maxRecDepth 100000 in
theorem wC0_goes_p122 {p : Program} {l : Launch} {e : Env} {s : State} {m : MethodId} {args : Array Value} {below : List Frame} {meth : Method} {c : Code} {D : va_G} {a : Nat → Nat} {d : Nat → ClassId} {A : Nat → Prop} {Q : CS → Prop} {E : Nat → CS → Prop}  (Ft : FT p s m meth c args D a d A RX0 cX0_goes 5 none) (v1 : Int32) (v2 : Int32) (t0 : Int32) (S : CS)  {H : Heap} {locs : List Loc} {ls : Array Slot} (G : GC D a d A s.heap S H locs) (hl : lv_has ls 5 [(0, .ref (a 0)), (1, .int v1), (2, .int v2)]) (h : C0_goes_p122 Q E v1 v2 t0 S) : wTv p l e rmX0_goes s m args below meth c D a d A Q E 0 0 H locs 0 0 (F0 m 122 ls [.int t0]) := by
  have F := Ft.1
  obtain ⟨hx, hb, hr, hml, hown, hts, hlocks, hA, hK, hN⟩ := id F
  unfold C0_goes_p122 at h
  refine lv_istore_n (lv' := [(3, .int t0), (0, .ref (a 0)), (1, .int v1), (2, .int v2)]) hx hb dX0_goes_122 rfl hl (by decide) rfl (fun ls hl => ?_)
  refine lv_iload_n hx hb dX0_goes_123 rfl (lv_at hl 3 rfl) ?_
  refine lv_if_eq (tgt := 166) hx hb dX0_goes_124 (by decide) (fun c_15 => ?_) (fun c_15 => ?_)
  · replace h := h.1 c_15
    refine lv_iload_n hx hb dX0_goes_166 rfl (lv_at hl 0 rfl) ?_
    refine lv_if_eq (tgt := 209) hx hb dX0_goes_167 (by decide) (fun c_16 => ?_) (fun c_16 => ?_)
    · replace h := h.1 c_16
      refine lv_aload_n hx hb dX0_goes_209 rfl (lv_at hl 1 rfl) ?_
      refine cgX0_0_from F G dX0_goes_210 ?_
      refine lv_aload_n hx hb dX0_goes_213 rfl (lv_at hl 1 rfl) ?_
      refine cgX0_0_end F G dX0_goes_214 ?_
      refine lv_icmp_ge (tgt := 230) hx hb dX0_goes_217 (by decide) (fun c_17 => ?_) (fun c_17 => ?_)
      · replace h := h.1 c_17
        exact wC0_goes_p230 Ft v1 v2 t0 S  G (lv_sub hl [1, 2, 3, 0] rfl) h
      · replace h := h.2 c_17
        refine lv_aload_n hx hb dX0_goes_220 rfl (lv_at hl 1 rfl) ?_
        refine lv_dup hx hb dX0_goes_221 rfl ?_
        refine cgX0_0_to F G dX0_goes_222 ?_
        refine lv_iconst (v := 1) hx hb dX0_goes_225 (by decide) ?_
        refine lv_iadd hx hb dX0_goes_226 ?_
        refine cpX0_0_to F G dX0_goes_227 (fun H locs G => ?_)
        exact wC0_goes_p230 Ft v1 v2 t0 (cF S 0 10 ((S.1 0 10) + 1))  G (lv_sub hl [1, 2, 3, 0] rfl) h
    · replace h := h.2 c_16
      obtain ⟨k170, h⟩ := h
      exact wC0_goes_L170 Ft v1 v2 t0  k170  S _ _ _ G (lv_sub hl [1, 2, 3, 0] rfl) h
  · replace h := h.2 c_15
    obtain ⟨k127, h⟩ := h
    exact wC0_goes_L127 Ft v1 v2 t0  k127  S _ _ _ G (lv_sub hl [1, 2, 3, 0] rfl) h
set_option maxHeartbeats 4000000 in
set_option maxRecDepth 100000 in
theorem wC0_goes_p121 {p : Program} {l : Launch} {e : Env} {s : State} {m : MethodId} {args : Array Value} {below : List Frame} {meth : Method} {c : Code} {D : va_G} {a : Nat → Nat} {d : Nat → ClassId} {A : Nat → Prop} {Q : CS → Prop} {E : Nat → CS → Prop}  (Ft : FT p s m meth c args D a d A RX0 cX0_goes 5 none) (v1 : Int32) (v2 : Int32) (S : CS)  {H : Heap} {locs : List Loc} {ls : Array Slot} (G : GC D a d A s.heap S H locs) (hl : lv_has ls 5 [(0, .ref (a 0)), (1, .int v1), (2, .int v2)]) (h : C0_goes_p121 Q E v1 v2 S) : wTv p l e rmX0_goes s m args below meth c D a d A Q E 0 0 H locs 0 0 (F0 m 121 ls []) := by
  have F := Ft.1
  obtain ⟨hx, hb, hr, hml, hown, hts, hlocks, hA, hK, hN⟩ := id F
  unfold C0_goes_p121 at h
  refine lv_iconst (v := 0) hx hb dX0_goes_121 (by decide) ?_
  exact wC0_goes_p122 Ft v1 v2 0 S  G (lv_sub hl [0, 1, 2] rfl) h
set_option maxHeartbeats 4000000 in
set_option maxRecDepth 100000 in
theorem wC0_goes_p90 {p : Program} {l : Launch} {e : Env} {s : State} {m : MethodId} {args : Array Value} {below : List Frame} {meth : Method} {c : Code} {D : va_G} {a : Nat → Nat} {d : Nat → ClassId} {A : Nat → Prop} {Q : CS → Prop} {E : Nat → CS → Prop}  (Ft : FT p s m meth c args D a d A RX0 cX0_goes 5 none) (v1 : Int32) (t0 : Int32) (S : CS)  {H : Heap} {locs : List Loc} {ls : Array Slot} (G : GC D a d A s.heap S H locs) (hl : lv_has ls 5 [(0, .ref (a 0)), (1, .int v1)]) (h : C0_goes_p90 Q E v1 t0 S) : wTv p l e rmX0_goes s m args below meth c D a d A Q E 0 0 H locs 0 0 (F0 m 90 ls [.int t0]) := by
  have F := Ft.1
  obtain ⟨hx, hb, hr, hml, hown, hts, hlocks, hA, hK, hN⟩ := id F
  unfold C0_goes_p90 at h
  refine lv_istore_n (lv' := [(2, .int t0), (0, .ref (a 0)), (1, .int v1)]) hx hb dX0_goes_90 rfl hl (by decide) rfl (fun ls hl => ?_)
  refine lv_aload_n hx hb dX0_goes_91 rfl (lv_at hl 1 rfl) ?_
  refine cgX0_0_from F G dX0_goes_92 ?_
  refine lv_aload_n hx hb dX0_goes_95 rfl (lv_at hl 1 rfl) ?_
  refine cgX0_0_end F G dX0_goes_96 ?_
  refine lv_icmp_ge (tgt := 121) hx hb dX0_goes_99 (by decide) (fun c_10 => ?_) (fun c_10 => ?_)
  · replace h := h.1 c_10
    exact wC0_goes_p121 Ft v1 t0 S  G (lv_sub hl [1, 2, 0] rfl) h
  · replace h := h.2 c_10
    refine lv_aload_n hx hb dX0_goes_102 rfl (lv_at hl 1 rfl) ?_
    refine cgX0_0_tape F G dX0_goes_103 ?_
    refine lv_aload_n hx hb dX0_goes_106 rfl (lv_at hl 1 rfl) ?_
    refine cgX0_0_from F G dX0_goes_107 ?_
    obtain ⟨b_11, h⟩ := h
    refine c_baload F G cI_22 b_11 dX0_goes_110 ?_
    refine kX0_C0_isDigit F G hl.1 ⟨(Nat.le_of_ble_eq_true rfl), (Nat.le_of_ble_eq_true rfl)⟩ ⟨(Nat.le_of_ble_eq_true rfl), (Nat.le_of_ble_eq_true rfl)⟩ (Nat.le_of_ble_eq_true rfl) dX0_goes_111 h (fun r_12 S_13 H locs G h => ?_)
    refine lv_if_eq (tgt := 121) hx hb dX0_goes_114 (by decide) (fun c_14 => ?_) (fun c_14 => ?_)
    · replace h := h.1 c_14
      exact wC0_goes_p121 Ft v1 t0 S_13  G (lv_sub hl [1, 2, 0] rfl) h
    · replace h := h.2 c_14
      refine lv_iconst (v := 1) hx hb dX0_goes_117 (by decide) ?_
      refine lv_goto (tgt := 122) hx hb dX0_goes_118 (by decide) ?_
      exact wC0_goes_p122 Ft v1 t0 1 S_13  G (lv_sub hl [1, 2, 0] rfl) h
set_option maxHeartbeats 4000000 in
set_option maxRecDepth 100000 in
theorem wC0_goes_p89 {p : Program} {l : Launch} {e : Env} {s : State} {m : MethodId} {args : Array Value} {below : List Frame} {meth : Method} {c : Code} {D : va_G} {a : Nat → Nat} {d : Nat → ClassId} {A : Nat → Prop} {Q : CS → Prop} {E : Nat → CS → Prop}  (Ft : FT p s m meth c args D a d A RX0 cX0_goes 5 none) (v1 : Int32) (S : CS)  {H : Heap} {locs : List Loc} {ls : Array Slot} (G : GC D a d A s.heap S H locs) (hl : lv_has ls 5 [(0, .ref (a 0)), (1, .int v1)]) (h : C0_goes_p89 Q E v1 S) : wTv p l e rmX0_goes s m args below meth c D a d A Q E 0 0 H locs 0 0 (F0 m 89 ls []) := by
  have F := Ft.1
  obtain ⟨hx, hb, hr, hml, hown, hts, hlocks, hA, hK, hN⟩ := id F
  unfold C0_goes_p89 at h
  refine lv_iconst (v := 0) hx hb dX0_goes_89 (by decide) ?_
  exact wC0_goes_p90 Ft v1 0 S  G (lv_sub hl [0, 1] rfl) h
set_option maxHeartbeats 4000000 in
set_option maxRecDepth 100000 in
theorem wC0_goes_p51 {p : Program} {l : Launch} {e : Env} {s : State} {m : MethodId} {args : Array Value} {below : List Frame} {meth : Method} {c : Code} {D : va_G} {a : Nat → Nat} {d : Nat → ClassId} {A : Nat → Prop} {Q : CS → Prop} {E : Nat → CS → Prop}  (Ft : FT p s m meth c args D a d A RX0 cX0_goes 5 none) (v1 : Int32) (S : CS)  {H : Heap} {locs : List Loc} {ls : Array Slot} (G : GC D a d A s.heap S H locs) (hl : lv_has ls 5 [(0, .ref (a 0)), (1, .int v1)]) (h : C0_goes_p51 Q E v1 S) : wTv p l e rmX0_goes s m args below meth c D a d A Q E 0 0 H locs 0 0 (F0 m 51 ls []) := by
  have F := Ft.1
  obtain ⟨hx, hb, hr, hml, hown, hts, hlocks, hA, hK, hN⟩ := id F
  unfold C0_goes_p51 at h
  refine lv_aload_n hx hb dX0_goes_51 rfl (lv_at hl 0 rfl) ?_
  refine lv_aload_n hx hb dX0_goes_52 rfl (lv_at hl 0 rfl) ?_
  refine cgX0_0_from F G dX0_goes_53 ?_
  refine cpX0_0_to F G dX0_goes_56 (fun H locs G => ?_)
  refine lv_aload_n hx hb dX0_goes_59 rfl (lv_at hl 0 rfl) ?_
  refine cgX0_0_from F G dX0_goes_60 ?_
  refine lv_aload_n hx hb dX0_goes_63 rfl (lv_at hl 0 rfl) ?_
  refine cgX0_0_end F G dX0_goes_64 ?_
  refine lv_icmp_ge (tgt := 89) hx hb dX0_goes_67 (by decide) (fun c_5 => ?_) (fun c_5 => ?_)
  · replace h := h.1 c_5
    exact wC0_goes_p89 Ft v1 (cF S 0 10 (S.1 0 9))  G (lv_sub hl [0, 1] rfl) h
  · replace h := h.2 c_5
    refine lv_aload_n hx hb dX0_goes_70 rfl (lv_at hl 0 rfl) ?_
    refine cgX0_0_tape F G dX0_goes_71 ?_
    refine lv_aload_n hx hb dX0_goes_74 rfl (lv_at hl 0 rfl) ?_
    refine cgX0_0_from F G dX0_goes_75 ?_
    obtain ⟨b_6, h⟩ := h
    refine c_baload F G cI_22 b_6 dX0_goes_78 ?_
    refine kX0_C0_isLetter F G hl.1 ⟨(Nat.le_of_ble_eq_true rfl), (Nat.le_of_ble_eq_true rfl)⟩ ⟨(Nat.le_of_ble_eq_true rfl), (Nat.le_of_ble_eq_true rfl)⟩ (Nat.le_of_ble_eq_true rfl) dX0_goes_79 h (fun r_7 S_8 H locs G h => ?_)
    refine lv_if_eq (tgt := 89) hx hb dX0_goes_82 (by decide) (fun c_9 => ?_) (fun c_9 => ?_)
    · replace h := h.1 c_9
      exact wC0_goes_p89 Ft v1 S_8  G (lv_sub hl [0, 1] rfl) h
    · replace h := h.2 c_9
      refine lv_iconst (v := 1) hx hb dX0_goes_85 (by decide) ?_
      refine lv_goto (tgt := 90) hx hb dX0_goes_86 (by decide) ?_
      exact wC0_goes_p90 Ft v1 1 S_8  G (lv_sub hl [0, 1] rfl) h
set_option maxHeartbeats 4000000 in
set_option maxRecDepth 100000 in
theorem wC0_goes_L13 {p : Program} {l : Launch} {e : Env} {s : State} {m : MethodId} {args : Array Value} {below : List Frame} {meth : Method} {c : Code} {D : va_G} {a : Nat → Nat} {d : Nat → ClassId} {A : Nat → Prop} {Q : CS → Prop} {E : Nat → CS → Prop}  (Ft : FT p s m meth c args D a d A RX0 cX0_goes 5 none) (v1 : Int32)  :
    ∀ (n : Nat)  (S : CS) (H : Heap) (locs : List Loc) (ls : Array Slot), GC D a d A s.heap S H locs → lv_has ls 5 [(0, .ref (a 0)), (1, .int v1)] → C0_goes_L13 Q E v1 n S → wTv p l e rmX0_goes s m args below meth c D a d A Q E 0 0 H locs 0 0 (F0 m 13 ls []) := by
  have F := Ft.1
  obtain ⟨hx, hb, hr, hml, hown, hts, hlocks, hA, hK, hN⟩ := id F
  intro n
  induction n with
  | zero => intro  S H locs ls G hl h; exact absurd h (fun q => q)
  | succ n ih =>
    intro  S H locs ls G hl h
    unfold C0_goes_L13 at h
    refine lv_aload_n hx hb dX0_goes_13 rfl (lv_at hl 0 rfl) ?_
    refine cgX0_0_from F G dX0_goes_14 ?_
    refine lv_aload_n hx hb dX0_goes_17 rfl (lv_at hl 0 rfl) ?_
    refine cgX0_0_end F G dX0_goes_18 ?_
    refine lv_icmp_ge (tgt := 51) hx hb dX0_goes_21 (by decide) (fun c_2 => ?_) (fun c_2 => ?_)
    · replace h := h.1 c_2
      exact wC0_goes_p51 Ft v1 S  G (lv_sub hl [0, 1] rfl) h
    · replace h := h.2 c_2
      refine lv_aload_n hx hb dX0_goes_24 rfl (lv_at hl 0 rfl) ?_
      refine cgX0_0_tape F G dX0_goes_25 ?_
      refine lv_aload_n hx hb dX0_goes_28 rfl (lv_at hl 0 rfl) ?_
      refine cgX0_0_from F G dX0_goes_29 ?_
      obtain ⟨b_3, h⟩ := h
      refine c_baload F G cI_22 b_3 dX0_goes_32 ?_
      refine lv_bipush (v := 32) hx hb dX0_goes_33 (by decide) ?_
      refine lv_icmp_ne (tgt := 51) hx hb dX0_goes_35 (by decide) (fun c_4 => ?_) (fun c_4 => ?_)
      · replace h := h.1 c_4
        exact wC0_goes_p51 Ft v1 S  G (lv_sub hl [0, 1] rfl) h
      · replace h := h.2 c_4
        refine lv_aload_n hx hb dX0_goes_38 rfl (lv_at hl 0 rfl) ?_
        refine lv_dup hx hb dX0_goes_39 rfl ?_
        refine cgX0_0_from F G dX0_goes_40 ?_
        refine lv_iconst (v := 1) hx hb dX0_goes_43 (by decide) ?_
        refine lv_iadd hx hb dX0_goes_44 ?_
        refine cpX0_0_from F G dX0_goes_45 (fun H locs G => ?_)
        refine lv_goto (tgt := 13) hx hb dX0_goes_48 (by decide) ?_
        exact ih  (cF S 0 9 ((S.1 0 9) + 1)) _ _ _ G (lv_sub hl [0, 1] rfl) h
set_option maxHeartbeats 4000000 in
set_option maxRecDepth 100000 in
theorem wC0_goes {l : Launch} {D : va_G} {a : Nat → Nat} {d : Nat → ClassId} (sz : Nat)  (S : CS) (Q : CS → Prop) (E : Nat → CS → Prop) (h : C0_goes  S Q E) : CTv l D a d yX0_goes cX0_goes 5 rmX0_goes 0 0 [.ref (a 0)] sz S Q E := by
  refine t_enter (Qc := fun A => QTv Q E (BC D a d A) A) RX0 (by decide +kernel) rfl (Nat.le_of_ble_eq_true rfl) ?_
  intro p e s m below meth c ls A Ft hG hl
  have G := hG
  have hl : lv_has ls 5 [(0, .ref (a 0))] := hl
  have F := Ft.1
  obtain ⟨hx, hb, hr, hml, hown, hts, hlocks, hA, hK, hN⟩ := id F
  unfold C0_goes at h
  refine lv_aload_n hx hb dX0_goes_0 rfl (lv_at hl 0 rfl) ?_
  refine cgX0_0_to F G dX0_goes_1 ?_
  refine lv_topi (fun x_1 ex_1 => ?_)
  replace h := h x_1 ex_1
  refine lv_istore_n (lv' := [(1, .int x_1), (0, .ref (a 0))]) hx hb dX0_goes_4 rfl hl (by decide) rfl (fun ls hl => ?_)
  refine lv_aload_n hx hb dX0_goes_5 rfl (lv_at hl 1 rfl) ?_
  refine lv_aload_n hx hb dX0_goes_6 rfl (lv_at hl 1 rfl) ?_
  refine cgX0_0_to F G dX0_goes_7 ?_
  refine cpX0_0_from F G dX0_goes_10 (fun H locs G => ?_)
  obtain ⟨k13, h⟩ := h
  exact wC0_goes_L13 Ft x_1  k13  (cF S 0 9 (S.1 0 10)) _ _ _ G (lv_sub hl [1, 0] rfl) h
set_option maxHeartbeats 4000000 in
set_option maxRecDepth 100000 in
theorem kX0_C0_goes {p : Program} {l : Launch} {e : Env} {s : State} {m : MethodId} {R : Room} {args : Array Value} {below : List Frame} {meth : Method} {c : Code} {D : va_G} {a : Nat → Nat} {d : Nat → ClassId} {A : Nat → Prop} {Q : State → Prop} {cc : ByteArray} {nL pc cells slots : Nat} {ret : Option FieldType} {ls : Array Slot} {rest : List Value}  {S : CS} {H : Heap} {locs : List Loc} {Q1 : CS → Prop} {E1 : Nat → CS → Prop} (F : FC p s m meth c args D a d A RX0 cc nL ret) (G : GC D a d A s.heap S H locs) (hsz : ls.size = nL) (hR : rmX0_goes.frames + 1 ≤ R.frames ∧ 8 + (5 + 11) + rmX0_goes.locals ≤ R.locals) (hc : cells + 0 ≤ R.cells ∧ slots + 0 ≤ R.slots) (hW : (rest.map fun v => v.category).sum ≤ 8) (hd : decode cc pc = .ok (.invokevirtual 166, 3)) (h : C0_goes  S Q1 E1) (k : ∀ (S1 : CS) (H : Heap) (locs : List Loc), GC D a d A s.heap S1 H locs → Q1 S1 → W p l e R s m args below meth c H locs cells slots Q (F0 m (pc + 3) ls rest)) (kx : ∀ (z : Nat) (S1 : CS) (H : Heap) (locs : List Loc), GC D a d A s.heap S1 H locs → E1 z S1 → WX p l e R s m args below meth c H locs cells slots Q (F0 m pc ls rest) z) : W p l e R s m args below meth c H locs cells slots Q (F0 m pc ls (.ref (a 0) :: rest)) := by
  obtain ⟨hx, hb, hr, hml, hown, hts, hlocks, hA, hK, hN⟩ := id F
  exact t_callVv (n := 0) (As := []) (rt := .int) F G hsz (wC0_goes H.size  S Q1 E1 h) q377 q379 qs3 q82 q380 (va_recv hK G.1 (ci := 0) (q0 := 0) rfl rfl) (by decide +kernel) rfl rfl rfl rfl hR hc hW hd k kx
/-! StrokesHeard.number -/
def C0_number_L50 (Q : Int32 → CS → Prop) (E : Nat → CS → Prop)   : Nat → Int32 → Int32 → CS → Prop
  | 0, _, _, _ => False
  | n + 1, v1, v2, S => ((S.1 0 10) ≤ v2 → C0_goes  S (fun S_12 => Q v1 S_12) E) ∧ (¬ (S.1 0 10) ≤ v2 → vp_in v2 96 ∧ (∀ x_14 : Int32, x_14 = (((10 * v1) + (S.1 22 (v2.toNatClampNeg))) - 48) → C0_number_L50 Q E n x_14 (v2 + 1) S))
def C0_number_p43 (Q : Int32 → CS → Prop) (E : Nat → CS → Prop)   (S : CS) : Prop := ∀ x_9 : Int32, x_9 = (S.1 0 9) → ∃ k50, C0_number_L50 Q E k50 0 x_9 S
def C0_number_p39 (Q : Int32 → CS → Prop) (E : Nat → CS → Prop)   (S : CS) : Prop := C0_wrong  S (fun S_8 => C0_number_p43 Q E  S_8) E
def C0_number  (S : CS) (Q : Int32 → CS → Prop) (E : Nat → CS → Prop) : Prop := ((S.1 0 9) = (S.1 0 11) → C0_number_p39 Q E  S) ∧ (¬ (S.1 0 9) = (S.1 0 11) → vp_in (S.1 0 9) 96 ∧ (C0_isDigit (S.1 22 ((S.1 0 9).toNatClampNeg)) S (fun r_3 S_4 => (r_3 = 0 → C0_number_p39 Q E  S_4) ∧ (¬ r_3 = 0 → (((S_4.1 0 10) - (S_4.1 0 9)) ≤ 4 → C0_number_p43 Q E  S_4) ∧ (¬ ((S_4.1 0 10) - (S_4.1 0 9)) ≤ 4 → C0_number_p39 Q E  S_4)))))
abbrev rmX0_number : Room := { frames := 3, cells := 0, slots := 0, locals := 66 }
set_option maxHeartbeats 4000000 in
set_option maxRecDepth 100000 in
theorem wC0_number_L50 {p : Program} {l : Launch} {e : Env} {s : State} {m : MethodId} {args : Array Value} {below : List Frame} {meth : Method} {c : Code} {D : va_G} {a : Nat → Nat} {d : Nat → ClassId} {A : Nat → Prop} {Q : Int32 → CS → Prop} {E : Nat → CS → Prop}  (Ft : FT p s m meth c args D a d A RX0 cX0_number 3 (some .int))   :
    ∀ (n : Nat) (v1 : Int32) (v2 : Int32) (S : CS) (H : Heap) (locs : List Loc) (ls : Array Slot), GC D a d A s.heap S H locs → lv_has ls 3 [(0, .ref (a 0)), (1, .int v1), (2, .int v2)] → C0_number_L50 Q E n v1 v2 S → wTi p l e rmX0_number s m args below meth c D a d A Q E 0 0 H locs 0 0 (F0 m 50 ls []) := by
  have F := Ft.1
  obtain ⟨hx, hb, hr, hml, hown, hts, hlocks, hA, hK, hN⟩ := id F
  intro n
  induction n with
  | zero => intro v1 v2 S H locs ls G hl h; exact absurd h (fun q => q)
  | succ n ih =>
    intro v1 v2 S H locs ls G hl h
    unfold C0_number_L50 at h
    refine lv_iload_n hx hb dX0_number_50 rfl (lv_at hl 2 rfl) ?_
    refine lv_aload_n hx hb dX0_number_51 rfl (lv_at hl 0 rfl) ?_
    refine cgX0_0_to F G dX0_number_52 ?_
    refine lv_icmp_ge (tgt := 79) hx hb dX0_number_55 (by decide) (fun c_10 => ?_) (fun c_10 => ?_)
    · replace h := h.1 c_10
      refine lv_aload_n hx hb dX0_number_79 rfl (lv_at hl 0 rfl) ?_
      refine kX0_C0_goes F G hl.1 ⟨(Nat.le_of_ble_eq_true rfl), (Nat.le_of_ble_eq_true rfl)⟩ ⟨(Nat.le_of_ble_eq_true rfl), (Nat.le_of_ble_eq_true rfl)⟩ (Nat.le_of_ble_eq_true rfl) dX0_number_80 h (fun S_12 H locs G h => ?_) (fun z S1 H locs G h => WX.widen (k := 0) (n := 0) (Nat.le_of_ble_eq_true rfl) (Nat.le_of_ble_eq_true rfl) (t_outi Ft G h))
      refine lv_iload_n hx hb dX0_number_83 rfl (lv_at hl 1 rfl) ?_
      exact t_iret Ft G dX0_number_84 h
    · replace h := h.2 c_10
      refine lv_bipush (v := 10) hx hb dX0_number_58 (by decide) ?_
      refine lv_iload_n hx hb dX0_number_60 rfl (lv_at hl 1 rfl) ?_
      refine lv_imul hx hb dX0_number_61 ?_
      refine lv_aload_n hx hb dX0_number_62 rfl (lv_at hl 0 rfl) ?_
      refine cgX0_0_tape F G dX0_number_63 ?_
      refine lv_iload_n hx hb dX0_number_66 rfl (lv_at hl 2 rfl) ?_
      obtain ⟨b_13, h⟩ := h
      refine c_baload F G cI_22 b_13 dX0_number_67 ?_
      refine lv_iadd hx hb dX0_number_68 ?_
      refine lv_bipush (v := 48) hx hb dX0_number_69 (by decide) ?_
      refine lv_isub hx hb dX0_number_71 ?_
      refine lv_topi (fun x_14 ex_14 => ?_)
      replace h := h x_14 ex_14
      refine lv_istore_n (lv' := [(1, .int x_14), (0, .ref (a 0)), (2, .int v2)]) hx hb dX0_number_72 rfl hl (by decide) rfl (fun ls hl => ?_)
      refine lv_iinc (v := (v2 + 1)) (lv' := [(2, .int (v2 + 1)), (1, .int x_14), (0, .ref (a 0))]) hx hb dX0_number_73 hl (k := 2) rfl rfl (by decide) rfl (fun ls hl => ?_)
      refine lv_goto (tgt := 50) hx hb dX0_number_76 (by decide) ?_
      exact ih x_14 (v2 + 1) S _ _ _ G (lv_sub hl [2, 1, 0] rfl) h
set_option maxHeartbeats 4000000 in
set_option maxRecDepth 100000 in
theorem wC0_number_p43 {p : Program} {l : Launch} {e : Env} {s : State} {m : MethodId} {args : Array Value} {below : List Frame} {meth : Method} {c : Code} {D : va_G} {a : Nat → Nat} {d : Nat → ClassId} {A : Nat → Prop} {Q : Int32 → CS → Prop} {E : Nat → CS → Prop}  (Ft : FT p s m meth c args D a d A RX0 cX0_number 3 (some .int))  (S : CS)  {H : Heap} {locs : List Loc} {ls : Array Slot} (G : GC D a d A s.heap S H locs) (hl : lv_has ls 3 [(0, .ref (a 0))]) (h : C0_number_p43 Q E S) : wTi p l e rmX0_number s m args below meth c D a d A Q E 0 0 H locs 0 0 (F0 m 43 ls []) := by
  have F := Ft.1
  obtain ⟨hx, hb, hr, hml, hown, hts, hlocks, hA, hK, hN⟩ := id F
  unfold C0_number_p43 at h
  refine lv_iconst (v := 0) hx hb dX0_number_43 (by decide) ?_
  refine lv_istore_n (lv' := [(1, .int 0), (0, .ref (a 0))]) hx hb dX0_number_44 rfl hl (by decide) rfl (fun ls hl => ?_)
  refine lv_aload_n hx hb dX0_number_45 rfl (lv_at hl 1 rfl) ?_
  refine cgX0_0_from F G dX0_number_46 ?_
  refine lv_topi (fun x_9 ex_9 => ?_)
  replace h := h x_9 ex_9
  refine lv_istore_n (lv' := [(2, .int x_9), (1, .int 0), (0, .ref (a 0))]) hx hb dX0_number_49 rfl hl (by decide) rfl (fun ls hl => ?_)
  obtain ⟨k50, h⟩ := h
  exact wC0_number_L50 Ft   k50 0 x_9 S _ _ _ G (lv_sub hl [2, 1, 0] rfl) h
set_option maxHeartbeats 4000000 in
set_option maxRecDepth 100000 in
theorem wC0_number_p39 {p : Program} {l : Launch} {e : Env} {s : State} {m : MethodId} {args : Array Value} {below : List Frame} {meth : Method} {c : Code} {D : va_G} {a : Nat → Nat} {d : Nat → ClassId} {A : Nat → Prop} {Q : Int32 → CS → Prop} {E : Nat → CS → Prop}  (Ft : FT p s m meth c args D a d A RX0 cX0_number 3 (some .int))  (S : CS)  {H : Heap} {locs : List Loc} {ls : Array Slot} (G : GC D a d A s.heap S H locs) (hl : lv_has ls 3 [(0, .ref (a 0))]) (h : C0_number_p39 Q E S) : wTi p l e rmX0_number s m args below meth c D a d A Q E 0 0 H locs 0 0 (F0 m 39 ls []) := by
  have F := Ft.1
  obtain ⟨hx, hb, hr, hml, hown, hts, hlocks, hA, hK, hN⟩ := id F
  unfold C0_number_p39 at h
  refine lv_aload_n hx hb dX0_number_39 rfl (lv_at hl 0 rfl) ?_
  refine kX0_C0_wrong F G hl.1 ⟨(Nat.le_of_ble_eq_true rfl), (Nat.le_of_ble_eq_true rfl)⟩ ⟨(Nat.le_of_ble_eq_true rfl), (Nat.le_of_ble_eq_true rfl)⟩ (Nat.le_of_ble_eq_true rfl) dX0_number_40 h (fun S_8 H locs G h => ?_) (fun z S1 H locs G h => WX.widen (k := 0) (n := 0) (Nat.le_of_ble_eq_true rfl) (Nat.le_of_ble_eq_true rfl) (t_outi Ft G h))
  exact wC0_number_p43 Ft  S_8  G (lv_sub hl [0] rfl) h
set_option maxHeartbeats 4000000 in
set_option maxRecDepth 100000 in
theorem wC0_number {l : Launch} {D : va_G} {a : Nat → Nat} {d : Nat → ClassId} (sz : Nat)  (S : CS) (Q : Int32 → CS → Prop) (E : Nat → CS → Prop) (h : C0_number  S Q E) : CTi l D a d yX0_number cX0_number 3 .int rmX0_number 0 0 [.ref (a 0)] sz S Q E := by
  refine t_enter (Qc := fun A => QTi Q E (BC D a d A) A) RX0 (by decide +kernel) rfl (Nat.le_of_ble_eq_true rfl) ?_
  intro p e s m below meth c ls A Ft hG hl
  have G := hG
  have hl : lv_has ls 3 [(0, .ref (a 0))] := hl
  have F := Ft.1
  obtain ⟨hx, hb, hr, hml, hown, hts, hlocks, hA, hK, hN⟩ := id F
  unfold C0_number at h
  refine lv_aload_n hx hb dX0_number_0 rfl (lv_at hl 0 rfl) ?_
  refine cgX0_0_from F G dX0_number_1 ?_
  refine lv_aload_n hx hb dX0_number_4 rfl (lv_at hl 0 rfl) ?_
  refine cgX0_0_end F G dX0_number_5 ?_
  refine lv_icmp_eq (tgt := 39) hx hb dX0_number_8 (by decide) (fun c_1 => ?_) (fun c_1 => ?_)
  · replace h := h.1 c_1
    exact wC0_number_p39 Ft  S  G (lv_sub hl [0] rfl) h
  · replace h := h.2 c_1
    refine lv_aload_n hx hb dX0_number_11 rfl (lv_at hl 0 rfl) ?_
    refine cgX0_0_tape F G dX0_number_12 ?_
    refine lv_aload_n hx hb dX0_number_15 rfl (lv_at hl 0 rfl) ?_
    refine cgX0_0_from F G dX0_number_16 ?_
    obtain ⟨b_2, h⟩ := h
    refine c_baload F G cI_22 b_2 dX0_number_19 ?_
    refine kX0_C0_isDigit F G hl.1 ⟨(Nat.le_of_ble_eq_true rfl), (Nat.le_of_ble_eq_true rfl)⟩ ⟨(Nat.le_of_ble_eq_true rfl), (Nat.le_of_ble_eq_true rfl)⟩ (Nat.le_of_ble_eq_true rfl) dX0_number_20 h (fun r_3 S_4 H locs G h => ?_)
    refine lv_if_eq (tgt := 39) hx hb dX0_number_23 (by decide) (fun c_5 => ?_) (fun c_5 => ?_)
    · replace h := h.1 c_5
      exact wC0_number_p39 Ft  S_4  G (lv_sub hl [0] rfl) h
    · replace h := h.2 c_5
      refine lv_aload_n hx hb dX0_number_26 rfl (lv_at hl 0 rfl) ?_
      refine cgX0_0_to F G dX0_number_27 ?_
      refine lv_aload_n hx hb dX0_number_30 rfl (lv_at hl 0 rfl) ?_
      refine cgX0_0_from F G dX0_number_31 ?_
      refine lv_isub hx hb dX0_number_34 ?_
      refine lv_iconst (v := 4) hx hb dX0_number_35 (by decide) ?_
      refine lv_icmp_le (tgt := 43) hx hb dX0_number_36 (by decide) (fun c_6 => ?_) (fun c_6 => ?_)
      · replace h := h.1 c_6
        exact wC0_number_p43 Ft  S_4  G (lv_sub hl [0] rfl) h
      · replace h := h.2 c_6
        exact wC0_number_p39 Ft  S_4  G (lv_sub hl [0] rfl) h
abbrev rmC (dd : Nat) : Room := { frames := dd + 4, cells := 0, slots := 0, locals := dd * 22 + 88 }
theorem rr_okC {f lo dd : Nat} (h1 : f + 1 ≤ 4) (h2 : lo ≤ 88) : f + 1 ≤ (rmC (dd + 1)).frames ∧ lo ≤ (rmC (dd + 1)).locals := ⟨Nat.le_trans h1 (by show 4 ≤ dd + 1 + 4; omega), Nat.le_trans h2 (by show 88 ≤ (dd + 1) * 22 + 88; omega)⟩
def RecOkC (l : Launch) (D : va_G) (a : Nat → Nat) (d : Nat → ClassId) (RR : Nat → Nat → CS → (CS → Prop) → (Nat → CS → Prop) → Prop) (dd : Nat) : Prop := (∀ (y1 : Nat) (S : CS) (Q : CS → Prop) (E : Nat → CS → Prop) (sz : Nat), RR 0 y1 S Q E → CTv l D a d yX0_or cX0_or 2 (rmC dd) 0 0 [.ref (a 0), .ref y1] sz S Q E) ∧ (∀ (y1 : Nat) (S : CS) (Q : CS → Prop) (E : Nat → CS → Prop) (sz : Nat), RR 1 y1 S Q E → CTv l D a d yX0_and cX0_and 2 (rmC dd) 0 0 [.ref (a 0), .ref y1] sz S Q E) ∧ (∀ (y1 : Nat) (S : CS) (Q : CS → Prop) (E : Nat → CS → Prop) (sz : Nat), RR 2 y1 S Q E → CTv l D a d yX0_test cX0_test 3 (rmC dd) 0 0 [.ref (a 0), .ref y1] sz S Q E) ∧ (∀ (y1 : Nat) (S : CS) (Q : CS → Prop) (E : Nat → CS → Prop) (sz : Nat), RR 3 y1 S Q E → CTv l D a d yX0_sum cX0_sum 3 (rmC dd) 0 0 [.ref (a 0), .ref y1] sz S Q E) ∧ (∀ (y1 : Nat) (S : CS) (Q : CS → Prop) (E : Nat → CS → Prop) (sz : Nat), RR 4 y1 S Q E → CTv l D a d yX0_term cX0_term 3 (rmC dd) 0 0 [.ref (a 0), .ref y1] sz S Q E) ∧ (∀ (y1 : Nat) (S : CS) (Q : CS → Prop) (E : Nat → CS → Prop) (sz : Nat), RR 5 y1 S Q E → CTv l D a d yX0_piece cX0_piece 2 (rmC dd) 0 0 [.ref (a 0), .ref y1] sz S Q E)
set_option maxHeartbeats 4000000 in
set_option maxRecDepth 100000 in
theorem kCR_0 {p : Program} {l : Launch} {e : Env} {s : State} {m : MethodId} {args : Array Value} {below : List Frame} {meth : Method} {c : Code} {D : va_G} {a : Nat → Nat} {d : Nat → ClassId} {A : Nat → Prop} {RR : Nat → Nat → CS → (CS → Prop) → (Nat → CS → Prop) → Prop} {dd : Nat} {Q : State → Prop} {cc : ByteArray} {nL pc cells slots : Nat} {ret : Option FieldType} {ls : Array Slot} {rest : List Value} {y1 : Nat} {S : CS} {H : Heap} {locs : List Loc} {Q1 : CS → Prop} {E1 : Nat → CS → Prop} (hRR : RecOkC l D a d RR dd) (F : FC p s m meth c args D a d A RX0 cc nL ret) (G : GC D a d A s.heap S H locs) (hsz : ls.size = nL) (hc0 : cells = 0) (hc1 : slots = 0) (hW : (rest.map fun v => v.category).sum ≤ 8) (hd : decode cc pc = .ok (.invokevirtual 170, 3)) (h : RR 0 y1 S Q1 E1) (k : ∀ (S1 : CS) (H : Heap) (locs : List Loc), GC D a d A s.heap S1 H locs → Q1 S1 → W p l e (rmC (dd + 1)) s m args below meth c H locs cells slots Q (F0 m (pc + 3) ls rest)) (kx : ∀ (z : Nat) (S1 : CS) (H : Heap) (locs : List Loc), GC D a d A s.heap S1 H locs → E1 z S1 → WX p l e (rmC (dd + 1)) s m args below meth c H locs cells slots Q (F0 m pc ls rest) z) : W p l e (rmC (dd + 1)) s m args below meth c H locs cells slots Q (F0 m pc ls (.ref y1 :: .ref (a 0) :: rest)) := by
  obtain ⟨hx, hb, hr, hml, hown, hts, hlocks, hA, hK, hN⟩ := id F
  exact t_callVv (n := 1) (As := [.ref y1]) (rt := .int) F G hsz (hRR.1 y1 S Q1 E1 H.size h) q473 q475 qs8 q82 q476 (va_recv hK G.1 (ci := 0) (q0 := 0) rfl rfl) (by decide +kernel) rfl rfl rfl rfl ⟨by show dd + 4 + 1 ≤ dd + 1 + 4; omega, by show 8 + (2 + 11) + (dd * 22 + 88) ≤ (dd + 1) * 22 + 88; omega⟩ ⟨Nat.le_of_eq (by show cells + 0 = 0; omega), Nat.le_of_eq (by show slots + 0 = 0; omega)⟩ hW hd k kx
set_option maxHeartbeats 4000000 in
set_option maxRecDepth 100000 in
theorem kCR_1 {p : Program} {l : Launch} {e : Env} {s : State} {m : MethodId} {args : Array Value} {below : List Frame} {meth : Method} {c : Code} {D : va_G} {a : Nat → Nat} {d : Nat → ClassId} {A : Nat → Prop} {RR : Nat → Nat → CS → (CS → Prop) → (Nat → CS → Prop) → Prop} {dd : Nat} {Q : State → Prop} {cc : ByteArray} {nL pc cells slots : Nat} {ret : Option FieldType} {ls : Array Slot} {rest : List Value} {y1 : Nat} {S : CS} {H : Heap} {locs : List Loc} {Q1 : CS → Prop} {E1 : Nat → CS → Prop} (hRR : RecOkC l D a d RR dd) (F : FC p s m meth c args D a d A RX0 cc nL ret) (G : GC D a d A s.heap S H locs) (hsz : ls.size = nL) (hc0 : cells = 0) (hc1 : slots = 0) (hW : (rest.map fun v => v.category).sum ≤ 8) (hd : decode cc pc = .ok (.invokevirtual 174, 3)) (h : RR 1 y1 S Q1 E1) (k : ∀ (S1 : CS) (H : Heap) (locs : List Loc), GC D a d A s.heap S1 H locs → Q1 S1 → W p l e (rmC (dd + 1)) s m args below meth c H locs cells slots Q (F0 m (pc + 3) ls rest)) (kx : ∀ (z : Nat) (S1 : CS) (H : Heap) (locs : List Loc), GC D a d A s.heap S1 H locs → E1 z S1 → WX p l e (rmC (dd + 1)) s m args below meth c H locs cells slots Q (F0 m pc ls rest) z) : W p l e (rmC (dd + 1)) s m args below meth c H locs cells slots Q (F0 m pc ls (.ref y1 :: .ref (a 0) :: rest)) := by
  obtain ⟨hx, hb, hr, hml, hown, hts, hlocks, hA, hK, hN⟩ := id F
  exact t_callVv (n := 1) (As := [.ref y1]) (rt := .int) F G hsz (hRR.2.1 y1 S Q1 E1 H.size h) q477 q479 qs9 q82 q480 (va_recv hK G.1 (ci := 0) (q0 := 0) rfl rfl) (by decide +kernel) rfl rfl rfl rfl ⟨by show dd + 4 + 1 ≤ dd + 1 + 4; omega, by show 8 + (2 + 11) + (dd * 22 + 88) ≤ (dd + 1) * 22 + 88; omega⟩ ⟨Nat.le_of_eq (by show cells + 0 = 0; omega), Nat.le_of_eq (by show slots + 0 = 0; omega)⟩ hW hd k kx
set_option maxHeartbeats 4000000 in
set_option maxRecDepth 100000 in
theorem kCR_2 {p : Program} {l : Launch} {e : Env} {s : State} {m : MethodId} {args : Array Value} {below : List Frame} {meth : Method} {c : Code} {D : va_G} {a : Nat → Nat} {d : Nat → ClassId} {A : Nat → Prop} {RR : Nat → Nat → CS → (CS → Prop) → (Nat → CS → Prop) → Prop} {dd : Nat} {Q : State → Prop} {cc : ByteArray} {nL pc cells slots : Nat} {ret : Option FieldType} {ls : Array Slot} {rest : List Value} {y1 : Nat} {S : CS} {H : Heap} {locs : List Loc} {Q1 : CS → Prop} {E1 : Nat → CS → Prop} (hRR : RecOkC l D a d RR dd) (F : FC p s m meth c args D a d A RX0 cc nL ret) (G : GC D a d A s.heap S H locs) (hsz : ls.size = nL) (hc0 : cells = 0) (hc1 : slots = 0) (hW : (rest.map fun v => v.category).sum ≤ 8) (hd : decode cc pc = .ok (.invokevirtual 184, 3)) (h : RR 2 y1 S Q1 E1) (k : ∀ (S1 : CS) (H : Heap) (locs : List Loc), GC D a d A s.heap S1 H locs → Q1 S1 → W p l e (rmC (dd + 1)) s m args below meth c H locs cells slots Q (F0 m (pc + 3) ls rest)) (kx : ∀ (z : Nat) (S1 : CS) (H : Heap) (locs : List Loc), GC D a d A s.heap S1 H locs → E1 z S1 → WX p l e (rmC (dd + 1)) s m args below meth c H locs cells slots Q (F0 m pc ls rest) z) : W p l e (rmC (dd + 1)) s m args below meth c H locs cells slots Q (F0 m pc ls (.ref y1 :: .ref (a 0) :: rest)) := by
  obtain ⟨hx, hb, hr, hml, hown, hts, hlocks, hA, hK, hN⟩ := id F
  exact t_callVv (n := 1) (As := [.ref y1]) (rt := .int) F G hsz (hRR.2.2.1 y1 S Q1 E1 H.size h) q481 q483 qs10 q82 q484 (va_recv hK G.1 (ci := 0) (q0 := 0) rfl rfl) (by decide +kernel) rfl rfl rfl rfl ⟨by show dd + 4 + 1 ≤ dd + 1 + 4; omega, by show 8 + (3 + 11) + (dd * 22 + 88) ≤ (dd + 1) * 22 + 88; omega⟩ ⟨Nat.le_of_eq (by show cells + 0 = 0; omega), Nat.le_of_eq (by show slots + 0 = 0; omega)⟩ hW hd k kx
set_option maxHeartbeats 4000000 in
set_option maxRecDepth 100000 in
theorem kCR_3 {p : Program} {l : Launch} {e : Env} {s : State} {m : MethodId} {args : Array Value} {below : List Frame} {meth : Method} {c : Code} {D : va_G} {a : Nat → Nat} {d : Nat → ClassId} {A : Nat → Prop} {RR : Nat → Nat → CS → (CS → Prop) → (Nat → CS → Prop) → Prop} {dd : Nat} {Q : State → Prop} {cc : ByteArray} {nL pc cells slots : Nat} {ret : Option FieldType} {ls : Array Slot} {rest : List Value} {y1 : Nat} {S : CS} {H : Heap} {locs : List Loc} {Q1 : CS → Prop} {E1 : Nat → CS → Prop} (hRR : RecOkC l D a d RR dd) (F : FC p s m meth c args D a d A RX0 cc nL ret) (G : GC D a d A s.heap S H locs) (hsz : ls.size = nL) (hc0 : cells = 0) (hc1 : slots = 0) (hW : (rest.map fun v => v.category).sum ≤ 8) (hd : decode cc pc = .ok (.invokevirtual 187, 3)) (h : RR 3 y1 S Q1 E1) (k : ∀ (S1 : CS) (H : Heap) (locs : List Loc), GC D a d A s.heap S1 H locs → Q1 S1 → W p l e (rmC (dd + 1)) s m args below meth c H locs cells slots Q (F0 m (pc + 3) ls rest)) (kx : ∀ (z : Nat) (S1 : CS) (H : Heap) (locs : List Loc), GC D a d A s.heap S1 H locs → E1 z S1 → WX p l e (rmC (dd + 1)) s m args below meth c H locs cells slots Q (F0 m pc ls rest) z) : W p l e (rmC (dd + 1)) s m args below meth c H locs cells slots Q (F0 m pc ls (.ref y1 :: .ref (a 0) :: rest)) := by
  obtain ⟨hx, hb, hr, hml, hown, hts, hlocks, hA, hK, hN⟩ := id F
  exact t_callVv (n := 1) (As := [.ref y1]) (rt := .int) F G hsz (hRR.2.2.2.1 y1 S Q1 E1 H.size h) q485 q487 qs11 q82 q488 (va_recv hK G.1 (ci := 0) (q0 := 0) rfl rfl) (by decide +kernel) rfl rfl rfl rfl ⟨by show dd + 4 + 1 ≤ dd + 1 + 4; omega, by show 8 + (3 + 11) + (dd * 22 + 88) ≤ (dd + 1) * 22 + 88; omega⟩ ⟨Nat.le_of_eq (by show cells + 0 = 0; omega), Nat.le_of_eq (by show slots + 0 = 0; omega)⟩ hW hd k kx
set_option maxHeartbeats 4000000 in
set_option maxRecDepth 100000 in
theorem kCR_4 {p : Program} {l : Launch} {e : Env} {s : State} {m : MethodId} {args : Array Value} {below : List Frame} {meth : Method} {c : Code} {D : va_G} {a : Nat → Nat} {d : Nat → ClassId} {A : Nat → Prop} {RR : Nat → Nat → CS → (CS → Prop) → (Nat → CS → Prop) → Prop} {dd : Nat} {Q : State → Prop} {cc : ByteArray} {nL pc cells slots : Nat} {ret : Option FieldType} {ls : Array Slot} {rest : List Value} {y1 : Nat} {S : CS} {H : Heap} {locs : List Loc} {Q1 : CS → Prop} {E1 : Nat → CS → Prop} (hRR : RecOkC l D a d RR dd) (F : FC p s m meth c args D a d A RX0 cc nL ret) (G : GC D a d A s.heap S H locs) (hsz : ls.size = nL) (hc0 : cells = 0) (hc1 : slots = 0) (hW : (rest.map fun v => v.category).sum ≤ 8) (hd : decode cc pc = .ok (.invokevirtual 190, 3)) (h : RR 4 y1 S Q1 E1) (k : ∀ (S1 : CS) (H : Heap) (locs : List Loc), GC D a d A s.heap S1 H locs → Q1 S1 → W p l e (rmC (dd + 1)) s m args below meth c H locs cells slots Q (F0 m (pc + 3) ls rest)) (kx : ∀ (z : Nat) (S1 : CS) (H : Heap) (locs : List Loc), GC D a d A s.heap S1 H locs → E1 z S1 → WX p l e (rmC (dd + 1)) s m args below meth c H locs cells slots Q (F0 m pc ls rest) z) : W p l e (rmC (dd + 1)) s m args below meth c H locs cells slots Q (F0 m pc ls (.ref y1 :: .ref (a 0) :: rest)) := by
  obtain ⟨hx, hb, hr, hml, hown, hts, hlocks, hA, hK, hN⟩ := id F
  exact t_callVv (n := 1) (As := [.ref y1]) (rt := .int) F G hsz (hRR.2.2.2.2.1 y1 S Q1 E1 H.size h) q489 q491 qs12 q82 q492 (va_recv hK G.1 (ci := 0) (q0 := 0) rfl rfl) (by decide +kernel) rfl rfl rfl rfl ⟨by show dd + 4 + 1 ≤ dd + 1 + 4; omega, by show 8 + (3 + 11) + (dd * 22 + 88) ≤ (dd + 1) * 22 + 88; omega⟩ ⟨Nat.le_of_eq (by show cells + 0 = 0; omega), Nat.le_of_eq (by show slots + 0 = 0; omega)⟩ hW hd k kx
set_option maxHeartbeats 4000000 in
set_option maxRecDepth 100000 in
theorem kCR_5 {p : Program} {l : Launch} {e : Env} {s : State} {m : MethodId} {args : Array Value} {below : List Frame} {meth : Method} {c : Code} {D : va_G} {a : Nat → Nat} {d : Nat → ClassId} {A : Nat → Prop} {RR : Nat → Nat → CS → (CS → Prop) → (Nat → CS → Prop) → Prop} {dd : Nat} {Q : State → Prop} {cc : ByteArray} {nL pc cells slots : Nat} {ret : Option FieldType} {ls : Array Slot} {rest : List Value} {y1 : Nat} {S : CS} {H : Heap} {locs : List Loc} {Q1 : CS → Prop} {E1 : Nat → CS → Prop} (hRR : RecOkC l D a d RR dd) (F : FC p s m meth c args D a d A RX0 cc nL ret) (G : GC D a d A s.heap S H locs) (hsz : ls.size = nL) (hc0 : cells = 0) (hc1 : slots = 0) (hW : (rest.map fun v => v.category).sum ≤ 8) (hd : decode cc pc = .ok (.invokevirtual 193, 3)) (h : RR 5 y1 S Q1 E1) (k : ∀ (S1 : CS) (H : Heap) (locs : List Loc), GC D a d A s.heap S1 H locs → Q1 S1 → W p l e (rmC (dd + 1)) s m args below meth c H locs cells slots Q (F0 m (pc + 3) ls rest)) (kx : ∀ (z : Nat) (S1 : CS) (H : Heap) (locs : List Loc), GC D a d A s.heap S1 H locs → E1 z S1 → WX p l e (rmC (dd + 1)) s m args below meth c H locs cells slots Q (F0 m pc ls rest) z) : W p l e (rmC (dd + 1)) s m args below meth c H locs cells slots Q (F0 m pc ls (.ref y1 :: .ref (a 0) :: rest)) := by
  obtain ⟨hx, hb, hr, hml, hown, hts, hlocks, hA, hK, hN⟩ := id F
  exact t_callVv (n := 1) (As := [.ref y1]) (rt := .int) F G hsz (hRR.2.2.2.2.2 y1 S Q1 E1 H.size h) q493 q495 qs13 q82 q496 (va_recv hK G.1 (ci := 0) (q0 := 0) rfl rfl) (by decide +kernel) rfl rfl rfl rfl ⟨by show dd + 4 + 1 ≤ dd + 1 + 4; omega, by show 8 + (2 + 11) + (dd * 22 + 88) ≤ (dd + 1) * 22 + 88; omega⟩ ⟨Nat.le_of_eq (by show cells + 0 = 0; omega), Nat.le_of_eq (by show slots + 0 = 0; omega)⟩ hW hd k kx
set_option maxHeartbeats 4000000 in
set_option maxRecDepth 100000 in
theorem kX0_C0_isSign {p : Program} {l : Launch} {e : Env} {s : State} {m : MethodId} {R : Room} {args : Array Value} {below : List Frame} {meth : Method} {c : Code} {D : va_G} {a : Nat → Nat} {d : Nat → ClassId} {A : Nat → Prop} {Q : State → Prop} {cc : ByteArray} {nL pc cells slots : Nat} {ret : Option FieldType} {ls : Array Slot} {rest : List Value} {v1 : Int32} {S : CS} {H : Heap} {locs : List Loc} {Q1 : Int32 → CS → Prop} (F : FC p s m meth c args D a d A RX0 cc nL ret) (G : GC D a d A s.heap S H locs) (hsz : ls.size = nL) (hR : rmX0_isSign.frames + 1 ≤ R.frames ∧ 8 + (2 + 11) + rmX0_isSign.locals ≤ R.locals) (hc : cells + 0 ≤ R.cells ∧ slots + 0 ≤ R.slots) (hW : (rest.map fun v => v.category).sum ≤ 8) (hd : decode cc pc = .ok (.invokevirtual 177, 3)) (h : C0_isSign v1 S Q1) (k : ∀ (r : Int32) (S1 : CS) (H : Heap) (locs : List Loc), GC D a d A s.heap S1 H locs → Q1 r S1 → W p l e R s m args below meth c H locs cells slots Q (F0 m (pc + 3) ls (.int r :: rest))) : W p l e R s m args below meth c H locs cells slots Q (F0 m pc ls (.int v1 :: .ref (a 0) :: rest)) := by
  obtain ⟨hx, hb, hr, hml, hown, hts, hlocks, hA, hK, hN⟩ := id F
  exact c_calli F G (va_runV (As := [.int v1]) (rest := rest) ⟨hx, hb, hml, hown, hts⟩ (wC0_isSign H.size v1 S Q1 h) (cwV 1 hts (lw_V q497 q499 qs14 q82 q500) rfl rfl rfl (by decide +kernel) hR) ⟨PC_blind, va_recv hK G.1 (ci := 0) (q0 := 0) rfl rfl, c_pre F G⟩ rfl rfl hsz rfl (lv_room hW) hd hc) k
set_option maxHeartbeats 4000000 in
set_option maxRecDepth 100000 in
theorem kX0_C12_add {p : Program} {l : Launch} {e : Env} {s : State} {m : MethodId} {R : Room} {args : Array Value} {below : List Frame} {meth : Method} {c : Code} {D : va_G} {a : Nat → Nat} {d : Nat → ClassId} {A : Nat → Prop} {Q : State → Prop} {cc : ByteArray} {nL pc cells slots : Nat} {ret : Option FieldType} {ls : Array Slot} {rest : List Value} {y0 : Nat} {v1 : Int32} {v2 : Int32} {S : CS} {H : Heap} {locs : List Loc} {Q1 : CS → Prop} (F : FC p s m meth c args D a d A RX0 cc nL ret) (G : GC D a d A s.heap S H locs) {fs0 : List Value} (hy : has S y0 (.inr (12, fs0))) (hsz : ls.size = nL) (hR : rmX12_add.frames + 1 ≤ R.frames ∧ 8 + (3 + 11) + rmX12_add.locals ≤ R.locals) (hc : cells + 0 ≤ R.cells ∧ slots + 0 ≤ R.slots) (hW : (rest.map fun v => v.category).sum ≤ 8) (hd : decode cc pc = .ok (.invokevirtual 180, 3)) (h : C12_add y0 v1 v2 S Q1) (k : ∀ (S1 : CS) (H : Heap) (locs : List Loc), GC D a d A s.heap S1 H locs → Q1 S1 → W p l e R s m args below meth c H locs cells slots Q (F0 m (pc + 3) ls rest)) : W p l e R s m args below meth c H locs cells slots Q (F0 m pc ls (.int v2 :: .int v1 :: .ref y0 :: rest)) := by
  obtain ⟨hx, hb, hr, hml, hown, hts, hlocks, hA, hK, hN⟩ := id F
  exact c_callv F G (va_runV (As := [.int v1, .int v2]) (rest := rest) ⟨hx, hb, hml, hown, hts⟩ (wC12_add H.size y0 v1 v2 S Q1 h) (cwV 2 hts (lw_V q501 q502 q503 q105 q504) rfl rfl rfl (by decide +kernel) hR) ⟨PC_blind, p_recv_X12 F G hy, c_pre F G⟩ rfl rfl hsz rfl (lv_room hW) hd hc) k
/-! StrokesHeard.or -/
def C0_or_b_L5 (Q : CS → Prop) (E : Nat → CS → Prop) (RR : Nat → Nat → CS → (CS → Prop) → (Nat → CS → Prop) → Prop)  (y1 : Nat) : Nat → CS → Prop
  | 0, _ => False
  | n + 1, S => C0_isSign 124 S (fun r_2 S_3 => (r_2 = 0 → Q S_3) ∧ (¬ r_2 = 0 → C0_goes  S_3 (fun S_6 => RR 1 y1 S_6 (fun S_7 => ∃ fs_10 : List Value, has S_7 y1 (.inr (12, fs_10)) ∧ (C12_add y1 11 0 S_7 (fun S_9 => C0_or_b_L5 Q E RR y1 n  S_9))) E) E))
def C0_or_b (RR : Nat → Nat → CS → (CS → Prop) → (Nat → CS → Prop) → Prop) (y1 : Nat) (S : CS) (Q : CS → Prop) (E : Nat → CS → Prop) : Prop := RR 1 y1 S (fun S_1 => ∃ k5, C0_or_b_L5 Q E RR y1 k5  S_1) E
set_option maxHeartbeats 4000000 in
set_option maxRecDepth 100000 in
theorem wC0_or_b_L5 {p : Program} {l : Launch} {e : Env} {s : State} {m : MethodId} {args : Array Value} {below : List Frame} {meth : Method} {c : Code} {D : va_G} {a : Nat → Nat} {d : Nat → ClassId} {A : Nat → Prop} {Q : CS → Prop} {E : Nat → CS → Prop} {RR : Nat → Nat → CS → (CS → Prop) → (Nat → CS → Prop) → Prop}  (Ft : FT p s m meth c args D a d A RX0 cX0_or 2 none) {dd : Nat} (hRR : RecOkC l D a d RR dd) (y1 : Nat)  :
    ∀ (n : Nat)  (S : CS) (H : Heap) (locs : List Loc) (ls : Array Slot), GC D a d A s.heap S H locs → lv_has ls 2 [(0, .ref (a 0)), (1, .ref y1)] → C0_or_b_L5 Q E RR y1 n S → wTv p l e (rmC (dd + 1)) s m args below meth c D a d A Q E 0 0 H locs 0 0 (F0 m 5 ls []) := by
  have F := Ft.1
  obtain ⟨hx, hb, hr, hml, hown, hts, hlocks, hA, hK, hN⟩ := id F
  intro n
  induction n with
  | zero => intro  S H locs ls G hl h; exact absurd h (fun q => q)
  | succ n ih =>
    intro  S H locs ls G hl h
    unfold C0_or_b_L5 at h
    refine lv_aload_n hx hb dX0_or_5 rfl (lv_at hl 0 rfl) ?_
    refine lv_bipush (v := 124) hx hb dX0_or_6 (by decide) ?_
    refine kX0_C0_isSign F G hl.1 (rr_okC (Nat.le_of_ble_eq_true rfl) (Nat.le_of_ble_eq_true rfl)) ⟨(Nat.le_of_ble_eq_true rfl), (Nat.le_of_ble_eq_true rfl)⟩ (Nat.le_of_ble_eq_true rfl) dX0_or_8 h (fun r_2 S_3 H locs G h => ?_)
    refine lv_if_eq (tgt := 33) hx hb dX0_or_11 (by decide) (fun c_4 => ?_) (fun c_4 => ?_)
    · replace h := h.1 c_4
      exact t_vret Ft G dX0_or_33 h
    · replace h := h.2 c_4
      refine lv_aload_n hx hb dX0_or_14 rfl (lv_at hl 0 rfl) ?_
      refine kX0_C0_goes F G hl.1 (rr_okC (Nat.le_of_ble_eq_true rfl) (Nat.le_of_ble_eq_true rfl)) ⟨(Nat.le_of_ble_eq_true rfl), (Nat.le_of_ble_eq_true rfl)⟩ (Nat.le_of_ble_eq_true rfl) dX0_or_15 h (fun S_6 H locs G h => ?_) (fun z S1 H locs G h => WX.widen (k := 0) (n := 0) (Nat.le_of_ble_eq_true rfl) (Nat.le_of_ble_eq_true rfl) (t_outv Ft G h))
      refine lv_aload_n hx hb dX0_or_18 rfl (lv_at hl 0 rfl) ?_
      refine lv_aload_n hx hb dX0_or_19 rfl (lv_at hl 1 rfl) ?_
      refine kCR_1 hRR F G hl.1 rfl rfl (Nat.le_of_ble_eq_true rfl) dX0_or_20 h (fun S_7 H locs G h => ?_) (fun z S1 H locs G h => t_outv Ft G h)
      refine lv_aload_n hx hb dX0_or_23 rfl (lv_at hl 1 rfl) ?_
      refine lv_bipush (v := 11) hx hb dX0_or_24 (by decide) ?_
      refine lv_iconst (v := 0) hx hb dX0_or_26 (by decide) ?_
      obtain ⟨fs_10, z_11, h⟩ := h
      refine kX0_C12_add F G z_11 hl.1 (rr_okC (Nat.le_of_ble_eq_true rfl) (Nat.le_of_ble_eq_true rfl)) ⟨(Nat.le_of_ble_eq_true rfl), (Nat.le_of_ble_eq_true rfl)⟩ (Nat.le_of_ble_eq_true rfl) dX0_or_27 h (fun S_9 H locs G h => ?_)
      refine lv_goto (tgt := 5) hx hb dX0_or_30 (by decide) ?_
      exact ih  S_9 _ _ _ G (lv_sub hl [0, 1] rfl) h
set_option maxHeartbeats 4000000 in
set_option maxRecDepth 100000 in
theorem wC0_or_b {l : Launch} {D : va_G} {a : Nat → Nat} {d : Nat → ClassId} {RR : Nat → Nat → CS → (CS → Prop) → (Nat → CS → Prop) → Prop} {dd : Nat} (hRR : RecOkC l D a d RR dd) (sz : Nat) (y1 : Nat) (S : CS) (Q : CS → Prop) (E : Nat → CS → Prop) (h : C0_or_b RR y1 S Q E) : CTv l D a d yX0_or cX0_or 2 (rmC (dd + 1)) 0 0 [.ref (a 0), .ref y1] sz S Q E := by
  refine t_enter (Qc := fun A => QTv Q E (BC D a d A) A) RX0 (by decide +kernel) rfl (Nat.le_of_ble_eq_true rfl) ?_
  intro p e s m below meth c ls A Ft hG hl
  have G := hG
  have hl : lv_has ls 2 [(0, .ref (a 0)), (1, .ref y1)] := hl
  have F := Ft.1
  obtain ⟨hx, hb, hr, hml, hown, hts, hlocks, hA, hK, hN⟩ := id F
  unfold C0_or_b at h
  refine lv_aload_n hx hb dX0_or_0 rfl (lv_at hl 0 rfl) ?_
  refine lv_aload_n hx hb dX0_or_1 rfl (lv_at hl 1 rfl) ?_
  refine kCR_1 hRR F G hl.1 rfl rfl (Nat.le_of_ble_eq_true rfl) dX0_or_2 h (fun S_1 H locs G h => ?_) (fun z S1 H locs G h => t_outv Ft G h)
  obtain ⟨k5, h⟩ := h
  exact wC0_or_b_L5 Ft hRR y1  k5  S_1 _ _ _ G (lv_sub hl [0, 1] rfl) h
/-! StrokesHeard.and -/
def C0_and_b_L5 (Q : CS → Prop) (E : Nat → CS → Prop) (RR : Nat → Nat → CS → (CS → Prop) → (Nat → CS → Prop) → Prop)  (y1 : Nat) : Nat → CS → Prop
  | 0, _ => False
  | n + 1, S => C0_isSign 38 S (fun r_2 S_3 => (r_2 = 0 → Q S_3) ∧ (¬ r_2 = 0 → C0_goes  S_3 (fun S_6 => RR 2 y1 S_6 (fun S_7 => ∃ fs_10 : List Value, has S_7 y1 (.inr (12, fs_10)) ∧ (C12_add y1 10 0 S_7 (fun S_9 => C0_and_b_L5 Q E RR y1 n  S_9))) E) E))
def C0_and_b (RR : Nat → Nat → CS → (CS → Prop) → (Nat → CS → Prop) → Prop) (y1 : Nat) (S : CS) (Q : CS → Prop) (E : Nat → CS → Prop) : Prop := RR 2 y1 S (fun S_1 => ∃ k5, C0_and_b_L5 Q E RR y1 k5  S_1) E
set_option maxHeartbeats 4000000 in
set_option maxRecDepth 100000 in
theorem wC0_and_b_L5 {p : Program} {l : Launch} {e : Env} {s : State} {m : MethodId} {args : Array Value} {below : List Frame} {meth : Method} {c : Code} {D : va_G} {a : Nat → Nat} {d : Nat → ClassId} {A : Nat → Prop} {Q : CS → Prop} {E : Nat → CS → Prop} {RR : Nat → Nat → CS → (CS → Prop) → (Nat → CS → Prop) → Prop}  (Ft : FT p s m meth c args D a d A RX0 cX0_and 2 none) {dd : Nat} (hRR : RecOkC l D a d RR dd) (y1 : Nat)  :
    ∀ (n : Nat)  (S : CS) (H : Heap) (locs : List Loc) (ls : Array Slot), GC D a d A s.heap S H locs → lv_has ls 2 [(0, .ref (a 0)), (1, .ref y1)] → C0_and_b_L5 Q E RR y1 n S → wTv p l e (rmC (dd + 1)) s m args below meth c D a d A Q E 0 0 H locs 0 0 (F0 m 5 ls []) := by
  have F := Ft.1
  obtain ⟨hx, hb, hr, hml, hown, hts, hlocks, hA, hK, hN⟩ := id F
  intro n
  induction n with
  | zero => intro  S H locs ls G hl h; exact absurd h (fun q => q)
  | succ n ih =>
    intro  S H locs ls G hl h
    unfold C0_and_b_L5 at h
    refine lv_aload_n hx hb dX0_and_5 rfl (lv_at hl 0 rfl) ?_
    refine lv_bipush (v := 38) hx hb dX0_and_6 (by decide) ?_
    refine kX0_C0_isSign F G hl.1 (rr_okC (Nat.le_of_ble_eq_true rfl) (Nat.le_of_ble_eq_true rfl)) ⟨(Nat.le_of_ble_eq_true rfl), (Nat.le_of_ble_eq_true rfl)⟩ (Nat.le_of_ble_eq_true rfl) dX0_and_8 h (fun r_2 S_3 H locs G h => ?_)
    refine lv_if_eq (tgt := 33) hx hb dX0_and_11 (by decide) (fun c_4 => ?_) (fun c_4 => ?_)
    · replace h := h.1 c_4
      exact t_vret Ft G dX0_and_33 h
    · replace h := h.2 c_4
      refine lv_aload_n hx hb dX0_and_14 rfl (lv_at hl 0 rfl) ?_
      refine kX0_C0_goes F G hl.1 (rr_okC (Nat.le_of_ble_eq_true rfl) (Nat.le_of_ble_eq_true rfl)) ⟨(Nat.le_of_ble_eq_true rfl), (Nat.le_of_ble_eq_true rfl)⟩ (Nat.le_of_ble_eq_true rfl) dX0_and_15 h (fun S_6 H locs G h => ?_) (fun z S1 H locs G h => WX.widen (k := 0) (n := 0) (Nat.le_of_ble_eq_true rfl) (Nat.le_of_ble_eq_true rfl) (t_outv Ft G h))
      refine lv_aload_n hx hb dX0_and_18 rfl (lv_at hl 0 rfl) ?_
      refine lv_aload_n hx hb dX0_and_19 rfl (lv_at hl 1 rfl) ?_
      refine kCR_2 hRR F G hl.1 rfl rfl (Nat.le_of_ble_eq_true rfl) dX0_and_20 h (fun S_7 H locs G h => ?_) (fun z S1 H locs G h => t_outv Ft G h)
      refine lv_aload_n hx hb dX0_and_23 rfl (lv_at hl 1 rfl) ?_
      refine lv_bipush (v := 10) hx hb dX0_and_24 (by decide) ?_
      refine lv_iconst (v := 0) hx hb dX0_and_26 (by decide) ?_
      obtain ⟨fs_10, z_11, h⟩ := h
      refine kX0_C12_add F G z_11 hl.1 (rr_okC (Nat.le_of_ble_eq_true rfl) (Nat.le_of_ble_eq_true rfl)) ⟨(Nat.le_of_ble_eq_true rfl), (Nat.le_of_ble_eq_true rfl)⟩ (Nat.le_of_ble_eq_true rfl) dX0_and_27 h (fun S_9 H locs G h => ?_)
      refine lv_goto (tgt := 5) hx hb dX0_and_30 (by decide) ?_
      exact ih  S_9 _ _ _ G (lv_sub hl [0, 1] rfl) h
set_option maxHeartbeats 4000000 in
set_option maxRecDepth 100000 in
theorem wC0_and_b {l : Launch} {D : va_G} {a : Nat → Nat} {d : Nat → ClassId} {RR : Nat → Nat → CS → (CS → Prop) → (Nat → CS → Prop) → Prop} {dd : Nat} (hRR : RecOkC l D a d RR dd) (sz : Nat) (y1 : Nat) (S : CS) (Q : CS → Prop) (E : Nat → CS → Prop) (h : C0_and_b RR y1 S Q E) : CTv l D a d yX0_and cX0_and 2 (rmC (dd + 1)) 0 0 [.ref (a 0), .ref y1] sz S Q E := by
  refine t_enter (Qc := fun A => QTv Q E (BC D a d A) A) RX0 (by decide +kernel) rfl (Nat.le_of_ble_eq_true rfl) ?_
  intro p e s m below meth c ls A Ft hG hl
  have G := hG
  have hl : lv_has ls 2 [(0, .ref (a 0)), (1, .ref y1)] := hl
  have F := Ft.1
  obtain ⟨hx, hb, hr, hml, hown, hts, hlocks, hA, hK, hN⟩ := id F
  unfold C0_and_b at h
  refine lv_aload_n hx hb dX0_and_0 rfl (lv_at hl 0 rfl) ?_
  refine lv_aload_n hx hb dX0_and_1 rfl (lv_at hl 1 rfl) ?_
  refine kCR_2 hRR F G hl.1 rfl rfl (Nat.le_of_ble_eq_true rfl) dX0_and_2 h (fun S_1 H locs G h => ?_) (fun z S1 H locs G h => t_outv Ft G h)
  obtain ⟨k5, h⟩ := h
  exact wC0_and_b_L5 Ft hRR y1  k5  S_1 _ _ _ G (lv_sub hl [0, 1] rfl) h
/-! StrokesHeard.test -/
def C0_test_b_p48 (Q : CS → Prop) (E : Nat → CS → Prop) (RR : Nat → Nat → CS → (CS → Prop) → (Nat → CS → Prop) → Prop)  (y1 : Nat) (t0 : Int32) (S : CS) : Prop := (t0 = 0 → Q S) ∧ (¬ t0 = 0 → C0_goes  S (fun S_13 => RR 3 y1 S_13 (fun S_14 => ∃ fs_17 : List Value, has S_14 y1 (.inr (12, fs_17)) ∧ (C12_add y1 t0 0 S_14 (fun S_16 => Q S_16))) E) E)
def C0_test_b (RR : Nat → Nat → CS → (CS → Prop) → (Nat → CS → Prop) → Prop) (y1 : Nat) (S : CS) (Q : CS → Prop) (E : Nat → CS → Prop) : Prop := RR 3 y1 S (fun S_1 => C0_isSign 60 S_1 (fun r_2 S_3 => (r_2 = 0 → C0_isSign 61 S_3 (fun r_5 S_6 => (r_5 = 0 → C0_isSign 62 S_6 (fun r_8 S_9 => (r_8 = 0 → C0_test_b_p48 Q E RR y1 0 S_9) ∧ (¬ r_8 = 0 → C0_test_b_p48 Q E RR y1 9 S_9))) ∧ (¬ r_5 = 0 → C0_test_b_p48 Q E RR y1 8 S_6))) ∧ (¬ r_2 = 0 → C0_test_b_p48 Q E RR y1 7 S_3))) E
set_option maxHeartbeats 4000000 in
set_option maxRecDepth 100000 in
theorem wC0_test_b_p48 {p : Program} {l : Launch} {e : Env} {s : State} {m : MethodId} {args : Array Value} {below : List Frame} {meth : Method} {c : Code} {D : va_G} {a : Nat → Nat} {d : Nat → ClassId} {A : Nat → Prop} {Q : CS → Prop} {E : Nat → CS → Prop} {RR : Nat → Nat → CS → (CS → Prop) → (Nat → CS → Prop) → Prop}  (Ft : FT p s m meth c args D a d A RX0 cX0_test 3 none) {dd : Nat} (hRR : RecOkC l D a d RR dd) (y1 : Nat) (t0 : Int32) (S : CS)  {H : Heap} {locs : List Loc} {ls : Array Slot} (G : GC D a d A s.heap S H locs) (hl : lv_has ls 3 [(0, .ref (a 0)), (1, .ref y1)]) (h : C0_test_b_p48 Q E RR y1 t0 S) : wTv p l e (rmC (dd + 1)) s m args below meth c D a d A Q E 0 0 H locs 0 0 (F0 m 48 ls [.int t0]) := by
  have F := Ft.1
  obtain ⟨hx, hb, hr, hml, hown, hts, hlocks, hA, hK, hN⟩ := id F
  unfold C0_test_b_p48 at h
  refine lv_istore_n (lv' := [(2, .int t0), (0, .ref (a 0)), (1, .ref y1)]) hx hb dX0_test_48 rfl hl (by decide) rfl (fun ls hl => ?_)
  refine lv_iload_n hx hb dX0_test_49 rfl (lv_at hl 0 rfl) ?_
  refine lv_if_eq (tgt := 68) hx hb dX0_test_50 (by decide) (fun c_11 => ?_) (fun c_11 => ?_)
  · replace h := h.1 c_11
    exact t_vret Ft G dX0_test_68 h
  · replace h := h.2 c_11
    refine lv_aload_n hx hb dX0_test_53 rfl (lv_at hl 1 rfl) ?_
    refine kX0_C0_goes F G hl.1 (rr_okC (Nat.le_of_ble_eq_true rfl) (Nat.le_of_ble_eq_true rfl)) ⟨(Nat.le_of_ble_eq_true rfl), (Nat.le_of_ble_eq_true rfl)⟩ (Nat.le_of_ble_eq_true rfl) dX0_test_54 h (fun S_13 H locs G h => ?_) (fun z S1 H locs G h => WX.widen (k := 0) (n := 0) (Nat.le_of_ble_eq_true rfl) (Nat.le_of_ble_eq_true rfl) (t_outv Ft G h))
    refine lv_aload_n hx hb dX0_test_57 rfl (lv_at hl 1 rfl) ?_
    refine lv_aload_n hx hb dX0_test_58 rfl (lv_at hl 2 rfl) ?_
    refine kCR_3 hRR F G hl.1 rfl rfl (Nat.le_of_ble_eq_true rfl) dX0_test_59 h (fun S_14 H locs G h => ?_) (fun z S1 H locs G h => t_outv Ft G h)
    refine lv_aload_n hx hb dX0_test_62 rfl (lv_at hl 2 rfl) ?_
    refine lv_iload_n hx hb dX0_test_63 rfl (lv_at hl 0 rfl) ?_
    refine lv_iconst (v := 0) hx hb dX0_test_64 (by decide) ?_
    obtain ⟨fs_17, z_18, h⟩ := h
    refine kX0_C12_add F G z_18 hl.1 (rr_okC (Nat.le_of_ble_eq_true rfl) (Nat.le_of_ble_eq_true rfl)) ⟨(Nat.le_of_ble_eq_true rfl), (Nat.le_of_ble_eq_true rfl)⟩ (Nat.le_of_ble_eq_true rfl) dX0_test_65 h (fun S_16 H locs G h => ?_)
    exact t_vret Ft G dX0_test_68 h
set_option maxHeartbeats 4000000 in
set_option maxRecDepth 100000 in
theorem wC0_test_b {l : Launch} {D : va_G} {a : Nat → Nat} {d : Nat → ClassId} {RR : Nat → Nat → CS → (CS → Prop) → (Nat → CS → Prop) → Prop} {dd : Nat} (hRR : RecOkC l D a d RR dd) (sz : Nat) (y1 : Nat) (S : CS) (Q : CS → Prop) (E : Nat → CS → Prop) (h : C0_test_b RR y1 S Q E) : CTv l D a d yX0_test cX0_test 3 (rmC (dd + 1)) 0 0 [.ref (a 0), .ref y1] sz S Q E := by
  refine t_enter (Qc := fun A => QTv Q E (BC D a d A) A) RX0 (by decide +kernel) rfl (Nat.le_of_ble_eq_true rfl) ?_
  intro p e s m below meth c ls A Ft hG hl
  have G := hG
  have hl : lv_has ls 3 [(0, .ref (a 0)), (1, .ref y1)] := hl
  have F := Ft.1
  obtain ⟨hx, hb, hr, hml, hown, hts, hlocks, hA, hK, hN⟩ := id F
  unfold C0_test_b at h
  refine lv_aload_n hx hb dX0_test_0 rfl (lv_at hl 0 rfl) ?_
  refine lv_aload_n hx hb dX0_test_1 rfl (lv_at hl 1 rfl) ?_
  refine kCR_3 hRR F G hl.1 rfl rfl (Nat.le_of_ble_eq_true rfl) dX0_test_2 h (fun S_1 H locs G h => ?_) (fun z S1 H locs G h => t_outv Ft G h)
  refine lv_aload_n hx hb dX0_test_5 rfl (lv_at hl 0 rfl) ?_
  refine lv_bipush (v := 60) hx hb dX0_test_6 (by decide) ?_
  refine kX0_C0_isSign F G hl.1 (rr_okC (Nat.le_of_ble_eq_true rfl) (Nat.le_of_ble_eq_true rfl)) ⟨(Nat.le_of_ble_eq_true rfl), (Nat.le_of_ble_eq_true rfl)⟩ (Nat.le_of_ble_eq_true rfl) dX0_test_8 h (fun r_2 S_3 H locs G h => ?_)
  refine lv_if_eq (tgt := 19) hx hb dX0_test_11 (by decide) (fun c_4 => ?_) (fun c_4 => ?_)
  · replace h := h.1 c_4
    refine lv_aload_n hx hb dX0_test_19 rfl (lv_at hl 0 rfl) ?_
    refine lv_bipush (v := 61) hx hb dX0_test_20 (by decide) ?_
    refine kX0_C0_isSign F G hl.1 (rr_okC (Nat.le_of_ble_eq_true rfl) (Nat.le_of_ble_eq_true rfl)) ⟨(Nat.le_of_ble_eq_true rfl), (Nat.le_of_ble_eq_true rfl)⟩ (Nat.le_of_ble_eq_true rfl) dX0_test_22 h (fun r_5 S_6 H locs G h => ?_)
    refine lv_if_eq (tgt := 33) hx hb dX0_test_25 (by decide) (fun c_7 => ?_) (fun c_7 => ?_)
    · replace h := h.1 c_7
      refine lv_aload_n hx hb dX0_test_33 rfl (lv_at hl 0 rfl) ?_
      refine lv_bipush (v := 62) hx hb dX0_test_34 (by decide) ?_
      refine kX0_C0_isSign F G hl.1 (rr_okC (Nat.le_of_ble_eq_true rfl) (Nat.le_of_ble_eq_true rfl)) ⟨(Nat.le_of_ble_eq_true rfl), (Nat.le_of_ble_eq_true rfl)⟩ (Nat.le_of_ble_eq_true rfl) dX0_test_36 h (fun r_8 S_9 H locs G h => ?_)
      refine lv_if_eq (tgt := 47) hx hb dX0_test_39 (by decide) (fun c_10 => ?_) (fun c_10 => ?_)
      · replace h := h.1 c_10
        refine lv_iconst (v := 0) hx hb dX0_test_47 (by decide) ?_
        exact wC0_test_b_p48 Ft hRR y1 0 S_9  G (lv_sub hl [0, 1] rfl) h
      · replace h := h.2 c_10
        refine lv_bipush (v := 9) hx hb dX0_test_42 (by decide) ?_
        refine lv_goto (tgt := 48) hx hb dX0_test_44 (by decide) ?_
        exact wC0_test_b_p48 Ft hRR y1 9 S_9  G (lv_sub hl [0, 1] rfl) h
    · replace h := h.2 c_7
      refine lv_bipush (v := 8) hx hb dX0_test_28 (by decide) ?_
      refine lv_goto (tgt := 48) hx hb dX0_test_30 (by decide) ?_
      exact wC0_test_b_p48 Ft hRR y1 8 S_6  G (lv_sub hl [0, 1] rfl) h
  · replace h := h.2 c_4
    refine lv_bipush (v := 7) hx hb dX0_test_14 (by decide) ?_
    refine lv_goto (tgt := 48) hx hb dX0_test_16 (by decide) ?_
    exact wC0_test_b_p48 Ft hRR y1 7 S_3  G (lv_sub hl [0, 1] rfl) h
/-! StrokesHeard.sum -/
def C0_sum_b_p38 (Q : CS → Prop) (E : Nat → CS → Prop) (RR : Nat → Nat → CS → (CS → Prop) → (Nat → CS → Prop) → Prop) (K5 : CS → Prop) (y1 : Nat) (t0 : Int32) (S : CS) : Prop := C0_goes  S (fun S_12 => RR 4 y1 S_12 (fun S_13 => ∃ fs_16 : List Value, has S_13 y1 (.inr (12, fs_16)) ∧ (C12_add y1 t0 0 S_13 (fun S_15 => K5  S_15))) E) E
def C0_sum_b_p23 (Q : CS → Prop) (E : Nat → CS → Prop) (RR : Nat → Nat → CS → (CS → Prop) → (Nat → CS → Prop) → Prop) (K5 : CS → Prop) (y1 : Nat) (S : CS) : Prop := C0_isSign 43 S (fun r_8 S_9 => (r_8 = 0 → C0_sum_b_p38 Q E RR K5 y1 6 S_9) ∧ (¬ r_8 = 0 → C0_sum_b_p38 Q E RR K5 y1 5 S_9))
def C0_sum_b_L5 (Q : CS → Prop) (E : Nat → CS → Prop) (RR : Nat → Nat → CS → (CS → Prop) → (Nat → CS → Prop) → Prop)  (y1 : Nat) : Nat → CS → Prop
  | 0, _ => False
  | n + 1, S => C0_isSign 43 S (fun r_2 S_3 => (¬ r_2 = 0 → C0_sum_b_p23 Q E RR (fun  S_ => C0_sum_b_L5 Q E RR y1 n  S_) y1 S_3) ∧ (r_2 = 0 → C0_isSign 45 S_3 (fun r_5 S_6 => (r_5 = 0 → Q S_6) ∧ (¬ r_5 = 0 → C0_sum_b_p23 Q E RR (fun  S_ => C0_sum_b_L5 Q E RR y1 n  S_) y1 S_6))))
def C0_sum_b (RR : Nat → Nat → CS → (CS → Prop) → (Nat → CS → Prop) → Prop) (y1 : Nat) (S : CS) (Q : CS → Prop) (E : Nat → CS → Prop) : Prop := RR 4 y1 S (fun S_1 => ∃ k5, C0_sum_b_L5 Q E RR y1 k5  S_1) E
set_option maxHeartbeats 4000000 in
set_option maxRecDepth 100000 in
theorem wC0_sum_b_p38 {p : Program} {l : Launch} {e : Env} {s : State} {m : MethodId} {args : Array Value} {below : List Frame} {meth : Method} {c : Code} {D : va_G} {a : Nat → Nat} {d : Nat → ClassId} {A : Nat → Prop} {Q : CS → Prop} {E : Nat → CS → Prop} {RR : Nat → Nat → CS → (CS → Prop) → (Nat → CS → Prop) → Prop} {K5 : CS → Prop} (Ft : FT p s m meth c args D a d A RX0 cX0_sum 3 none) {dd : Nat} (hRR : RecOkC l D a d RR dd) (y1 : Nat) (t0 : Int32) (S : CS) (hK5 : ∀  (S : CS) (H : Heap) (locs : List Loc) (ls : Array Slot), GC D a d A s.heap S H locs → lv_has ls 3 [(0, .ref (a 0)), (1, .ref y1)] → K5  S → wTv p l e (rmC (dd + 1)) s m args below meth c D a d A Q E 0 0 H locs 0 0 (F0 m 5 ls [])) {H : Heap} {locs : List Loc} {ls : Array Slot} (G : GC D a d A s.heap S H locs) (hl : lv_has ls 3 [(0, .ref (a 0)), (1, .ref y1)]) (h : C0_sum_b_p38 Q E RR K5 y1 t0 S) : wTv p l e (rmC (dd + 1)) s m args below meth c D a d A Q E 0 0 H locs 0 0 (F0 m 38 ls [.int t0]) := by
  have F := Ft.1
  obtain ⟨hx, hb, hr, hml, hown, hts, hlocks, hA, hK, hN⟩ := id F
  unfold C0_sum_b_p38 at h
  refine lv_istore_n (lv' := [(2, .int t0), (0, .ref (a 0)), (1, .ref y1)]) hx hb dX0_sum_38 rfl hl (by decide) rfl (fun ls hl => ?_)
  refine lv_aload_n hx hb dX0_sum_39 rfl (lv_at hl 1 rfl) ?_
  refine kX0_C0_goes F G hl.1 (rr_okC (Nat.le_of_ble_eq_true rfl) (Nat.le_of_ble_eq_true rfl)) ⟨(Nat.le_of_ble_eq_true rfl), (Nat.le_of_ble_eq_true rfl)⟩ (Nat.le_of_ble_eq_true rfl) dX0_sum_40 h (fun S_12 H locs G h => ?_) (fun z S1 H locs G h => WX.widen (k := 0) (n := 0) (Nat.le_of_ble_eq_true rfl) (Nat.le_of_ble_eq_true rfl) (t_outv Ft G h))
  refine lv_aload_n hx hb dX0_sum_43 rfl (lv_at hl 1 rfl) ?_
  refine lv_aload_n hx hb dX0_sum_44 rfl (lv_at hl 2 rfl) ?_
  refine kCR_4 hRR F G hl.1 rfl rfl (Nat.le_of_ble_eq_true rfl) dX0_sum_45 h (fun S_13 H locs G h => ?_) (fun z S1 H locs G h => t_outv Ft G h)
  refine lv_aload_n hx hb dX0_sum_48 rfl (lv_at hl 2 rfl) ?_
  refine lv_iload_n hx hb dX0_sum_49 rfl (lv_at hl 0 rfl) ?_
  refine lv_iconst (v := 0) hx hb dX0_sum_50 (by decide) ?_
  obtain ⟨fs_16, z_17, h⟩ := h
  refine kX0_C12_add F G z_17 hl.1 (rr_okC (Nat.le_of_ble_eq_true rfl) (Nat.le_of_ble_eq_true rfl)) ⟨(Nat.le_of_ble_eq_true rfl), (Nat.le_of_ble_eq_true rfl)⟩ (Nat.le_of_ble_eq_true rfl) dX0_sum_51 h (fun S_15 H locs G h => ?_)
  refine lv_goto (tgt := 5) hx hb dX0_sum_54 (by decide) ?_
  exact hK5  S_15 _ _ _ G (lv_sub hl [1, 2] rfl) h
set_option maxHeartbeats 4000000 in
set_option maxRecDepth 100000 in
theorem wC0_sum_b_p23 {p : Program} {l : Launch} {e : Env} {s : State} {m : MethodId} {args : Array Value} {below : List Frame} {meth : Method} {c : Code} {D : va_G} {a : Nat → Nat} {d : Nat → ClassId} {A : Nat → Prop} {Q : CS → Prop} {E : Nat → CS → Prop} {RR : Nat → Nat → CS → (CS → Prop) → (Nat → CS → Prop) → Prop} {K5 : CS → Prop} (Ft : FT p s m meth c args D a d A RX0 cX0_sum 3 none) {dd : Nat} (hRR : RecOkC l D a d RR dd) (y1 : Nat) (S : CS) (hK5 : ∀  (S : CS) (H : Heap) (locs : List Loc) (ls : Array Slot), GC D a d A s.heap S H locs → lv_has ls 3 [(0, .ref (a 0)), (1, .ref y1)] → K5  S → wTv p l e (rmC (dd + 1)) s m args below meth c D a d A Q E 0 0 H locs 0 0 (F0 m 5 ls [])) {H : Heap} {locs : List Loc} {ls : Array Slot} (G : GC D a d A s.heap S H locs) (hl : lv_has ls 3 [(0, .ref (a 0)), (1, .ref y1)]) (h : C0_sum_b_p23 Q E RR K5 y1 S) : wTv p l e (rmC (dd + 1)) s m args below meth c D a d A Q E 0 0 H locs 0 0 (F0 m 23 ls []) := by
  have F := Ft.1
  obtain ⟨hx, hb, hr, hml, hown, hts, hlocks, hA, hK, hN⟩ := id F
  unfold C0_sum_b_p23 at h
  refine lv_aload_n hx hb dX0_sum_23 rfl (lv_at hl 0 rfl) ?_
  refine lv_bipush (v := 43) hx hb dX0_sum_24 (by decide) ?_
  refine kX0_C0_isSign F G hl.1 (rr_okC (Nat.le_of_ble_eq_true rfl) (Nat.le_of_ble_eq_true rfl)) ⟨(Nat.le_of_ble_eq_true rfl), (Nat.le_of_ble_eq_true rfl)⟩ (Nat.le_of_ble_eq_true rfl) dX0_sum_26 h (fun r_8 S_9 H locs G h => ?_)
  refine lv_if_eq (tgt := 36) hx hb dX0_sum_29 (by decide) (fun c_10 => ?_) (fun c_10 => ?_)
  · replace h := h.1 c_10
    refine lv_bipush (v := 6) hx hb dX0_sum_36 (by decide) ?_
    exact wC0_sum_b_p38 Ft hRR y1 6 S_9 hK5 G (lv_sub hl [0, 1] rfl) h
  · replace h := h.2 c_10
    refine lv_iconst (v := 5) hx hb dX0_sum_32 (by decide) ?_
    refine lv_goto (tgt := 38) hx hb dX0_sum_33 (by decide) ?_
    exact wC0_sum_b_p38 Ft hRR y1 5 S_9 hK5 G (lv_sub hl [0, 1] rfl) h
set_option maxHeartbeats 4000000 in
set_option maxRecDepth 100000 in
theorem wC0_sum_b_L5 {p : Program} {l : Launch} {e : Env} {s : State} {m : MethodId} {args : Array Value} {below : List Frame} {meth : Method} {c : Code} {D : va_G} {a : Nat → Nat} {d : Nat → ClassId} {A : Nat → Prop} {Q : CS → Prop} {E : Nat → CS → Prop} {RR : Nat → Nat → CS → (CS → Prop) → (Nat → CS → Prop) → Prop}  (Ft : FT p s m meth c args D a d A RX0 cX0_sum 3 none) {dd : Nat} (hRR : RecOkC l D a d RR dd) (y1 : Nat)  :
    ∀ (n : Nat)  (S : CS) (H : Heap) (locs : List Loc) (ls : Array Slot), GC D a d A s.heap S H locs → lv_has ls 3 [(0, .ref (a 0)), (1, .ref y1)] → C0_sum_b_L5 Q E RR y1 n S → wTv p l e (rmC (dd + 1)) s m args below meth c D a d A Q E 0 0 H locs 0 0 (F0 m 5 ls []) := by
  have F := Ft.1
  obtain ⟨hx, hb, hr, hml, hown, hts, hlocks, hA, hK, hN⟩ := id F
  intro n
  induction n with
  | zero => intro  S H locs ls G hl h; exact absurd h (fun q => q)
  | succ n ih =>
    intro  S H locs ls G hl h
    unfold C0_sum_b_L5 at h
    refine lv_aload_n hx hb dX0_sum_5 rfl (lv_at hl 0 rfl) ?_
    refine lv_bipush (v := 43) hx hb dX0_sum_6 (by decide) ?_
    refine kX0_C0_isSign F G hl.1 (rr_okC (Nat.le_of_ble_eq_true rfl) (Nat.le_of_ble_eq_true rfl)) ⟨(Nat.le_of_ble_eq_true rfl), (Nat.le_of_ble_eq_true rfl)⟩ (Nat.le_of_ble_eq_true rfl) dX0_sum_8 h (fun r_2 S_3 H locs G h => ?_)
    refine lv_if_ne (tgt := 23) hx hb dX0_sum_11 (by decide) (fun c_4 => ?_) (fun c_4 => ?_)
    · replace h := h.1 c_4
      exact wC0_sum_b_p23 Ft hRR y1 S_3 ih G (lv_sub hl [0, 1] rfl) h
    · replace h := h.2 c_4
      refine lv_aload_n hx hb dX0_sum_14 rfl (lv_at hl 0 rfl) ?_
      refine lv_bipush (v := 45) hx hb dX0_sum_15 (by decide) ?_
      refine kX0_C0_isSign F G hl.1 (rr_okC (Nat.le_of_ble_eq_true rfl) (Nat.le_of_ble_eq_true rfl)) ⟨(Nat.le_of_ble_eq_true rfl), (Nat.le_of_ble_eq_true rfl)⟩ (Nat.le_of_ble_eq_true rfl) dX0_sum_17 h (fun r_5 S_6 H locs G h => ?_)
      refine lv_if_eq (tgt := 57) hx hb dX0_sum_20 (by decide) (fun c_7 => ?_) (fun c_7 => ?_)
      · replace h := h.1 c_7
        exact t_vret Ft G dX0_sum_57 h
      · replace h := h.2 c_7
        exact wC0_sum_b_p23 Ft hRR y1 S_6 ih G (lv_sub hl [0, 1] rfl) h
set_option maxHeartbeats 4000000 in
set_option maxRecDepth 100000 in
theorem wC0_sum_b {l : Launch} {D : va_G} {a : Nat → Nat} {d : Nat → ClassId} {RR : Nat → Nat → CS → (CS → Prop) → (Nat → CS → Prop) → Prop} {dd : Nat} (hRR : RecOkC l D a d RR dd) (sz : Nat) (y1 : Nat) (S : CS) (Q : CS → Prop) (E : Nat → CS → Prop) (h : C0_sum_b RR y1 S Q E) : CTv l D a d yX0_sum cX0_sum 3 (rmC (dd + 1)) 0 0 [.ref (a 0), .ref y1] sz S Q E := by
  refine t_enter (Qc := fun A => QTv Q E (BC D a d A) A) RX0 (by decide +kernel) rfl (Nat.le_of_ble_eq_true rfl) ?_
  intro p e s m below meth c ls A Ft hG hl
  have G := hG
  have hl : lv_has ls 3 [(0, .ref (a 0)), (1, .ref y1)] := hl
  have F := Ft.1
  obtain ⟨hx, hb, hr, hml, hown, hts, hlocks, hA, hK, hN⟩ := id F
  unfold C0_sum_b at h
  refine lv_aload_n hx hb dX0_sum_0 rfl (lv_at hl 0 rfl) ?_
  refine lv_aload_n hx hb dX0_sum_1 rfl (lv_at hl 1 rfl) ?_
  refine kCR_4 hRR F G hl.1 rfl rfl (Nat.le_of_ble_eq_true rfl) dX0_sum_2 h (fun S_1 H locs G h => ?_) (fun z S1 H locs G h => t_outv Ft G h)
  obtain ⟨k5, h⟩ := h
  exact wC0_sum_b_L5 Ft hRR y1  k5  S_1 _ _ _ G (lv_sub hl [0, 1] rfl) h
/-! StrokesHeard.term -/
def C0_term_b_p38 (Q : CS → Prop) (E : Nat → CS → Prop) (RR : Nat → Nat → CS → (CS → Prop) → (Nat → CS → Prop) → Prop) (K5 : CS → Prop) (y1 : Nat) (t0 : Int32) (S : CS) : Prop := C0_goes  S (fun S_12 => RR 5 y1 S_12 (fun S_13 => ∃ fs_16 : List Value, has S_13 y1 (.inr (12, fs_16)) ∧ (C12_add y1 t0 0 S_13 (fun S_15 => K5  S_15))) E) E
def C0_term_b_p23 (Q : CS → Prop) (E : Nat → CS → Prop) (RR : Nat → Nat → CS → (CS → Prop) → (Nat → CS → Prop) → Prop) (K5 : CS → Prop) (y1 : Nat) (S : CS) : Prop := C0_isSign 42 S (fun r_8 S_9 => (r_8 = 0 → C0_term_b_p38 Q E RR K5 y1 12 S_9) ∧ (¬ r_8 = 0 → C0_term_b_p38 Q E RR K5 y1 4 S_9))
def C0_term_b_L5 (Q : CS → Prop) (E : Nat → CS → Prop) (RR : Nat → Nat → CS → (CS → Prop) → (Nat → CS → Prop) → Prop)  (y1 : Nat) : Nat → CS → Prop
  | 0, _ => False
  | n + 1, S => C0_isSign 42 S (fun r_2 S_3 => (¬ r_2 = 0 → C0_term_b_p23 Q E RR (fun  S_ => C0_term_b_L5 Q E RR y1 n  S_) y1 S_3) ∧ (r_2 = 0 → C0_isSign 47 S_3 (fun r_5 S_6 => (r_5 = 0 → Q S_6) ∧ (¬ r_5 = 0 → C0_term_b_p23 Q E RR (fun  S_ => C0_term_b_L5 Q E RR y1 n  S_) y1 S_6))))
def C0_term_b (RR : Nat → Nat → CS → (CS → Prop) → (Nat → CS → Prop) → Prop) (y1 : Nat) (S : CS) (Q : CS → Prop) (E : Nat → CS → Prop) : Prop := RR 5 y1 S (fun S_1 => ∃ k5, C0_term_b_L5 Q E RR y1 k5  S_1) E
set_option maxHeartbeats 4000000 in
set_option maxRecDepth 100000 in
theorem wC0_term_b_p38 {p : Program} {l : Launch} {e : Env} {s : State} {m : MethodId} {args : Array Value} {below : List Frame} {meth : Method} {c : Code} {D : va_G} {a : Nat → Nat} {d : Nat → ClassId} {A : Nat → Prop} {Q : CS → Prop} {E : Nat → CS → Prop} {RR : Nat → Nat → CS → (CS → Prop) → (Nat → CS → Prop) → Prop} {K5 : CS → Prop} (Ft : FT p s m meth c args D a d A RX0 cX0_term 3 none) {dd : Nat} (hRR : RecOkC l D a d RR dd) (y1 : Nat) (t0 : Int32) (S : CS) (hK5 : ∀  (S : CS) (H : Heap) (locs : List Loc) (ls : Array Slot), GC D a d A s.heap S H locs → lv_has ls 3 [(0, .ref (a 0)), (1, .ref y1)] → K5  S → wTv p l e (rmC (dd + 1)) s m args below meth c D a d A Q E 0 0 H locs 0 0 (F0 m 5 ls [])) {H : Heap} {locs : List Loc} {ls : Array Slot} (G : GC D a d A s.heap S H locs) (hl : lv_has ls 3 [(0, .ref (a 0)), (1, .ref y1)]) (h : C0_term_b_p38 Q E RR K5 y1 t0 S) : wTv p l e (rmC (dd + 1)) s m args below meth c D a d A Q E 0 0 H locs 0 0 (F0 m 38 ls [.int t0]) := by
  have F := Ft.1
  obtain ⟨hx, hb, hr, hml, hown, hts, hlocks, hA, hK, hN⟩ := id F
  unfold C0_term_b_p38 at h
  refine lv_istore_n (lv' := [(2, .int t0), (0, .ref (a 0)), (1, .ref y1)]) hx hb dX0_term_38 rfl hl (by decide) rfl (fun ls hl => ?_)
  refine lv_aload_n hx hb dX0_term_39 rfl (lv_at hl 1 rfl) ?_
  refine kX0_C0_goes F G hl.1 (rr_okC (Nat.le_of_ble_eq_true rfl) (Nat.le_of_ble_eq_true rfl)) ⟨(Nat.le_of_ble_eq_true rfl), (Nat.le_of_ble_eq_true rfl)⟩ (Nat.le_of_ble_eq_true rfl) dX0_term_40 h (fun S_12 H locs G h => ?_) (fun z S1 H locs G h => WX.widen (k := 0) (n := 0) (Nat.le_of_ble_eq_true rfl) (Nat.le_of_ble_eq_true rfl) (t_outv Ft G h))
  refine lv_aload_n hx hb dX0_term_43 rfl (lv_at hl 1 rfl) ?_
  refine lv_aload_n hx hb dX0_term_44 rfl (lv_at hl 2 rfl) ?_
  refine kCR_5 hRR F G hl.1 rfl rfl (Nat.le_of_ble_eq_true rfl) dX0_term_45 h (fun S_13 H locs G h => ?_) (fun z S1 H locs G h => t_outv Ft G h)
  refine lv_aload_n hx hb dX0_term_48 rfl (lv_at hl 2 rfl) ?_
  refine lv_iload_n hx hb dX0_term_49 rfl (lv_at hl 0 rfl) ?_
  refine lv_iconst (v := 0) hx hb dX0_term_50 (by decide) ?_
  obtain ⟨fs_16, z_17, h⟩ := h
  refine kX0_C12_add F G z_17 hl.1 (rr_okC (Nat.le_of_ble_eq_true rfl) (Nat.le_of_ble_eq_true rfl)) ⟨(Nat.le_of_ble_eq_true rfl), (Nat.le_of_ble_eq_true rfl)⟩ (Nat.le_of_ble_eq_true rfl) dX0_term_51 h (fun S_15 H locs G h => ?_)
  refine lv_goto (tgt := 5) hx hb dX0_term_54 (by decide) ?_
  exact hK5  S_15 _ _ _ G (lv_sub hl [1, 2] rfl) h
set_option maxHeartbeats 4000000 in
set_option maxRecDepth 100000 in
theorem wC0_term_b_p23 {p : Program} {l : Launch} {e : Env} {s : State} {m : MethodId} {args : Array Value} {below : List Frame} {meth : Method} {c : Code} {D : va_G} {a : Nat → Nat} {d : Nat → ClassId} {A : Nat → Prop} {Q : CS → Prop} {E : Nat → CS → Prop} {RR : Nat → Nat → CS → (CS → Prop) → (Nat → CS → Prop) → Prop} {K5 : CS → Prop} (Ft : FT p s m meth c args D a d A RX0 cX0_term 3 none) {dd : Nat} (hRR : RecOkC l D a d RR dd) (y1 : Nat) (S : CS) (hK5 : ∀  (S : CS) (H : Heap) (locs : List Loc) (ls : Array Slot), GC D a d A s.heap S H locs → lv_has ls 3 [(0, .ref (a 0)), (1, .ref y1)] → K5  S → wTv p l e (rmC (dd + 1)) s m args below meth c D a d A Q E 0 0 H locs 0 0 (F0 m 5 ls [])) {H : Heap} {locs : List Loc} {ls : Array Slot} (G : GC D a d A s.heap S H locs) (hl : lv_has ls 3 [(0, .ref (a 0)), (1, .ref y1)]) (h : C0_term_b_p23 Q E RR K5 y1 S) : wTv p l e (rmC (dd + 1)) s m args below meth c D a d A Q E 0 0 H locs 0 0 (F0 m 23 ls []) := by
  have F := Ft.1
  obtain ⟨hx, hb, hr, hml, hown, hts, hlocks, hA, hK, hN⟩ := id F
  unfold C0_term_b_p23 at h
  refine lv_aload_n hx hb dX0_term_23 rfl (lv_at hl 0 rfl) ?_
  refine lv_bipush (v := 42) hx hb dX0_term_24 (by decide) ?_
  refine kX0_C0_isSign F G hl.1 (rr_okC (Nat.le_of_ble_eq_true rfl) (Nat.le_of_ble_eq_true rfl)) ⟨(Nat.le_of_ble_eq_true rfl), (Nat.le_of_ble_eq_true rfl)⟩ (Nat.le_of_ble_eq_true rfl) dX0_term_26 h (fun r_8 S_9 H locs G h => ?_)
  refine lv_if_eq (tgt := 36) hx hb dX0_term_29 (by decide) (fun c_10 => ?_) (fun c_10 => ?_)
  · replace h := h.1 c_10
    refine lv_bipush (v := 12) hx hb dX0_term_36 (by decide) ?_
    exact wC0_term_b_p38 Ft hRR y1 12 S_9 hK5 G (lv_sub hl [0, 1] rfl) h
  · replace h := h.2 c_10
    refine lv_iconst (v := 4) hx hb dX0_term_32 (by decide) ?_
    refine lv_goto (tgt := 38) hx hb dX0_term_33 (by decide) ?_
    exact wC0_term_b_p38 Ft hRR y1 4 S_9 hK5 G (lv_sub hl [0, 1] rfl) h
set_option maxHeartbeats 4000000 in
set_option maxRecDepth 100000 in
theorem wC0_term_b_L5 {p : Program} {l : Launch} {e : Env} {s : State} {m : MethodId} {args : Array Value} {below : List Frame} {meth : Method} {c : Code} {D : va_G} {a : Nat → Nat} {d : Nat → ClassId} {A : Nat → Prop} {Q : CS → Prop} {E : Nat → CS → Prop} {RR : Nat → Nat → CS → (CS → Prop) → (Nat → CS → Prop) → Prop}  (Ft : FT p s m meth c args D a d A RX0 cX0_term 3 none) {dd : Nat} (hRR : RecOkC l D a d RR dd) (y1 : Nat)  :
    ∀ (n : Nat)  (S : CS) (H : Heap) (locs : List Loc) (ls : Array Slot), GC D a d A s.heap S H locs → lv_has ls 3 [(0, .ref (a 0)), (1, .ref y1)] → C0_term_b_L5 Q E RR y1 n S → wTv p l e (rmC (dd + 1)) s m args below meth c D a d A Q E 0 0 H locs 0 0 (F0 m 5 ls []) := by
  have F := Ft.1
  obtain ⟨hx, hb, hr, hml, hown, hts, hlocks, hA, hK, hN⟩ := id F
  intro n
  induction n with
  | zero => intro  S H locs ls G hl h; exact absurd h (fun q => q)
  | succ n ih =>
    intro  S H locs ls G hl h
    unfold C0_term_b_L5 at h
    refine lv_aload_n hx hb dX0_term_5 rfl (lv_at hl 0 rfl) ?_
    refine lv_bipush (v := 42) hx hb dX0_term_6 (by decide) ?_
    refine kX0_C0_isSign F G hl.1 (rr_okC (Nat.le_of_ble_eq_true rfl) (Nat.le_of_ble_eq_true rfl)) ⟨(Nat.le_of_ble_eq_true rfl), (Nat.le_of_ble_eq_true rfl)⟩ (Nat.le_of_ble_eq_true rfl) dX0_term_8 h (fun r_2 S_3 H locs G h => ?_)
    refine lv_if_ne (tgt := 23) hx hb dX0_term_11 (by decide) (fun c_4 => ?_) (fun c_4 => ?_)
    · replace h := h.1 c_4
      exact wC0_term_b_p23 Ft hRR y1 S_3 ih G (lv_sub hl [0, 1] rfl) h
    · replace h := h.2 c_4
      refine lv_aload_n hx hb dX0_term_14 rfl (lv_at hl 0 rfl) ?_
      refine lv_bipush (v := 47) hx hb dX0_term_15 (by decide) ?_
      refine kX0_C0_isSign F G hl.1 (rr_okC (Nat.le_of_ble_eq_true rfl) (Nat.le_of_ble_eq_true rfl)) ⟨(Nat.le_of_ble_eq_true rfl), (Nat.le_of_ble_eq_true rfl)⟩ (Nat.le_of_ble_eq_true rfl) dX0_term_17 h (fun r_5 S_6 H locs G h => ?_)
      refine lv_if_eq (tgt := 57) hx hb dX0_term_20 (by decide) (fun c_7 => ?_) (fun c_7 => ?_)
      · replace h := h.1 c_7
        exact t_vret Ft G dX0_term_57 h
      · replace h := h.2 c_7
        exact wC0_term_b_p23 Ft hRR y1 S_6 ih G (lv_sub hl [0, 1] rfl) h
set_option maxHeartbeats 4000000 in
set_option maxRecDepth 100000 in
theorem wC0_term_b {l : Launch} {D : va_G} {a : Nat → Nat} {d : Nat → ClassId} {RR : Nat → Nat → CS → (CS → Prop) → (Nat → CS → Prop) → Prop} {dd : Nat} (hRR : RecOkC l D a d RR dd) (sz : Nat) (y1 : Nat) (S : CS) (Q : CS → Prop) (E : Nat → CS → Prop) (h : C0_term_b RR y1 S Q E) : CTv l D a d yX0_term cX0_term 3 (rmC (dd + 1)) 0 0 [.ref (a 0), .ref y1] sz S Q E := by
  refine t_enter (Qc := fun A => QTv Q E (BC D a d A) A) RX0 (by decide +kernel) rfl (Nat.le_of_ble_eq_true rfl) ?_
  intro p e s m below meth c ls A Ft hG hl
  have G := hG
  have hl : lv_has ls 3 [(0, .ref (a 0)), (1, .ref y1)] := hl
  have F := Ft.1
  obtain ⟨hx, hb, hr, hml, hown, hts, hlocks, hA, hK, hN⟩ := id F
  unfold C0_term_b at h
  refine lv_aload_n hx hb dX0_term_0 rfl (lv_at hl 0 rfl) ?_
  refine lv_aload_n hx hb dX0_term_1 rfl (lv_at hl 1 rfl) ?_
  refine kCR_5 hRR F G hl.1 rfl rfl (Nat.le_of_ble_eq_true rfl) dX0_term_2 h (fun S_1 H locs G h => ?_) (fun z S1 H locs G h => t_outv Ft G h)
  obtain ⟨k5, h⟩ := h
  exact wC0_term_b_L5 Ft hRR y1  k5  S_1 _ _ _ G (lv_sub hl [0, 1] rfl) h
set_option maxHeartbeats 4000000 in
set_option maxRecDepth 100000 in
theorem kX0_C0_number {p : Program} {l : Launch} {e : Env} {s : State} {m : MethodId} {R : Room} {args : Array Value} {below : List Frame} {meth : Method} {c : Code} {D : va_G} {a : Nat → Nat} {d : Nat → ClassId} {A : Nat → Prop} {Q : State → Prop} {cc : ByteArray} {nL pc cells slots : Nat} {ret : Option FieldType} {ls : Array Slot} {rest : List Value}  {S : CS} {H : Heap} {locs : List Loc} {Q1 : Int32 → CS → Prop} {E1 : Nat → CS → Prop} (F : FC p s m meth c args D a d A RX0 cc nL ret) (G : GC D a d A s.heap S H locs) (hsz : ls.size = nL) (hR : rmX0_number.frames + 1 ≤ R.frames ∧ 8 + (3 + 11) + rmX0_number.locals ≤ R.locals) (hc : cells + 0 ≤ R.cells ∧ slots + 0 ≤ R.slots) (hW : (rest.map fun v => v.category).sum ≤ 8) (hd : decode cc pc = .ok (.invokevirtual 208, 3)) (h : C0_number  S Q1 E1) (k : ∀ (r : Int32) (S1 : CS) (H : Heap) (locs : List Loc), GC D a d A s.heap S1 H locs → Q1 r S1 → W p l e R s m args below meth c H locs cells slots Q (F0 m (pc + 3) ls (.int r :: rest))) (kx : ∀ (z : Nat) (S1 : CS) (H : Heap) (locs : List Loc), GC D a d A s.heap S1 H locs → E1 z S1 → WX p l e R s m args below meth c H locs cells slots Q (F0 m pc ls rest) z) : W p l e R s m args below meth c H locs cells slots Q (F0 m pc ls (.ref (a 0) :: rest)) := by
  obtain ⟨hx, hb, hr, hml, hown, hts, hlocks, hA, hK, hN⟩ := id F
  exact t_callVi (n := 0) (As := []) F G hsz (wC0_number H.size  S Q1 E1 h) q505 q507 qs15 q82 q508 (va_recv hK G.1 (ci := 0) (q0 := 0) rfl rfl) (by decide +kernel) rfl rfl rfl rfl hR hc hW hd k kx
set_option maxHeartbeats 4000000 in
set_option maxRecDepth 100000 in
theorem kX0_C0_isName {p : Program} {l : Launch} {e : Env} {s : State} {m : MethodId} {R : Room} {args : Array Value} {below : List Frame} {meth : Method} {c : Code} {D : va_G} {a : Nat → Nat} {d : Nat → ClassId} {A : Nat → Prop} {Q : State → Prop} {cc : ByteArray} {nL pc cells slots : Nat} {ret : Option FieldType} {ls : Array Slot} {rest : List Value} {v1 : Int32} {S : CS} {H : Heap} {locs : List Loc} {Q1 : Int32 → CS → Prop} (F : FC p s m meth c args D a d A RX0 cc nL ret) (G : GC D a d A s.heap S H locs) (hsz : ls.size = nL) (hR : rmX0_isName.frames + 1 ≤ R.frames ∧ 8 + (2 + 11) + rmX0_isName.locals ≤ R.locals) (hc : cells + 0 ≤ R.cells ∧ slots + 0 ≤ R.slots) (hW : (rest.map fun v => v.category).sum ≤ 8) (hd : decode cc pc = .ok (.invokevirtual 211, 3)) (h : C0_isName v1 S Q1) (k : ∀ (r : Int32) (S1 : CS) (H : Heap) (locs : List Loc), GC D a d A s.heap S1 H locs → Q1 r S1 → W p l e R s m args below meth c H locs cells slots Q (F0 m (pc + 3) ls (.int r :: rest))) : W p l e R s m args below meth c H locs cells slots Q (F0 m pc ls (.int v1 :: .ref (a 0) :: rest)) := by
  obtain ⟨hx, hb, hr, hml, hown, hts, hlocks, hA, hK, hN⟩ := id F
  exact c_calli F G (va_runV (As := [.int v1]) (rest := rest) ⟨hx, hb, hml, hown, hts⟩ (wC0_isName H.size v1 S Q1 h) (cwV 1 hts (lw_V q509 q511 qs16 q82 q512) rfl rfl rfl (by decide +kernel) hR) ⟨PC_blind, va_recv hK G.1 (ci := 0) (q0 := 0) rfl rfl, c_pre F G⟩ rfl rfl hsz rfl (lv_room hW) hd hc) k
/-! StrokesHeard.piece -/
def C0_piece_b_p223 (Q : CS → Prop) (E : Nat → CS → Prop) (RR : Nat → Nat → CS → (CS → Prop) → (Nat → CS → Prop) → Prop)  (y1 : Nat) (S : CS) : Prop := vp_in ((cF S 0 14 ((S.1 0 14) + 1)).1 0 9) 96 ∧ (∃ fs_50 : List Value, has (cF S 0 14 ((S.1 0 14) + 1)) y1 (.inr (12, fs_50)) ∧ (C12_add y1 2 ((cF S 0 14 ((S.1 0 14) + 1)).1 22 (((cF S 0 14 ((S.1 0 14) + 1)).1 0 9).toNatClampNeg)) (cF S 0 14 ((S.1 0 14) + 1)) (fun S_49 => C0_goes  S_49 (fun S_53 => Q S_53) E)))
def C0_piece_b_p219 (Q : CS → Prop) (E : Nat → CS → Prop) (RR : Nat → Nat → CS → (CS → Prop) → (Nat → CS → Prop) → Prop)  (y1 : Nat) (S : CS) : Prop := C0_wrong  S (fun S_46 => C0_piece_b_p223 Q E RR y1 S_46) E
def C0_piece_b_p179 (Q : CS → Prop) (E : Nat → CS → Prop) (RR : Nat → Nat → CS → (CS → Prop) → (Nat → CS → Prop) → Prop)  (y1 : Nat) (S : CS) : Prop := ((S.1 0 9) = (S.1 0 11) → C0_piece_b_p219 Q E RR y1 S) ∧ (¬ (S.1 0 9) = (S.1 0 11) → (¬ ((S.1 0 10) - (S.1 0 9)) = 1 → C0_piece_b_p219 Q E RR y1 S) ∧ (((S.1 0 10) - (S.1 0 9)) = 1 → vp_in (S.1 0 9) 96 ∧ (C0_isName (S.1 22 ((S.1 0 9).toNatClampNeg)) S (fun r_27 S_28 => (¬ r_27 = 0 → C0_piece_b_p223 Q E RR y1 S_28) ∧ (r_27 = 0 → C0_piece_b_p219 Q E RR y1 S_28)))))
def C0_piece_b_p114 (Q : CS → Prop) (E : Nat → CS → Prop) (RR : Nat → Nat → CS → (CS → Prop) → (Nat → CS → Prop) → Prop)   (S : CS) : Prop := C0_goes  S (fun S_55 => Q (cF S_55 0 12 ((S_55.1 0 12) - 1))) E
def C0_piece_b_p82 (Q : CS → Prop) (E : Nat → CS → Prop) (RR : Nat → Nat → CS → (CS → Prop) → (Nat → CS → Prop) → Prop)  (y1 : Nat) (S : CS) : Prop := C0_goes  (cF S 0 12 ((S.1 0 12) + 1)) (fun S_31 => RR 0 y1 S_31 (fun S_32 => C0_isSign 41 S_32 (fun r_33 S_34 => (¬ r_33 = 0 → C0_piece_b_p114 Q E RR  S_34) ∧ (r_33 = 0 → C0_wrong  S_34 (fun S_37 => C0_piece_b_p114 Q E RR  S_37) E))) E) E
def C0_piece_b_p22 (Q : CS → Prop) (E : Nat → CS → Prop) (RR : Nat → Nat → CS → (CS → Prop) → (Nat → CS → Prop) → Prop)  (y1 : Nat) (S : CS) : Prop := C0_goes  (cF S 0 13 ((S.1 0 13) + 1)) (fun S_39 => RR 5 y1 S_39 (fun S_40 => ∃ fs_43 : List Value, has S_40 y1 (.inr (12, fs_43)) ∧ (C12_add y1 3 0 S_40 (fun S_42 => Q (cF S_42 0 13 ((S_42.1 0 13) - 1))))) E) E
def C0_piece_b (RR : Nat → Nat → CS → (CS → Prop) → (Nat → CS → Prop) → Prop) (y1 : Nat) (S : CS) (Q : CS → Prop) (E : Nat → CS → Prop) : Prop := C0_isSign 33 S (fun r_1 S_2 => (r_1 = 0 → C0_isSign 40 S_2 (fun r_4 S_5 => (r_4 = 0 → ((S_5.1 0 11) ≤ (S_5.1 0 9) → C0_piece_b_p179 Q E RR y1 S_5) ∧ (¬ (S_5.1 0 11) ≤ (S_5.1 0 9) → vp_in (S_5.1 0 9) 96 ∧ (C0_isDigit (S_5.1 22 ((S_5.1 0 9).toNatClampNeg)) S_5 (fun r_9 S_10 => (r_9 = 0 → C0_piece_b_p179 Q E RR y1 S_10) ∧ (¬ r_9 = 0 → C0_number  (cF S_10 0 14 ((S_10.1 0 14) + 1)) (fun r_12 S_13 => ∃ fs_16 : List Value, has S_13 y1 (.inr (12, fs_16)) ∧ (C12_add y1 1 r_12 S_13 (fun S_15 => Q S_15))) E))))) ∧ (¬ r_4 = 0 → (¬ (S_5.1 0 12) = 8 → C0_piece_b_p82 Q E RR y1 S_5) ∧ ((S_5.1 0 12) = 8 → C0_wrong  S_5 (fun S_20 => C0_piece_b_p82 Q E RR y1 S_20) E)))) ∧ (¬ r_1 = 0 → (¬ (S_2.1 0 13) = 8 → C0_piece_b_p22 Q E RR y1 S_2) ∧ ((S_2.1 0 13) = 8 → C0_wrong  S_2 (fun S_23 => C0_piece_b_p22 Q E RR y1 S_23) E)))
set_option maxHeartbeats 4000000 in
set_option maxRecDepth 100000 in
theorem wC0_piece_b_p223 {p : Program} {l : Launch} {e : Env} {s : State} {m : MethodId} {args : Array Value} {below : List Frame} {meth : Method} {c : Code} {D : va_G} {a : Nat → Nat} {d : Nat → ClassId} {A : Nat → Prop} {Q : CS → Prop} {E : Nat → CS → Prop} {RR : Nat → Nat → CS → (CS → Prop) → (Nat → CS → Prop) → Prop}  (Ft : FT p s m meth c args D a d A RX0 cX0_piece 2 none) {dd : Nat} (hRR : RecOkC l D a d RR dd) (y1 : Nat) (S : CS)  {H : Heap} {locs : List Loc} {ls : Array Slot} (G : GC D a d A s.heap S H locs) (hl : lv_has ls 2 [(0, .ref (a 0)), (1, .ref y1)]) (h : C0_piece_b_p223 Q E RR y1 S) : wTv p l e (rmC (dd + 1)) s m args below meth c D a d A Q E 0 0 H locs 0 0 (F0 m 223 ls []) := by
  have F := Ft.1
  obtain ⟨hx, hb, hr, hml, hown, hts, hlocks, hA, hK, hN⟩ := id F
  unfold C0_piece_b_p223 at h
  refine lv_aload_n hx hb dX0_piece_223 rfl (lv_at hl 0 rfl) ?_
  refine lv_dup hx hb dX0_piece_224 rfl ?_
  refine cgX0_0_wordMany F G dX0_piece_225 ?_
  refine lv_iconst (v := 1) hx hb dX0_piece_228 (by decide) ?_
  refine lv_iadd hx hb dX0_piece_229 ?_
  refine cpX0_0_wordMany F G dX0_piece_230 (fun H locs G => ?_)
  refine lv_aload_n hx hb dX0_piece_233 rfl (lv_at hl 1 rfl) ?_
  refine lv_iconst (v := 2) hx hb dX0_piece_234 (by decide) ?_
  refine lv_aload_n hx hb dX0_piece_235 rfl (lv_at hl 0 rfl) ?_
  refine cgX0_0_tape F G dX0_piece_236 ?_
  refine lv_aload_n hx hb dX0_piece_239 rfl (lv_at hl 0 rfl) ?_
  refine cgX0_0_from F G dX0_piece_240 ?_
  obtain ⟨b_47, h⟩ := h
  refine c_baload F G cI_22 b_47 dX0_piece_243 ?_
  obtain ⟨fs_50, z_51, h⟩ := h
  refine kX0_C12_add F G z_51 hl.1 (rr_okC (Nat.le_of_ble_eq_true rfl) (Nat.le_of_ble_eq_true rfl)) ⟨(Nat.le_of_ble_eq_true rfl), (Nat.le_of_ble_eq_true rfl)⟩ (Nat.le_of_ble_eq_true rfl) dX0_piece_244 h (fun S_49 H locs G h => ?_)
  refine lv_aload_n hx hb dX0_piece_247 rfl (lv_at hl 0 rfl) ?_
  refine kX0_C0_goes F G hl.1 (rr_okC (Nat.le_of_ble_eq_true rfl) (Nat.le_of_ble_eq_true rfl)) ⟨(Nat.le_of_ble_eq_true rfl), (Nat.le_of_ble_eq_true rfl)⟩ (Nat.le_of_ble_eq_true rfl) dX0_piece_248 h (fun S_53 H locs G h => ?_) (fun z S1 H locs G h => WX.widen (k := 0) (n := 0) (Nat.le_of_ble_eq_true rfl) (Nat.le_of_ble_eq_true rfl) (t_outv Ft G h))
  exact t_vret Ft G dX0_piece_251 h
set_option maxHeartbeats 4000000 in
set_option maxRecDepth 100000 in
theorem wC0_piece_b_p219 {p : Program} {l : Launch} {e : Env} {s : State} {m : MethodId} {args : Array Value} {below : List Frame} {meth : Method} {c : Code} {D : va_G} {a : Nat → Nat} {d : Nat → ClassId} {A : Nat → Prop} {Q : CS → Prop} {E : Nat → CS → Prop} {RR : Nat → Nat → CS → (CS → Prop) → (Nat → CS → Prop) → Prop}  (Ft : FT p s m meth c args D a d A RX0 cX0_piece 2 none) {dd : Nat} (hRR : RecOkC l D a d RR dd) (y1 : Nat) (S : CS)  {H : Heap} {locs : List Loc} {ls : Array Slot} (G : GC D a d A s.heap S H locs) (hl : lv_has ls 2 [(0, .ref (a 0)), (1, .ref y1)]) (h : C0_piece_b_p219 Q E RR y1 S) : wTv p l e (rmC (dd + 1)) s m args below meth c D a d A Q E 0 0 H locs 0 0 (F0 m 219 ls []) := by
  have F := Ft.1
  obtain ⟨hx, hb, hr, hml, hown, hts, hlocks, hA, hK, hN⟩ := id F
  unfold C0_piece_b_p219 at h
  refine lv_aload_n hx hb dX0_piece_219 rfl (lv_at hl 0 rfl) ?_
  refine kX0_C0_wrong F G hl.1 (rr_okC (Nat.le_of_ble_eq_true rfl) (Nat.le_of_ble_eq_true rfl)) ⟨(Nat.le_of_ble_eq_true rfl), (Nat.le_of_ble_eq_true rfl)⟩ (Nat.le_of_ble_eq_true rfl) dX0_piece_220 h (fun S_46 H locs G h => ?_) (fun z S1 H locs G h => WX.widen (k := 0) (n := 0) (Nat.le_of_ble_eq_true rfl) (Nat.le_of_ble_eq_true rfl) (t_outv Ft G h))
  exact wC0_piece_b_p223 Ft hRR y1 S_46  G (lv_sub hl [0, 1] rfl) h
set_option maxHeartbeats 4000000 in
set_option maxRecDepth 100000 in
theorem wC0_piece_b_p179 {p : Program} {l : Launch} {e : Env} {s : State} {m : MethodId} {args : Array Value} {below : List Frame} {meth : Method} {c : Code} {D : va_G} {a : Nat → Nat} {d : Nat → ClassId} {A : Nat → Prop} {Q : CS → Prop} {E : Nat → CS → Prop} {RR : Nat → Nat → CS → (CS → Prop) → (Nat → CS → Prop) → Prop}  (Ft : FT p s m meth c args D a d A RX0 cX0_piece 2 none) {dd : Nat} (hRR : RecOkC l D a d RR dd) (y1 : Nat) (S : CS)  {H : Heap} {locs : List Loc} {ls : Array Slot} (G : GC D a d A s.heap S H locs) (hl : lv_has ls 2 [(0, .ref (a 0)), (1, .ref y1)]) (h : C0_piece_b_p179 Q E RR y1 S) : wTv p l e (rmC (dd + 1)) s m args below meth c D a d A Q E 0 0 H locs 0 0 (F0 m 179 ls []) := by
  have F := Ft.1
  obtain ⟨hx, hb, hr, hml, hown, hts, hlocks, hA, hK, hN⟩ := id F
  unfold C0_piece_b_p179 at h
  refine lv_aload_n hx hb dX0_piece_179 rfl (lv_at hl 0 rfl) ?_
  refine cgX0_0_from F G dX0_piece_180 ?_
  refine lv_aload_n hx hb dX0_piece_183 rfl (lv_at hl 0 rfl) ?_
  refine cgX0_0_end F G dX0_piece_184 ?_
  refine lv_icmp_eq (tgt := 219) hx hb dX0_piece_187 (by decide) (fun c_24 => ?_) (fun c_24 => ?_)
  · replace h := h.1 c_24
    exact wC0_piece_b_p219 Ft hRR y1 S  G (lv_sub hl [0, 1] rfl) h
  · replace h := h.2 c_24
    refine lv_aload_n hx hb dX0_piece_190 rfl (lv_at hl 0 rfl) ?_
    refine cgX0_0_to F G dX0_piece_191 ?_
    refine lv_aload_n hx hb dX0_piece_194 rfl (lv_at hl 0 rfl) ?_
    refine cgX0_0_from F G dX0_piece_195 ?_
    refine lv_isub hx hb dX0_piece_198 ?_
    refine lv_iconst (v := 1) hx hb dX0_piece_199 (by decide) ?_
    refine lv_icmp_ne (tgt := 219) hx hb dX0_piece_200 (by decide) (fun c_25 => ?_) (fun c_25 => ?_)
    · replace h := h.1 c_25
      exact wC0_piece_b_p219 Ft hRR y1 S  G (lv_sub hl [0, 1] rfl) h
    · replace h := h.2 c_25
      refine lv_aload_n hx hb dX0_piece_203 rfl (lv_at hl 0 rfl) ?_
      refine lv_aload_n hx hb dX0_piece_204 rfl (lv_at hl 0 rfl) ?_
      refine cgX0_0_tape F G dX0_piece_205 ?_
      refine lv_aload_n hx hb dX0_piece_208 rfl (lv_at hl 0 rfl) ?_
      refine cgX0_0_from F G dX0_piece_209 ?_
      obtain ⟨b_26, h⟩ := h
      refine c_baload F G cI_22 b_26 dX0_piece_212 ?_
      refine kX0_C0_isName F G hl.1 (rr_okC (Nat.le_of_ble_eq_true rfl) (Nat.le_of_ble_eq_true rfl)) ⟨(Nat.le_of_ble_eq_true rfl), (Nat.le_of_ble_eq_true rfl)⟩ (Nat.le_of_ble_eq_true rfl) dX0_piece_213 h (fun r_27 S_28 H locs G h => ?_)
      refine lv_if_ne (tgt := 223) hx hb dX0_piece_216 (by decide) (fun c_29 => ?_) (fun c_29 => ?_)
      · replace h := h.1 c_29
        exact wC0_piece_b_p223 Ft hRR y1 S_28  G (lv_sub hl [0, 1] rfl) h
      · replace h := h.2 c_29
        exact wC0_piece_b_p219 Ft hRR y1 S_28  G (lv_sub hl [0, 1] rfl) h
set_option maxHeartbeats 4000000 in
set_option maxRecDepth 100000 in
theorem wC0_piece_b_p114 {p : Program} {l : Launch} {e : Env} {s : State} {m : MethodId} {args : Array Value} {below : List Frame} {meth : Method} {c : Code} {D : va_G} {a : Nat → Nat} {d : Nat → ClassId} {A : Nat → Prop} {Q : CS → Prop} {E : Nat → CS → Prop} {RR : Nat → Nat → CS → (CS → Prop) → (Nat → CS → Prop) → Prop}  (Ft : FT p s m meth c args D a d A RX0 cX0_piece 2 none) {dd : Nat} (hRR : RecOkC l D a d RR dd)  (S : CS)  {H : Heap} {locs : List Loc} {ls : Array Slot} (G : GC D a d A s.heap S H locs) (hl : lv_has ls 2 [(0, .ref (a 0))]) (h : C0_piece_b_p114 Q E RR S) : wTv p l e (rmC (dd + 1)) s m args below meth c D a d A Q E 0 0 H locs 0 0 (F0 m 114 ls []) := by
  have F := Ft.1
  obtain ⟨hx, hb, hr, hml, hown, hts, hlocks, hA, hK, hN⟩ := id F
  unfold C0_piece_b_p114 at h
  refine lv_aload_n hx hb dX0_piece_114 rfl (lv_at hl 0 rfl) ?_
  refine kX0_C0_goes F G hl.1 (rr_okC (Nat.le_of_ble_eq_true rfl) (Nat.le_of_ble_eq_true rfl)) ⟨(Nat.le_of_ble_eq_true rfl), (Nat.le_of_ble_eq_true rfl)⟩ (Nat.le_of_ble_eq_true rfl) dX0_piece_115 h (fun S_55 H locs G h => ?_) (fun z S1 H locs G h => WX.widen (k := 0) (n := 0) (Nat.le_of_ble_eq_true rfl) (Nat.le_of_ble_eq_true rfl) (t_outv Ft G h))
  refine lv_aload_n hx hb dX0_piece_118 rfl (lv_at hl 0 rfl) ?_
  refine lv_dup hx hb dX0_piece_119 rfl ?_
  refine cgX0_0_parens F G dX0_piece_120 ?_
  refine lv_iconst (v := 1) hx hb dX0_piece_123 (by decide) ?_
  refine lv_isub hx hb dX0_piece_124 ?_
  refine cpX0_0_parens F G dX0_piece_125 (fun H locs G => ?_)
  refine lv_goto (tgt := 251) hx hb dX0_piece_128 (by decide) ?_
  exact t_vret Ft G dX0_piece_251 h
set_option maxHeartbeats 4000000 in
set_option maxRecDepth 100000 in
theorem wC0_piece_b_p82 {p : Program} {l : Launch} {e : Env} {s : State} {m : MethodId} {args : Array Value} {below : List Frame} {meth : Method} {c : Code} {D : va_G} {a : Nat → Nat} {d : Nat → ClassId} {A : Nat → Prop} {Q : CS → Prop} {E : Nat → CS → Prop} {RR : Nat → Nat → CS → (CS → Prop) → (Nat → CS → Prop) → Prop}  (Ft : FT p s m meth c args D a d A RX0 cX0_piece 2 none) {dd : Nat} (hRR : RecOkC l D a d RR dd) (y1 : Nat) (S : CS)  {H : Heap} {locs : List Loc} {ls : Array Slot} (G : GC D a d A s.heap S H locs) (hl : lv_has ls 2 [(0, .ref (a 0)), (1, .ref y1)]) (h : C0_piece_b_p82 Q E RR y1 S) : wTv p l e (rmC (dd + 1)) s m args below meth c D a d A Q E 0 0 H locs 0 0 (F0 m 82 ls []) := by
  have F := Ft.1
  obtain ⟨hx, hb, hr, hml, hown, hts, hlocks, hA, hK, hN⟩ := id F
  unfold C0_piece_b_p82 at h
  refine lv_aload_n hx hb dX0_piece_82 rfl (lv_at hl 0 rfl) ?_
  refine lv_dup hx hb dX0_piece_83 rfl ?_
  refine cgX0_0_parens F G dX0_piece_84 ?_
  refine lv_iconst (v := 1) hx hb dX0_piece_87 (by decide) ?_
  refine lv_iadd hx hb dX0_piece_88 ?_
  refine cpX0_0_parens F G dX0_piece_89 (fun H locs G => ?_)
  refine lv_aload_n hx hb dX0_piece_92 rfl (lv_at hl 0 rfl) ?_
  refine kX0_C0_goes F G hl.1 (rr_okC (Nat.le_of_ble_eq_true rfl) (Nat.le_of_ble_eq_true rfl)) ⟨(Nat.le_of_ble_eq_true rfl), (Nat.le_of_ble_eq_true rfl)⟩ (Nat.le_of_ble_eq_true rfl) dX0_piece_93 h (fun S_31 H locs G h => ?_) (fun z S1 H locs G h => WX.widen (k := 0) (n := 0) (Nat.le_of_ble_eq_true rfl) (Nat.le_of_ble_eq_true rfl) (t_outv Ft G h))
  refine lv_aload_n hx hb dX0_piece_96 rfl (lv_at hl 0 rfl) ?_
  refine lv_aload_n hx hb dX0_piece_97 rfl (lv_at hl 1 rfl) ?_
  refine kCR_0 hRR F G hl.1 rfl rfl (Nat.le_of_ble_eq_true rfl) dX0_piece_98 h (fun S_32 H locs G h => ?_) (fun z S1 H locs G h => t_outv Ft G h)
  refine lv_aload_n hx hb dX0_piece_101 rfl (lv_at hl 0 rfl) ?_
  refine lv_bipush (v := 41) hx hb dX0_piece_102 (by decide) ?_
  refine kX0_C0_isSign F G hl.1 (rr_okC (Nat.le_of_ble_eq_true rfl) (Nat.le_of_ble_eq_true rfl)) ⟨(Nat.le_of_ble_eq_true rfl), (Nat.le_of_ble_eq_true rfl)⟩ (Nat.le_of_ble_eq_true rfl) dX0_piece_104 h (fun r_33 S_34 H locs G h => ?_)
  refine lv_if_ne (tgt := 114) hx hb dX0_piece_107 (by decide) (fun c_35 => ?_) (fun c_35 => ?_)
  · replace h := h.1 c_35
    exact wC0_piece_b_p114 Ft hRR  S_34  G (lv_sub hl [0] rfl) h
  · replace h := h.2 c_35
    refine lv_aload_n hx hb dX0_piece_110 rfl (lv_at hl 0 rfl) ?_
    refine kX0_C0_wrong F G hl.1 (rr_okC (Nat.le_of_ble_eq_true rfl) (Nat.le_of_ble_eq_true rfl)) ⟨(Nat.le_of_ble_eq_true rfl), (Nat.le_of_ble_eq_true rfl)⟩ (Nat.le_of_ble_eq_true rfl) dX0_piece_111 h (fun S_37 H locs G h => ?_) (fun z S1 H locs G h => WX.widen (k := 0) (n := 0) (Nat.le_of_ble_eq_true rfl) (Nat.le_of_ble_eq_true rfl) (t_outv Ft G h))
    exact wC0_piece_b_p114 Ft hRR  S_37  G (lv_sub hl [0] rfl) h
set_option maxHeartbeats 4000000 in
set_option maxRecDepth 100000 in
theorem wC0_piece_b_p22 {p : Program} {l : Launch} {e : Env} {s : State} {m : MethodId} {args : Array Value} {below : List Frame} {meth : Method} {c : Code} {D : va_G} {a : Nat → Nat} {d : Nat → ClassId} {A : Nat → Prop} {Q : CS → Prop} {E : Nat → CS → Prop} {RR : Nat → Nat → CS → (CS → Prop) → (Nat → CS → Prop) → Prop}  (Ft : FT p s m meth c args D a d A RX0 cX0_piece 2 none) {dd : Nat} (hRR : RecOkC l D a d RR dd) (y1 : Nat) (S : CS)  {H : Heap} {locs : List Loc} {ls : Array Slot} (G : GC D a d A s.heap S H locs) (hl : lv_has ls 2 [(0, .ref (a 0)), (1, .ref y1)]) (h : C0_piece_b_p22 Q E RR y1 S) : wTv p l e (rmC (dd + 1)) s m args below meth c D a d A Q E 0 0 H locs 0 0 (F0 m 22 ls []) := by
  have F := Ft.1
  obtain ⟨hx, hb, hr, hml, hown, hts, hlocks, hA, hK, hN⟩ := id F
  unfold C0_piece_b_p22 at h
  refine lv_aload_n hx hb dX0_piece_22 rfl (lv_at hl 0 rfl) ?_
  refine lv_dup hx hb dX0_piece_23 rfl ?_
  refine cgX0_0_nots F G dX0_piece_24 ?_
  refine lv_iconst (v := 1) hx hb dX0_piece_27 (by decide) ?_
  refine lv_iadd hx hb dX0_piece_28 ?_
  refine cpX0_0_nots F G dX0_piece_29 (fun H locs G => ?_)
  refine lv_aload_n hx hb dX0_piece_32 rfl (lv_at hl 0 rfl) ?_
  refine kX0_C0_goes F G hl.1 (rr_okC (Nat.le_of_ble_eq_true rfl) (Nat.le_of_ble_eq_true rfl)) ⟨(Nat.le_of_ble_eq_true rfl), (Nat.le_of_ble_eq_true rfl)⟩ (Nat.le_of_ble_eq_true rfl) dX0_piece_33 h (fun S_39 H locs G h => ?_) (fun z S1 H locs G h => WX.widen (k := 0) (n := 0) (Nat.le_of_ble_eq_true rfl) (Nat.le_of_ble_eq_true rfl) (t_outv Ft G h))
  refine lv_aload_n hx hb dX0_piece_36 rfl (lv_at hl 0 rfl) ?_
  refine lv_aload_n hx hb dX0_piece_37 rfl (lv_at hl 1 rfl) ?_
  refine kCR_5 hRR F G hl.1 rfl rfl (Nat.le_of_ble_eq_true rfl) dX0_piece_38 h (fun S_40 H locs G h => ?_) (fun z S1 H locs G h => t_outv Ft G h)
  refine lv_aload_n hx hb dX0_piece_41 rfl (lv_at hl 1 rfl) ?_
  refine lv_iconst (v := 3) hx hb dX0_piece_42 (by decide) ?_
  refine lv_iconst (v := 0) hx hb dX0_piece_43 (by decide) ?_
  obtain ⟨fs_43, z_44, h⟩ := h
  refine kX0_C12_add F G z_44 hl.1 (rr_okC (Nat.le_of_ble_eq_true rfl) (Nat.le_of_ble_eq_true rfl)) ⟨(Nat.le_of_ble_eq_true rfl), (Nat.le_of_ble_eq_true rfl)⟩ (Nat.le_of_ble_eq_true rfl) dX0_piece_44 h (fun S_42 H locs G h => ?_)
  refine lv_aload_n hx hb dX0_piece_47 rfl (lv_at hl 0 rfl) ?_
  refine lv_dup hx hb dX0_piece_48 rfl ?_
  refine cgX0_0_nots F G dX0_piece_49 ?_
  refine lv_iconst (v := 1) hx hb dX0_piece_52 (by decide) ?_
  refine lv_isub hx hb dX0_piece_53 ?_
  refine cpX0_0_nots F G dX0_piece_54 (fun H locs G => ?_)
  refine lv_goto (tgt := 251) hx hb dX0_piece_57 (by decide) ?_
  exact t_vret Ft G dX0_piece_251 h
set_option maxHeartbeats 4000000 in
set_option maxRecDepth 100000 in
theorem wC0_piece_b {l : Launch} {D : va_G} {a : Nat → Nat} {d : Nat → ClassId} {RR : Nat → Nat → CS → (CS → Prop) → (Nat → CS → Prop) → Prop} {dd : Nat} (hRR : RecOkC l D a d RR dd) (sz : Nat) (y1 : Nat) (S : CS) (Q : CS → Prop) (E : Nat → CS → Prop) (h : C0_piece_b RR y1 S Q E) : CTv l D a d yX0_piece cX0_piece 2 (rmC (dd + 1)) 0 0 [.ref (a 0), .ref y1] sz S Q E := by
  refine t_enter (Qc := fun A => QTv Q E (BC D a d A) A) RX0 (by decide +kernel) rfl (Nat.le_of_ble_eq_true rfl) ?_
  intro p e s m below meth c ls A Ft hG hl
  have G := hG
  have hl : lv_has ls 2 [(0, .ref (a 0)), (1, .ref y1)] := hl
  have F := Ft.1
  obtain ⟨hx, hb, hr, hml, hown, hts, hlocks, hA, hK, hN⟩ := id F
  unfold C0_piece_b at h
  refine lv_aload_n hx hb dX0_piece_0 rfl (lv_at hl 0 rfl) ?_
  refine lv_bipush (v := 33) hx hb dX0_piece_1 (by decide) ?_
  refine kX0_C0_isSign F G hl.1 (rr_okC (Nat.le_of_ble_eq_true rfl) (Nat.le_of_ble_eq_true rfl)) ⟨(Nat.le_of_ble_eq_true rfl), (Nat.le_of_ble_eq_true rfl)⟩ (Nat.le_of_ble_eq_true rfl) dX0_piece_3 h (fun r_1 S_2 H locs G h => ?_)
  refine lv_if_eq (tgt := 60) hx hb dX0_piece_6 (by decide) (fun c_3 => ?_) (fun c_3 => ?_)
  · replace h := h.1 c_3
    refine lv_aload_n hx hb dX0_piece_60 rfl (lv_at hl 0 rfl) ?_
    refine lv_bipush (v := 40) hx hb dX0_piece_61 (by decide) ?_
    refine kX0_C0_isSign F G hl.1 (rr_okC (Nat.le_of_ble_eq_true rfl) (Nat.le_of_ble_eq_true rfl)) ⟨(Nat.le_of_ble_eq_true rfl), (Nat.le_of_ble_eq_true rfl)⟩ (Nat.le_of_ble_eq_true rfl) dX0_piece_63 h (fun r_4 S_5 H locs G h => ?_)
    refine lv_if_eq (tgt := 131) hx hb dX0_piece_66 (by decide) (fun c_6 => ?_) (fun c_6 => ?_)
    · replace h := h.1 c_6
      refine lv_aload_n hx hb dX0_piece_131 rfl (lv_at hl 0 rfl) ?_
      refine cgX0_0_from F G dX0_piece_132 ?_
      refine lv_aload_n hx hb dX0_piece_135 rfl (lv_at hl 0 rfl) ?_
      refine cgX0_0_end F G dX0_piece_136 ?_
      refine lv_icmp_ge (tgt := 179) hx hb dX0_piece_139 (by decide) (fun c_7 => ?_) (fun c_7 => ?_)
      · replace h := h.1 c_7
        exact wC0_piece_b_p179 Ft hRR y1 S_5  G (lv_sub hl [0, 1] rfl) h
      · replace h := h.2 c_7
        refine lv_aload_n hx hb dX0_piece_142 rfl (lv_at hl 0 rfl) ?_
        refine cgX0_0_tape F G dX0_piece_143 ?_
        refine lv_aload_n hx hb dX0_piece_146 rfl (lv_at hl 0 rfl) ?_
        refine cgX0_0_from F G dX0_piece_147 ?_
        obtain ⟨b_8, h⟩ := h
        refine c_baload F G cI_22 b_8 dX0_piece_150 ?_
        refine kX0_C0_isDigit F G hl.1 (rr_okC (Nat.le_of_ble_eq_true rfl) (Nat.le_of_ble_eq_true rfl)) ⟨(Nat.le_of_ble_eq_true rfl), (Nat.le_of_ble_eq_true rfl)⟩ (Nat.le_of_ble_eq_true rfl) dX0_piece_151 h (fun r_9 S_10 H locs G h => ?_)
        refine lv_if_eq (tgt := 179) hx hb dX0_piece_154 (by decide) (fun c_11 => ?_) (fun c_11 => ?_)
        · replace h := h.1 c_11
          exact wC0_piece_b_p179 Ft hRR y1 S_10  G (lv_sub hl [0, 1] rfl) h
        · replace h := h.2 c_11
          refine lv_aload_n hx hb dX0_piece_157 rfl (lv_at hl 0 rfl) ?_
          refine lv_dup hx hb dX0_piece_158 rfl ?_
          refine cgX0_0_wordMany F G dX0_piece_159 ?_
          refine lv_iconst (v := 1) hx hb dX0_piece_162 (by decide) ?_
          refine lv_iadd hx hb dX0_piece_163 ?_
          refine cpX0_0_wordMany F G dX0_piece_164 (fun H locs G => ?_)
          refine lv_aload_n hx hb dX0_piece_167 rfl (lv_at hl 1 rfl) ?_
          refine lv_iconst (v := 1) hx hb dX0_piece_168 (by decide) ?_
          refine lv_aload_n hx hb dX0_piece_169 rfl (lv_at hl 0 rfl) ?_
          refine kX0_C0_number F G hl.1 (rr_okC (Nat.le_of_ble_eq_true rfl) (Nat.le_of_ble_eq_true rfl)) ⟨(Nat.le_of_ble_eq_true rfl), (Nat.le_of_ble_eq_true rfl)⟩ (Nat.le_of_ble_eq_true rfl) dX0_piece_170 h (fun r_12 S_13 H locs G h => ?_) (fun z S1 H locs G h => WX.widen (k := 0) (n := 0) (Nat.le_of_ble_eq_true rfl) (Nat.le_of_ble_eq_true rfl) (t_outv Ft G h))
          obtain ⟨fs_16, z_17, h⟩ := h
          refine kX0_C12_add F G z_17 hl.1 (rr_okC (Nat.le_of_ble_eq_true rfl) (Nat.le_of_ble_eq_true rfl)) ⟨(Nat.le_of_ble_eq_true rfl), (Nat.le_of_ble_eq_true rfl)⟩ (Nat.le_of_ble_eq_true rfl) dX0_piece_173 h (fun S_15 H locs G h => ?_)
          refine lv_goto (tgt := 251) hx hb dX0_piece_176 (by decide) ?_
          exact t_vret Ft G dX0_piece_251 h
    · replace h := h.2 c_6
      refine lv_aload_n hx hb dX0_piece_69 rfl (lv_at hl 0 rfl) ?_
      refine cgX0_0_parens F G dX0_piece_70 ?_
      refine lv_bipush (v := 8) hx hb dX0_piece_73 (by decide) ?_
      refine lv_icmp_ne (tgt := 82) hx hb dX0_piece_75 (by decide) (fun c_18 => ?_) (fun c_18 => ?_)
      · replace h := h.1 c_18
        exact wC0_piece_b_p82 Ft hRR y1 S_5  G (lv_sub hl [0, 1] rfl) h
      · replace h := h.2 c_18
        refine lv_aload_n hx hb dX0_piece_78 rfl (lv_at hl 0 rfl) ?_
        refine kX0_C0_wrong F G hl.1 (rr_okC (Nat.le_of_ble_eq_true rfl) (Nat.le_of_ble_eq_true rfl)) ⟨(Nat.le_of_ble_eq_true rfl), (Nat.le_of_ble_eq_true rfl)⟩ (Nat.le_of_ble_eq_true rfl) dX0_piece_79 h (fun S_20 H locs G h => ?_) (fun z S1 H locs G h => WX.widen (k := 0) (n := 0) (Nat.le_of_ble_eq_true rfl) (Nat.le_of_ble_eq_true rfl) (t_outv Ft G h))
        exact wC0_piece_b_p82 Ft hRR y1 S_20  G (lv_sub hl [0, 1] rfl) h
  · replace h := h.2 c_3
    refine lv_aload_n hx hb dX0_piece_9 rfl (lv_at hl 0 rfl) ?_
    refine cgX0_0_nots F G dX0_piece_10 ?_
    refine lv_bipush (v := 8) hx hb dX0_piece_13 (by decide) ?_
    refine lv_icmp_ne (tgt := 22) hx hb dX0_piece_15 (by decide) (fun c_21 => ?_) (fun c_21 => ?_)
    · replace h := h.1 c_21
      exact wC0_piece_b_p22 Ft hRR y1 S_2  G (lv_sub hl [0, 1] rfl) h
    · replace h := h.2 c_21
      refine lv_aload_n hx hb dX0_piece_18 rfl (lv_at hl 0 rfl) ?_
      refine kX0_C0_wrong F G hl.1 (rr_okC (Nat.le_of_ble_eq_true rfl) (Nat.le_of_ble_eq_true rfl)) ⟨(Nat.le_of_ble_eq_true rfl), (Nat.le_of_ble_eq_true rfl)⟩ (Nat.le_of_ble_eq_true rfl) dX0_piece_19 h (fun S_23 H locs G h => ?_) (fun z S1 H locs G h => WX.widen (k := 0) (n := 0) (Nat.le_of_ble_eq_true rfl) (Nat.le_of_ble_eq_true rfl) (t_outv Ft G h))
      exact wC0_piece_b_p22 Ft hRR y1 S_23  G (lv_sub hl [0, 1] rfl) h
def C0_rec : Nat → Nat → Nat → CS → (CS → Prop) → (Nat → CS → Prop) → Prop
  | 0, _, _, _, _, _ => False
  | dd + 1, 0, y, S, Q, E => C0_or_b (C0_rec dd) y S Q E
  | dd + 1, 1, y, S, Q, E => C0_and_b (C0_rec dd) y S Q E
  | dd + 1, 2, y, S, Q, E => C0_test_b (C0_rec dd) y S Q E
  | dd + 1, 3, y, S, Q, E => C0_sum_b (C0_rec dd) y S Q E
  | dd + 1, 4, y, S, Q, E => C0_term_b (C0_rec dd) y S Q E
  | dd + 1, _, y, S, Q, E => C0_piece_b (C0_rec dd) y S Q E
theorem wC0_rec {l : Launch} {D : va_G} {a : Nat → Nat} {d : Nat → ClassId} : ∀ dd : Nat, RecOkC l D a d (C0_rec dd) dd := by
  intro dd
  induction dd with
  | zero => exact ⟨fun _ _ _ _ _ h => absurd h (fun q => q), fun _ _ _ _ _ h => absurd h (fun q => q), fun _ _ _ _ _ h => absurd h (fun q => q), fun _ _ _ _ _ h => absurd h (fun q => q), fun _ _ _ _ _ h => absurd h (fun q => q), fun _ _ _ _ _ h => absurd h (fun q => q)⟩
  | succ dd ih => exact ⟨fun y S Q E sz h => wC0_or_b ih sz y S Q E h, fun y S Q E sz h => wC0_and_b ih sz y S Q E h, fun y S Q E sz h => wC0_test_b ih sz y S Q E h, fun y S Q E sz h => wC0_sum_b ih sz y S Q E h, fun y S Q E sz h => wC0_term_b ih sz y S Q E h, fun y S Q E sz h => wC0_piece_b ih sz y S Q E h⟩
def C0_or (y1 : Nat) (S : CS) (Q : CS → Prop) (E : Nat → CS → Prop) : Prop := C0_rec 80 0 y1 S Q E
abbrev rmX0_or : Room := rmC 80
theorem wC0_or {l : Launch} {D : va_G} {a : Nat → Nat} {d : Nat → ClassId} (sz : Nat) (y1 : Nat) (S : CS) (Q : CS → Prop) (E : Nat → CS → Prop) (h : C0_or y1 S Q E) : CTv l D a d yX0_or cX0_or 2 rmX0_or 0 0 [.ref (a 0), .ref y1] sz S Q E := (wC0_rec 80).1 y1 S Q E sz h
set_option maxHeartbeats 4000000 in
set_option maxRecDepth 100000 in
theorem kX0_C12_init {p : Program} {l : Launch} {e : Env} {s : State} {m : MethodId} {R : Room} {args : Array Value} {below : List Frame} {meth : Method} {c : Code} {D : va_G} {a : Nat → Nat} {d : Nat → ClassId} {A : Nat → Prop} {Q : State → Prop} {cc : ByteArray} {nL pc cells slots : Nat} {ret : Option FieldType} {ls : Array Slot} {rest : List Value} {y0 : Nat} {S : CS} {H : Heap} {locs : List Loc} {Q1 : CS → Prop} (F : FC p s m meth c args D a d A RX0 cc nL ret) (G : GC D a d A s.heap S H locs) (hsz : ls.size = nL) (hR : rmX12_init.frames + 1 ≤ R.frames ∧ 8 + (1 + 11) + rmX12_init.locals ≤ R.locals) (hc : cells + 2 ≤ R.cells ∧ slots + 192 ≤ R.slots) (hW : (rest.map fun v => v.category).sum ≤ 8) (hd : decode cc pc = .ok (.invokespecial 169, 3)) (h : C12_init y0 S Q1) (k : ∀ (S1 : CS) (H : Heap) (locs : List Loc), GC D a d A s.heap S1 H locs → Q1 S1 → W p l e R s m args below meth c H locs (cells + 2) (slots + 192) Q (F0 m (pc + 3) ls rest)) : W p l e R s m args below meth c H locs cells slots Q (F0 m pc ls (.ref y0 :: rest)) := by
  obtain ⟨hx, hb, hr, hml, hown, hts, hlocks, hA, hK, hN⟩ := id F
  exact c_callv F G (va_runIN (As := []) (rest := rest) ⟨hx, hb, hml, hown, hts⟩ (wC12_init H.size y0 S Q1 h) ⟨va_cnB 0 hts (lw_meth q458) rfl rfl rfl (hN.1 _ (List.mem_of_getElem? (i := 19) rfl)) (hts _ q105) (by decide +kernel) hR, rfl, hts _ q457⟩ ⟨PC_blind, c_pre F G⟩ rfl rfl hsz rfl (lv_room hW) hd hc) k
set_option maxHeartbeats 4000000 in
set_option maxRecDepth 100000 in
theorem kX0_C0_or {p : Program} {l : Launch} {e : Env} {s : State} {m : MethodId} {R : Room} {args : Array Value} {below : List Frame} {meth : Method} {c : Code} {D : va_G} {a : Nat → Nat} {d : Nat → ClassId} {A : Nat → Prop} {Q : State → Prop} {cc : ByteArray} {nL pc cells slots : Nat} {ret : Option FieldType} {ls : Array Slot} {rest : List Value} {y1 : Nat} {S : CS} {H : Heap} {locs : List Loc} {Q1 : CS → Prop} {E1 : Nat → CS → Prop} (F : FC p s m meth c args D a d A RX0 cc nL ret) (G : GC D a d A s.heap S H locs) (hsz : ls.size = nL) (hR : rmX0_or.frames + 1 ≤ R.frames ∧ 8 + (2 + 11) + rmX0_or.locals ≤ R.locals) (hc : cells + 0 ≤ R.cells ∧ slots + 0 ≤ R.slots) (hW : (rest.map fun v => v.category).sum ≤ 8) (hd : decode cc pc = .ok (.invokevirtual 170, 3)) (h : C0_or y1 S Q1 E1) (k : ∀ (S1 : CS) (H : Heap) (locs : List Loc), GC D a d A s.heap S1 H locs → Q1 S1 → W p l e R s m args below meth c H locs cells slots Q (F0 m (pc + 3) ls rest)) (kx : ∀ (z : Nat) (S1 : CS) (H : Heap) (locs : List Loc), GC D a d A s.heap S1 H locs → E1 z S1 → WX p l e R s m args below meth c H locs cells slots Q (F0 m pc ls rest) z) : W p l e R s m args below meth c H locs cells slots Q (F0 m pc ls (.ref y1 :: .ref (a 0) :: rest)) := by
  obtain ⟨hx, hb, hr, hml, hown, hts, hlocks, hA, hK, hN⟩ := id F
  exact t_callVv (n := 1) (As := [.ref y1]) (rt := .int) F G hsz (wC0_or H.size y1 S Q1 E1 h) q473 q475 qs8 q82 q476 (va_recv hK G.1 (ci := 0) (q0 := 0) rfl rfl) (by decide +kernel) rfl rfl rfl rfl hR hc hW hd k kx
/-! StrokesHeard.expression -/
def C0_expression  (S : CS) (Q : Nat → CS → Prop) (E : Nat → CS → Prop) : Prop := ∀ y_1 : Nat, y_1 ∉ S.2.2.1 → C12_init y_1 (cN S y_1 (.inr (12, [.null, .null, .int 0]))) (fun S_4 => C0_or y_1 S_4 (fun S_6 => Q y_1 S_6) E)
abbrev rmX0_expression : Room := { frames := 85, cells := 3, slots := 195, locals := 1869 }
set_option maxHeartbeats 4000000 in
set_option maxRecDepth 100000 in
theorem wC0_expression {l : Launch} {D : va_G} {a : Nat → Nat} {d : Nat → ClassId} (sz : Nat)  (S : CS) (Q : Nat → CS → Prop) (E : Nat → CS → Prop) (h : C0_expression  S Q E) : CTr l D a d yX0_expression cX0_expression 2 (.object "StrokesHeard$Words") rmX0_expression 3 195 [.ref (a 0)] sz S Q E := by
  refine t_enter (Qc := fun A => QTr Q E (BC D a d A) A) RX0 (by decide +kernel) rfl (Nat.le_of_ble_eq_true rfl) ?_
  intro p e s m below meth c ls A Ft hG hl
  have G := hG
  have hl : lv_has ls 2 [(0, .ref (a 0))] := hl
  have F := Ft.1
  obtain ⟨hx, hb, hr, hml, hown, hts, hlocks, hA, hK, hN⟩ := id F
  unfold C0_expression at h
  refine pnX0_X12 F G ⟨(Nat.le_of_ble_eq_true rfl), (Nat.le_of_ble_eq_true rfl)⟩ dX0_expression_0 (fun y_1 H q_2 G => ?_)
  replace h := h y_1 q_2
  refine lv_dup hx hb dX0_expression_3 rfl ?_
  refine kX0_C12_init F G hl.1 ⟨(Nat.le_of_ble_eq_true rfl), (Nat.le_of_ble_eq_true rfl)⟩ ⟨(Nat.le_of_ble_eq_true rfl), (Nat.le_of_ble_eq_true rfl)⟩ (Nat.le_of_ble_eq_true rfl) dX0_expression_4 h (fun S_4 H locs G h => ?_)
  refine lv_astore_n (lv' := [(1, .ref y_1), (0, .ref (a 0))]) hx hb dX0_expression_7 rfl hl (by decide) rfl (fun ls hl => ?_)
  refine lv_aload_n hx hb dX0_expression_8 rfl (lv_at hl 1 rfl) ?_
  refine lv_aload_n hx hb dX0_expression_9 rfl (lv_at hl 0 rfl) ?_
  refine kX0_C0_or F G hl.1 ⟨(Nat.le_of_ble_eq_true rfl), (Nat.le_of_ble_eq_true rfl)⟩ ⟨(Nat.le_of_ble_eq_true rfl), (Nat.le_of_ble_eq_true rfl)⟩ (Nat.le_of_ble_eq_true rfl) dX0_expression_10 h (fun S_6 H locs G h => ?_) (fun z S1 H locs G h => WX.widen (k := 3) (n := 195) (Nat.le_of_ble_eq_true rfl) (Nat.le_of_ble_eq_true rfl) (t_outr Ft G h))
  refine lv_aload_n hx hb dX0_expression_13 rfl (lv_at hl 0 rfl) ?_
  exact t_aret Ft G dX0_expression_14 h
/-! java/lang/String.coder -/
def CJ5_coder_100  (S : CS) (Q : Int32 → CS → Prop) : Prop := ((1 : Int32) = 0 → narrow .byte (.int 1) = .int 1 ∧ Q 1 S) ∧ (¬ (1 : Int32) = 0 → narrow .byte (.int (0 : Int32)) = .int (0 : Int32) ∧ Q (0 : Int32) S)
abbrev rmJ5_coder_100 : Room := { frames := 0, cells := 0, slots := 0, locals := 0 }
set_option maxHeartbeats 4000000 in
set_option maxRecDepth 100000 in
theorem wCJ5_coder_100 {l : Launch} {D : va_G} {a : Nat → Nat} {d : Nat → ClassId} (sz : Nat)  (S : CS) (Q : Int32 → CS → Prop) (h : CJ5_coder_100  S Q) : CMi l D a d yJ5_coder cJ5_coder 1 .byte rmJ5_coder_100 0 0 [.ref (a 100)] sz S Q := by
  refine c_enterF (Qc := fun A => va_Qi Q (BC D a d A) A) RJ5 (by decide +kernel) rfl (Nat.le_of_ble_eq_true rfl) ?_
  intro p e s m below meth c ls A hmn F hG hl
  have G := hG
  have hl : lv_has ls 1 [(0, .ref (a 100))] := hl
  obtain ⟨hx, hb, hr, hml, hown, hts, hlocks, hA, hK, hN⟩ := id F
  unfold CJ5_coder_100 at h
  refine st_compact F G dJ5_coder_0 ?_
  refine lv_if_eq (tgt := 13) hx hb dJ5_coder_3 (by decide) (fun c_1 => ?_) (fun c_1 => ?_)
  · replace h := h.1 c_1
    refine lv_iconst (v := 1) hx hb dJ5_coder_13 (by decide) ?_
    exact c_nret h.1 F G dJ5_coder_14 h.2
  · replace h := h.2 c_1
    refine lv_aload_n hx hb dJ5_coder_6 rfl (lv_at hl 0 rfl) ?_
    refine st_coder_100 F G dJ5_coder_7 ?_
    refine lv_goto (tgt := 14) hx hb dJ5_coder_10 (by decide) ?_
    exact c_nret h.1 F G dJ5_coder_14 h.2
set_option maxHeartbeats 4000000 in
set_option maxRecDepth 100000 in
theorem kJ5_CJ5_coder_100 {p : Program} {l : Launch} {e : Env} {s : State} {m : MethodId} {R : Room} {args : Array Value} {below : List Frame} {meth : Method} {c : Code} {D : va_G} {a : Nat → Nat} {d : Nat → ClassId} {A : Nat → Prop} {Q : State → Prop} {cc : ByteArray} {nL pc cells slots : Nat} {ret : Option FieldType} {ls : Array Slot} {rest : List Value}  {S : CS} {H : Heap} {locs : List Loc} {Q1 : Int32 → CS → Prop} (F : FC p s m meth c args D a d A RJ5 cc nL ret) (G : GC D a d A s.heap S H locs) (hsz : ls.size = nL) (hR : rmJ5_coder_100.frames + 1 ≤ R.frames ∧ 8 + (1 + 11) + rmJ5_coder_100.locals ≤ R.locals) (hc : cells + 0 ≤ R.cells ∧ slots + 0 ≤ R.slots) (hW : (rest.map fun v => v.category).sum ≤ 8) (hd : decode cc pc = .ok (.invokevirtual 335, 3)) (h : CJ5_coder_100  S Q1) (k : ∀ (r : Int32) (S1 : CS) (H : Heap) (locs : List Loc), GC D a d A s.heap S1 H locs → Q1 r S1 → W p l e R s m args below meth c H locs cells slots Q (F0 m (pc + 3) ls (.int r :: rest))) : W p l e R s m args below meth c H locs cells slots Q (F0 m pc ls (.ref (a 100) :: rest)) := by
  obtain ⟨hx, hb, hr, hml, hown, hts, hlocks, hA, hK, hN⟩ := id F
  exact c_calli F G (va_runV (As := []) (rest := rest) ⟨hx, hb, hml, hown, hts⟩ (wCJ5_coder_100 H.size  S Q1 h) (cwV 0 hts (lw_V q404 q405 q406 q99 q407) rfl rfl rfl (by decide +kernel) hR) ⟨PC_blind, st_recv_100 F G, c_pre F G⟩ rfl rfl hsz rfl (lv_room hW) hd hc) k
/-! java/lang/String.length -/
def CJ5_length_100  (S : CS) (Q : Int32 → CS → Prop) : Prop := CJ5_coder_100  S (fun r_1 S_2 => Q ((5 : Int32) >>> (r_1 &&& 31)) S_2)
abbrev rmJ5_length_100 : Room := { frames := 1, cells := 0, slots := 0, locals := 20 }
set_option maxHeartbeats 4000000 in
set_option maxRecDepth 100000 in
theorem wCJ5_length_100 {l : Launch} {D : va_G} {a : Nat → Nat} {d : Nat → ClassId} (sz : Nat)  (S : CS) (Q : Int32 → CS → Prop) (h : CJ5_length_100  S Q) : CMi l D a d yJ5_length cJ5_length 1 .int rmJ5_length_100 0 0 [.ref (a 100)] sz S Q := by
  refine c_enterF (Qc := fun A => va_Qi Q (BC D a d A) A) RJ5 (by decide +kernel) rfl (Nat.le_of_ble_eq_true rfl) ?_
  intro p e s m below meth c ls A hmn F hG hl
  have G := hG
  have hl : lv_has ls 1 [(0, .ref (a 100))] := hl
  obtain ⟨hx, hb, hr, hml, hown, hts, hlocks, hA, hK, hN⟩ := id F
  unfold CJ5_length_100 at h
  refine lv_aload_n hx hb dJ5_length_0 rfl (lv_at hl 0 rfl) ?_
  refine st_value_100 F G dJ5_length_1 ?_
  refine st_len_110 F G dJ5_length_4 ?_
  refine lv_aload_n hx hb dJ5_length_5 rfl (lv_at hl 0 rfl) ?_
  refine kJ5_CJ5_coder_100 F G hl.1 ⟨(Nat.le_of_ble_eq_true rfl), (Nat.le_of_ble_eq_true rfl)⟩ ⟨(Nat.le_of_ble_eq_true rfl), (Nat.le_of_ble_eq_true rfl)⟩ (Nat.le_of_ble_eq_true rfl) dJ5_length_6 h (fun r_1 S_2 H locs G h => ?_)
  refine lv_ishr hx hb dJ5_length_9 ?_
  exact c_iret F G dJ5_length_10 h
set_option maxHeartbeats 4000000 in
set_option maxRecDepth 100000 in
theorem kX0_CJ5_length_100 {p : Program} {l : Launch} {e : Env} {s : State} {m : MethodId} {R : Room} {args : Array Value} {below : List Frame} {meth : Method} {c : Code} {D : va_G} {a : Nat → Nat} {d : Nat → ClassId} {A : Nat → Prop} {Q : State → Prop} {cc : ByteArray} {nL pc cells slots : Nat} {ret : Option FieldType} {ls : Array Slot} {rest : List Value}  {S : CS} {H : Heap} {locs : List Loc} {Q1 : Int32 → CS → Prop} (F : FC p s m meth c args D a d A RX0 cc nL ret) (G : GC D a d A s.heap S H locs) (hsz : ls.size = nL) (hR : rmJ5_length_100.frames + 1 ≤ R.frames ∧ 8 + (1 + 11) + rmJ5_length_100.locals ≤ R.locals) (hc : cells + 0 ≤ R.cells ∧ slots + 0 ≤ R.slots) (hW : (rest.map fun v => v.category).sum ≤ 8) (hd : decode cc pc = .ok (.invokevirtual 156, 3)) (h : CJ5_length_100  S Q1) (k : ∀ (r : Int32) (S1 : CS) (H : Heap) (locs : List Loc), GC D a d A s.heap S1 H locs → Q1 r S1 → W p l e R s m args below meth c H locs cells slots Q (F0 m (pc + 3) ls (.int r :: rest))) : W p l e R s m args below meth c H locs cells slots Q (F0 m pc ls (.ref (a 100) :: rest)) := by
  obtain ⟨hx, hb, hr, hml, hown, hts, hlocks, hA, hK, hN⟩ := id F
  exact c_calli F G (va_runV (As := []) (rest := rest) ⟨hx, hb, hml, hown, hts⟩ (wCJ5_length_100 H.size  S Q1 h) (cwV 0 hts (lw_V q400 q401 q402 q99 q403) rfl rfl rfl (by decide +kernel) hR) ⟨PC_blind, st_recv_100 F G, c_pre F G⟩ rfl rfl hsz rfl (lv_room hW) hd hc) k
/-! java/lang/String.isLatin1 -/
def CJ5_isLatin1_100  (S : CS) (Q : Int32 → CS → Prop) : Prop := ((1 : Int32) = 0 → Q 0 S) ∧ (¬ (1 : Int32) = 0 → (¬ (0 : Int32) = 0 → Q 0 S) ∧ ((0 : Int32) = 0 → Q 1 S))
abbrev rmJ5_isLatin1_100 : Room := { frames := 0, cells := 0, slots := 0, locals := 0 }
set_option maxHeartbeats 4000000 in
set_option maxRecDepth 100000 in
theorem wCJ5_isLatin1_100 {l : Launch} {D : va_G} {a : Nat → Nat} {d : Nat → ClassId} (sz : Nat)  (S : CS) (Q : Int32 → CS → Prop) (h : CJ5_isLatin1_100  S Q) : CMi l D a d yJ5_isLatin1 cJ5_isLatin1 1 .boolean rmJ5_isLatin1_100 0 0 [.ref (a 100)] sz S Q := by
  refine c_enterF (Qc := fun A => va_Qi Q (BC D a d A) A) RJ5 (by decide +kernel) rfl (Nat.le_of_ble_eq_true rfl) ?_
  intro p e s m below meth c ls A hmn F hG hl
  have G := hG
  have hl : lv_has ls 1 [(0, .ref (a 100))] := hl
  obtain ⟨hx, hb, hr, hml, hown, hts, hlocks, hA, hK, hN⟩ := id F
  unfold CJ5_isLatin1_100 at h
  refine st_compact F G dJ5_isLatin1_0 ?_
  refine lv_if_eq (tgt := 17) hx hb dJ5_isLatin1_3 (by decide) (fun c_1 => ?_) (fun c_1 => ?_)
  · replace h := h.1 c_1
    refine lv_iconst (v := 0) hx hb dJ5_isLatin1_17 (by decide) ?_
    exact c_zret rfl F G dJ5_isLatin1_18 h
  · replace h := h.2 c_1
    refine lv_aload_n hx hb dJ5_isLatin1_6 rfl (lv_at hl 0 rfl) ?_
    refine st_coder_100 F G dJ5_isLatin1_7 ?_
    refine lv_if_ne (tgt := 17) hx hb dJ5_isLatin1_10 (by decide) (fun c_2 => ?_) (fun c_2 => ?_)
    · replace h := h.1 c_2
      refine lv_iconst (v := 0) hx hb dJ5_isLatin1_17 (by decide) ?_
      exact c_zret rfl F G dJ5_isLatin1_18 h
    · replace h := h.2 c_2
      refine lv_iconst (v := 1) hx hb dJ5_isLatin1_13 (by decide) ?_
      refine lv_goto (tgt := 18) hx hb dJ5_isLatin1_14 (by decide) ?_
      exact c_zret rfl F G dJ5_isLatin1_18 h
set_option maxHeartbeats 4000000 in
set_option maxRecDepth 100000 in
theorem kJ5_CJ5_isLatin1_100 {p : Program} {l : Launch} {e : Env} {s : State} {m : MethodId} {R : Room} {args : Array Value} {below : List Frame} {meth : Method} {c : Code} {D : va_G} {a : Nat → Nat} {d : Nat → ClassId} {A : Nat → Prop} {Q : State → Prop} {cc : ByteArray} {nL pc cells slots : Nat} {ret : Option FieldType} {ls : Array Slot} {rest : List Value}  {S : CS} {H : Heap} {locs : List Loc} {Q1 : Int32 → CS → Prop} (F : FC p s m meth c args D a d A RJ5 cc nL ret) (G : GC D a d A s.heap S H locs) (hsz : ls.size = nL) (hR : rmJ5_isLatin1_100.frames + 1 ≤ R.frames ∧ 8 + (1 + 11) + rmJ5_isLatin1_100.locals ≤ R.locals) (hc : cells + 0 ≤ R.cells ∧ slots + 0 ≤ R.slots) (hW : (rest.map fun v => v.category).sum ≤ 8) (hd : decode cc pc = .ok (.invokevirtual 492, 3)) (h : CJ5_isLatin1_100  S Q1) (k : ∀ (r : Int32) (S1 : CS) (H : Heap) (locs : List Loc), GC D a d A s.heap S1 H locs → Q1 r S1 → W p l e R s m args below meth c H locs cells slots Q (F0 m (pc + 3) ls (.int r :: rest))) : W p l e R s m args below meth c H locs cells slots Q (F0 m pc ls (.ref (a 100) :: rest)) := by
  obtain ⟨hx, hb, hr, hml, hown, hts, hlocks, hA, hK, hN⟩ := id F
  exact c_calli F G (va_runV (As := []) (rest := rest) ⟨hx, hb, hml, hown, hts⟩ (wCJ5_isLatin1_100 H.size  S Q1 h) (cwV 0 hts (lw_V q414 q415 q416 q99 q417) rfl rfl rfl (by decide +kernel) hR) ⟨PC_blind, st_recv_100 F G, c_pre F G⟩ rfl rfl hsz rfl (lv_room hW) hd hc) k
/-! jdk/internal/util/Preconditions.checkIndex -/
def CJ8_checkIndex_n (v0 : Int32) (v1 : Int32) (S : CS) (Q : Int32 → CS → Prop) : Prop := (v0 < 0 → False) ∧ (¬ v0 < 0 → (v0 < v1 → Q v0 S) ∧ (¬ v0 < v1 → False))
abbrev rmJ8_checkIndex_n : Room := { frames := 0, cells := 0, slots := 0, locals := 0 }
set_option maxHeartbeats 4000000 in
set_option maxRecDepth 100000 in
theorem wCJ8_checkIndex_n {l : Launch} {D : va_G} {a : Nat → Nat} {d : Nat → ClassId} (sz : Nat) (v0 : Int32) (v1 : Int32) (S : CS) (Q : Int32 → CS → Prop) (h : CJ8_checkIndex_n v0 v1 S Q) : CMi l D a d yJ8_checkIndex cJ8_checkIndex 3 .int rmJ8_checkIndex_n 0 0 [.int v0, .int v1, .null] sz S Q := by
  refine c_enterF (Qc := fun A => va_Qi Q (BC D a d A) A) RJ8 (by decide +kernel) rfl (Nat.le_of_ble_eq_true rfl) ?_
  intro p e s m below meth c ls A hmn F hG hl
  have G := hG
  have hl : lv_has ls 3 [(0, .int v0), (1, .int v1), (2, .null)] := hl
  obtain ⟨hx, hb, hr, hml, hown, hts, hlocks, hA, hK, hN⟩ := id F
  unfold CJ8_checkIndex_n at h
  refine lv_iload_n hx hb dJ8_checkIndex_0 rfl (lv_at hl 0 rfl) ?_
  refine lv_if_lt (tgt := 9) hx hb dJ8_checkIndex_1 (by decide) (fun c_1 => ?_) (fun c_1 => ?_)
  · replace h := h.1 c_1
    exact h.elim
  · replace h := h.2 c_1
    refine lv_iload_n hx hb dJ8_checkIndex_4 rfl (lv_at hl 0 rfl) ?_
    refine lv_iload_n hx hb dJ8_checkIndex_5 rfl (lv_at hl 1 rfl) ?_
    refine lv_icmp_lt (tgt := 16) hx hb dJ8_checkIndex_6 (by decide) (fun c_2 => ?_) (fun c_2 => ?_)
    · replace h := h.1 c_2
      refine lv_iload_n hx hb dJ8_checkIndex_16 rfl (lv_at hl 0 rfl) ?_
      exact c_iret F G dJ8_checkIndex_17 h
    · replace h := h.2 c_2
      exact h.elim
set_option maxHeartbeats 4000000 in
set_option maxRecDepth 100000 in
theorem kJ5_CJ8_checkIndex_n {p : Program} {l : Launch} {e : Env} {s : State} {m : MethodId} {R : Room} {args : Array Value} {below : List Frame} {meth : Method} {c : Code} {D : va_G} {a : Nat → Nat} {d : Nat → ClassId} {A : Nat → Prop} {Q : State → Prop} {cc : ByteArray} {nL pc cells slots : Nat} {ret : Option FieldType} {ls : Array Slot} {rest : List Value} {v0 : Int32} {v1 : Int32} {S : CS} {H : Heap} {locs : List Loc} {Q1 : Int32 → CS → Prop} (F : FC p s m meth c args D a d A RJ5 cc nL ret) (G : GC D a d A s.heap S H locs) (hsz : ls.size = nL) (hR : rmJ8_checkIndex_n.frames + 1 ≤ R.frames ∧ 8 + (3 + 11) + rmJ8_checkIndex_n.locals ≤ R.locals) (hc : cells + 0 ≤ R.cells ∧ slots + 0 ≤ R.slots) (hW : (rest.map fun v => v.category).sum ≤ 8) (hd : decode cc pc = .ok (.invokestatic 1059, 3)) (h : CJ8_checkIndex_n v0 v1 S Q1) (k : ∀ (r : Int32) (S1 : CS) (H : Heap) (locs : List Loc), GC D a d A s.heap S1 H locs → Q1 r S1 → W p l e R s m args below meth c H locs cells slots Q (F0 m (pc + 3) ls (.int r :: rest))) : W p l e R s m args below meth c H locs cells slots Q (F0 m pc ls (.null :: .int v1 :: .int v0 :: rest)) := by
  obtain ⟨hx, hb, hr, hml, hown, hts, hlocks, hA, hK, hN⟩ := id F
  exact c_calli F G (va_runS (As := [.int v0, .int v1, .null]) (rest := rest) ⟨hx, hb, hml, hown, hts⟩ (wCJ8_checkIndex_n H.size v0 v1 S Q1 h) (va_cwS 3 hts (lw_S q426 q427 q103 q428) rfl rfl rfl (by decide +kernel) hR) ⟨PC_blind, c_pre F G⟩ rfl rfl hsz rfl (lv_room hW) hd hc) k
/-! jdk/internal/util/Preconditions.checkIndex -/
def CJ8_checkIndex (v0 : Int32) (v1 : Int32) (y2 : Nat) (S : CS) (Q : Int32 → CS → Prop) : Prop := (v0 < 0 → False) ∧ (¬ v0 < 0 → (v0 < v1 → Q v0 S) ∧ (¬ v0 < v1 → False))
abbrev rmJ8_checkIndex : Room := { frames := 0, cells := 0, slots := 0, locals := 0 }
set_option maxHeartbeats 4000000 in
set_option maxRecDepth 100000 in
theorem wCJ8_checkIndex {l : Launch} {D : va_G} {a : Nat → Nat} {d : Nat → ClassId} (sz : Nat) (v0 : Int32) (v1 : Int32) (y2 : Nat) (S : CS) (Q : Int32 → CS → Prop) (h : CJ8_checkIndex v0 v1 y2 S Q) : CMi l D a d yJ8_checkIndex cJ8_checkIndex 3 .int rmJ8_checkIndex 0 0 [.int v0, .int v1, .ref y2] sz S Q := by
  refine c_enterF (Qc := fun A => va_Qi Q (BC D a d A) A) RJ8 (by decide +kernel) rfl (Nat.le_of_ble_eq_true rfl) ?_
  intro p e s m below meth c ls A hmn F hG hl
  have G := hG
  have hl : lv_has ls 3 [(0, .int v0), (1, .int v1), (2, .ref y2)] := hl
  obtain ⟨hx, hb, hr, hml, hown, hts, hlocks, hA, hK, hN⟩ := id F
  unfold CJ8_checkIndex at h
  refine lv_iload_n hx hb dJ8_checkIndex_0 rfl (lv_at hl 0 rfl) ?_
  refine lv_if_lt (tgt := 9) hx hb dJ8_checkIndex_1 (by decide) (fun c_1 => ?_) (fun c_1 => ?_)
  · replace h := h.1 c_1
    exact h.elim
  · replace h := h.2 c_1
    refine lv_iload_n hx hb dJ8_checkIndex_4 rfl (lv_at hl 0 rfl) ?_
    refine lv_iload_n hx hb dJ8_checkIndex_5 rfl (lv_at hl 1 rfl) ?_
    refine lv_icmp_lt (tgt := 16) hx hb dJ8_checkIndex_6 (by decide) (fun c_2 => ?_) (fun c_2 => ?_)
    · replace h := h.1 c_2
      refine lv_iload_n hx hb dJ8_checkIndex_16 rfl (lv_at hl 0 rfl) ?_
      exact c_iret F G dJ8_checkIndex_17 h
    · replace h := h.2 c_2
      exact h.elim
set_option maxHeartbeats 4000000 in
set_option maxRecDepth 100000 in
theorem kJ5_CJ8_checkIndex {p : Program} {l : Launch} {e : Env} {s : State} {m : MethodId} {R : Room} {args : Array Value} {below : List Frame} {meth : Method} {c : Code} {D : va_G} {a : Nat → Nat} {d : Nat → ClassId} {A : Nat → Prop} {Q : State → Prop} {cc : ByteArray} {nL pc cells slots : Nat} {ret : Option FieldType} {ls : Array Slot} {rest : List Value} {v0 : Int32} {v1 : Int32} {y2 : Nat} {S : CS} {H : Heap} {locs : List Loc} {Q1 : Int32 → CS → Prop} (F : FC p s m meth c args D a d A RJ5 cc nL ret) (G : GC D a d A s.heap S H locs) (hsz : ls.size = nL) (hR : rmJ8_checkIndex.frames + 1 ≤ R.frames ∧ 8 + (3 + 11) + rmJ8_checkIndex.locals ≤ R.locals) (hc : cells + 0 ≤ R.cells ∧ slots + 0 ≤ R.slots) (hW : (rest.map fun v => v.category).sum ≤ 8) (hd : decode cc pc = .ok (.invokestatic 1059, 3)) (h : CJ8_checkIndex v0 v1 y2 S Q1) (k : ∀ (r : Int32) (S1 : CS) (H : Heap) (locs : List Loc), GC D a d A s.heap S1 H locs → Q1 r S1 → W p l e R s m args below meth c H locs cells slots Q (F0 m (pc + 3) ls (.int r :: rest))) : W p l e R s m args below meth c H locs cells slots Q (F0 m pc ls (.ref y2 :: .int v1 :: .int v0 :: rest)) := by
  obtain ⟨hx, hb, hr, hml, hown, hts, hlocks, hA, hK, hN⟩ := id F
  exact c_calli F G (va_runS (As := [.int v0, .int v1, .ref y2]) (rest := rest) ⟨hx, hb, hml, hown, hts⟩ (wCJ8_checkIndex H.size v0 v1 y2 S Q1 h) (va_cwS 3 hts (lw_S q426 q427 q103 q428) rfl rfl rfl (by decide +kernel) hR) ⟨PC_blind, c_pre F G⟩ rfl rfl hsz rfl (lv_room hW) hd hc) k
/-! java/lang/String.checkIndex -/
def CJ5_checkIndex (v0 : Int32) (v1 : Int32) (S : CS) (Q : CS → Prop) : Prop := (CJ8_checkIndex_n v0 v1 S (fun r_2 S_3 => Q S_3)) ∧ (∀ y_1 : Nat, CJ8_checkIndex v0 v1 y_1 S (fun r_4 S_5 => Q S_5))
abbrev rmJ5_checkIndex : Room := { frames := 1, cells := 0, slots := 0, locals := 22 }
set_option maxHeartbeats 4000000 in
set_option maxRecDepth 100000 in
theorem wCJ5_checkIndex {l : Launch} {D : va_G} {a : Nat → Nat} {d : Nat → ClassId} (sz : Nat) (v0 : Int32) (v1 : Int32) (S : CS) (Q : CS → Prop) (h : CJ5_checkIndex v0 v1 S Q) : CMv l D a d yJ5_checkIndex cJ5_checkIndex 2 rmJ5_checkIndex 0 0 [.int v0, .int v1] sz S Q := by
  refine c_enterF (Qc := fun A => va_Qv Q (BC D a d A) A) RJ5 (by decide +kernel) rfl (Nat.le_of_ble_eq_true rfl) ?_
  intro p e s m below meth c ls A hmn F hG hl
  have G := hG
  have hl : lv_has ls 2 [(0, .int v0), (1, .int v1)] := hl
  obtain ⟨hx, hb, hr, hml, hown, hts, hlocks, hA, hK, hN⟩ := id F
  unfold CJ5_checkIndex at h
  refine lv_iload_n hx hb dJ5_checkIndex_0 rfl (lv_at hl 0 rfl) ?_
  refine lv_iload_n hx hb dJ5_checkIndex_1 rfl (lv_at hl 1 rfl) ?_
  refine st_sioobe F G dJ5_checkIndex_2 ?_ (fun y_1 => ?_)
  · replace h := h.1
    refine kJ5_CJ8_checkIndex_n F G hl.1 ⟨(Nat.le_of_ble_eq_true rfl), (Nat.le_of_ble_eq_true rfl)⟩ ⟨(Nat.le_of_ble_eq_true rfl), (Nat.le_of_ble_eq_true rfl)⟩ (Nat.le_of_ble_eq_true rfl) dJ5_checkIndex_5 h (fun r_2 S_3 H locs G h => ?_)
    refine lv_pop hx hb dJ5_checkIndex_8 rfl ?_
    exact c_vret F G dJ5_checkIndex_9 h
  · replace h := h.2 y_1
    refine kJ5_CJ8_checkIndex F G hl.1 ⟨(Nat.le_of_ble_eq_true rfl), (Nat.le_of_ble_eq_true rfl)⟩ ⟨(Nat.le_of_ble_eq_true rfl), (Nat.le_of_ble_eq_true rfl)⟩ (Nat.le_of_ble_eq_true rfl) dJ5_checkIndex_5 h (fun r_4 S_5 H locs G h => ?_)
    refine lv_pop hx hb dJ5_checkIndex_8 rfl ?_
    exact c_vret F G dJ5_checkIndex_9 h
set_option maxHeartbeats 4000000 in
set_option maxRecDepth 100000 in
theorem kJ7_CJ5_checkIndex {p : Program} {l : Launch} {e : Env} {s : State} {m : MethodId} {R : Room} {args : Array Value} {below : List Frame} {meth : Method} {c : Code} {D : va_G} {a : Nat → Nat} {d : Nat → ClassId} {A : Nat → Prop} {Q : State → Prop} {cc : ByteArray} {nL pc cells slots : Nat} {ret : Option FieldType} {ls : Array Slot} {rest : List Value} {v0 : Int32} {v1 : Int32} {S : CS} {H : Heap} {locs : List Loc} {Q1 : CS → Prop} (F : FC p s m meth c args D a d A RJ7 cc nL ret) (G : GC D a d A s.heap S H locs) (hsz : ls.size = nL) (hR : rmJ5_checkIndex.frames + 1 ≤ R.frames ∧ 8 + (2 + 11) + rmJ5_checkIndex.locals ≤ R.locals) (hc : cells + 0 ≤ R.cells ∧ slots + 0 ≤ R.slots) (hW : (rest.map fun v => v.category).sum ≤ 8) (hd : decode cc pc = .ok (.invokestatic 9, 3)) (h : CJ5_checkIndex v0 v1 S Q1) (k : ∀ (S1 : CS) (H : Heap) (locs : List Loc), GC D a d A s.heap S1 H locs → Q1 S1 → W p l e R s m args below meth c H locs cells slots Q (F0 m (pc + 3) ls rest)) : W p l e R s m args below meth c H locs cells slots Q (F0 m pc ls (.int v1 :: .int v0 :: rest)) := by
  obtain ⟨hx, hb, hr, hml, hown, hts, hlocks, hA, hK, hN⟩ := id F
  exact c_callv F G (va_runS (As := [.int v0, .int v1]) (rest := rest) ⟨hx, hb, hml, hown, hts⟩ (wCJ5_checkIndex H.size v0 v1 S Q1 h) (va_cwS 2 hts (lw_S q421 q422 q99 q423) rfl rfl rfl (by decide +kernel) hR) ⟨PC_blind, c_pre F G⟩ rfl rfl hsz rfl (lv_room hW) hd hc) k
/-! java/lang/StringLatin1.charAt -/
def CJ7_charAt_110 (v1 : Int32) (S : CS) (Q : Int32 → CS → Prop) : Prop := CJ5_checkIndex v1 (5 : Int32) S (fun S_2 => vp_in v1 5 ∧ (narrow .char (.int (((((sby 0).getD v1.toNatClampNeg 0) &&& 255).toUInt32 % 65536).toInt32)) = .int (((((sby 0).getD v1.toNatClampNeg 0) &&& 255).toUInt32 % 65536).toInt32) ∧ Q (((((sby 0).getD v1.toNatClampNeg 0) &&& 255).toUInt32 % 65536).toInt32) S_2))
abbrev rmJ7_charAt_110 : Room := { frames := 2, cells := 0, slots := 0, locals := 43 }
set_option maxHeartbeats 4000000 in
set_option maxRecDepth 100000 in
theorem wCJ7_charAt_110 {l : Launch} {D : va_G} {a : Nat → Nat} {d : Nat → ClassId} (sz : Nat) (v1 : Int32) (S : CS) (Q : Int32 → CS → Prop) (h : CJ7_charAt_110 v1 S Q) : CMi l D a d yJ7_charAt cJ7_charAt 2 .char rmJ7_charAt_110 0 0 [.ref (a 110), .int v1] sz S Q := by
  refine c_enterF (Qc := fun A => va_Qi Q (BC D a d A) A) RJ7 (by decide +kernel) rfl (Nat.le_of_ble_eq_true rfl) ?_
  intro p e s m below meth c ls A hmn F hG hl
  have G := hG
  have hl : lv_has ls 2 [(0, .ref (a 110)), (1, .int v1)] := hl
  obtain ⟨hx, hb, hr, hml, hown, hts, hlocks, hA, hK, hN⟩ := id F
  unfold CJ7_charAt_110 at h
  refine lv_iload_n hx hb dJ7_charAt_0 rfl (lv_at hl 1 rfl) ?_
  refine lv_aload_n hx hb dJ7_charAt_1 rfl (lv_at hl 0 rfl) ?_
  refine st_len_110 F G dJ7_charAt_2 ?_
  refine kJ7_CJ5_checkIndex F G hl.1 ⟨(Nat.le_of_ble_eq_true rfl), (Nat.le_of_ble_eq_true rfl)⟩ ⟨(Nat.le_of_ble_eq_true rfl), (Nat.le_of_ble_eq_true rfl)⟩ (Nat.le_of_ble_eq_true rfl) dJ7_charAt_3 h (fun S_2 H locs G h => ?_)
  refine lv_aload_n hx hb dJ7_charAt_6 rfl (lv_at hl 0 rfl) ?_
  refine lv_iload_n hx hb dJ7_charAt_7 rfl (lv_at hl 1 rfl) ?_
  obtain ⟨b_3, h⟩ := h
  refine st_byte_110 F G b_3 dJ7_charAt_8 ?_
  refine lv_sipush (v := 255) hx hb dJ7_charAt_9 (by decide) ?_
  refine lv_iand hx hb dJ7_charAt_12 ?_
  refine lv_i2c (v := ((((sby 0).getD v1.toNatClampNeg 0) &&& 255).toUInt32 % 65536).toInt32) hx hb dJ7_charAt_13 rfl ?_
  exact c_nret h.1 F G dJ7_charAt_14 h.2
set_option maxHeartbeats 4000000 in
set_option maxRecDepth 100000 in
theorem kJ5_CJ7_charAt_110 {p : Program} {l : Launch} {e : Env} {s : State} {m : MethodId} {R : Room} {args : Array Value} {below : List Frame} {meth : Method} {c : Code} {D : va_G} {a : Nat → Nat} {d : Nat → ClassId} {A : Nat → Prop} {Q : State → Prop} {cc : ByteArray} {nL pc cells slots : Nat} {ret : Option FieldType} {ls : Array Slot} {rest : List Value} {v1 : Int32} {S : CS} {H : Heap} {locs : List Loc} {Q1 : Int32 → CS → Prop} (F : FC p s m meth c args D a d A RJ5 cc nL ret) (G : GC D a d A s.heap S H locs) (hsz : ls.size = nL) (hR : rmJ7_charAt_110.frames + 1 ≤ R.frames ∧ 8 + (2 + 11) + rmJ7_charAt_110.locals ≤ R.locals) (hc : cells + 0 ≤ R.cells ∧ slots + 0 ≤ R.slots) (hW : (rest.map fun v => v.category).sum ≤ 8) (hd : decode cc pc = .ok (.invokestatic 495, 3)) (h : CJ7_charAt_110 v1 S Q1) (k : ∀ (r : Int32) (S1 : CS) (H : Heap) (locs : List Loc), GC D a d A s.heap S1 H locs → Q1 r S1 → W p l e R s m args below meth c H locs cells slots Q (F0 m (pc + 3) ls (.int r :: rest))) : W p l e R s m args below meth c H locs cells slots Q (F0 m pc ls (.int v1 :: .ref (a 110) :: rest)) := by
  obtain ⟨hx, hb, hr, hml, hown, hts, hlocks, hA, hK, hN⟩ := id F
  exact c_calli F G (va_runS (As := [.ref (a 110), .int v1]) (rest := rest) ⟨hx, hb, hml, hown, hts⟩ (wCJ7_charAt_110 H.size v1 S Q1 h) (va_cwS 2 hts (lw_S q418 q419 q102 q420) rfl rfl rfl (by decide +kernel) hR) ⟨PC_blind, c_pre F G⟩ rfl rfl hsz rfl (lv_room hW) hd hc) k
/-! java/lang/String.charAt -/
def CJ5_charAt_100 (v1 : Int32) (S : CS) (Q : Int32 → CS → Prop) : Prop := CJ5_isLatin1_100  S (fun r_1 S_2 => (r_1 = 0 → False) ∧ (¬ r_1 = 0 → CJ7_charAt_110 v1 S_2 (fun r_4 S_5 => narrow .char (.int r_4) = .int r_4 ∧ Q r_4 S_5)))
abbrev rmJ5_charAt_100 : Room := { frames := 3, cells := 0, slots := 0, locals := 64 }
set_option maxHeartbeats 4000000 in
set_option maxRecDepth 100000 in
theorem wCJ5_charAt_100 {l : Launch} {D : va_G} {a : Nat → Nat} {d : Nat → ClassId} (sz : Nat) (v1 : Int32) (S : CS) (Q : Int32 → CS → Prop) (h : CJ5_charAt_100 v1 S Q) : CMi l D a d yJ5_charAt cJ5_charAt 2 .char rmJ5_charAt_100 0 0 [.ref (a 100), .int v1] sz S Q := by
  refine c_enterF (Qc := fun A => va_Qi Q (BC D a d A) A) RJ5 (by decide +kernel) rfl (Nat.le_of_ble_eq_true rfl) ?_
  intro p e s m below meth c ls A hmn F hG hl
  have G := hG
  have hl : lv_has ls 2 [(0, .ref (a 100)), (1, .int v1)] := hl
  obtain ⟨hx, hb, hr, hml, hown, hts, hlocks, hA, hK, hN⟩ := id F
  unfold CJ5_charAt_100 at h
  refine lv_aload_n hx hb dJ5_charAt_0 rfl (lv_at hl 0 rfl) ?_
  refine kJ5_CJ5_isLatin1_100 F G hl.1 ⟨(Nat.le_of_ble_eq_true rfl), (Nat.le_of_ble_eq_true rfl)⟩ ⟨(Nat.le_of_ble_eq_true rfl), (Nat.le_of_ble_eq_true rfl)⟩ (Nat.le_of_ble_eq_true rfl) dJ5_charAt_1 h (fun r_1 S_2 H locs G h => ?_)
  refine lv_if_eq (tgt := 16) hx hb dJ5_charAt_4 (by decide) (fun c_3 => ?_) (fun c_3 => ?_)
  · replace h := h.1 c_3
    exact h.elim
  · replace h := h.2 c_3
    refine lv_aload_n hx hb dJ5_charAt_7 rfl (lv_at hl 0 rfl) ?_
    refine st_value_100 F G dJ5_charAt_8 ?_
    refine lv_iload_n hx hb dJ5_charAt_11 rfl (lv_at hl 1 rfl) ?_
    refine kJ5_CJ7_charAt_110 F G hl.1 ⟨(Nat.le_of_ble_eq_true rfl), (Nat.le_of_ble_eq_true rfl)⟩ ⟨(Nat.le_of_ble_eq_true rfl), (Nat.le_of_ble_eq_true rfl)⟩ (Nat.le_of_ble_eq_true rfl) dJ5_charAt_12 h (fun r_4 S_5 H locs G h => ?_)
    exact c_nret h.1 F G dJ5_charAt_15 h.2
set_option maxHeartbeats 4000000 in
set_option maxRecDepth 100000 in
theorem kX0_CJ5_charAt_100 {p : Program} {l : Launch} {e : Env} {s : State} {m : MethodId} {R : Room} {args : Array Value} {below : List Frame} {meth : Method} {c : Code} {D : va_G} {a : Nat → Nat} {d : Nat → ClassId} {A : Nat → Prop} {Q : State → Prop} {cc : ByteArray} {nL pc cells slots : Nat} {ret : Option FieldType} {ls : Array Slot} {rest : List Value} {v1 : Int32} {S : CS} {H : Heap} {locs : List Loc} {Q1 : Int32 → CS → Prop} (F : FC p s m meth c args D a d A RX0 cc nL ret) (G : GC D a d A s.heap S H locs) (hsz : ls.size = nL) (hR : rmJ5_charAt_100.frames + 1 ≤ R.frames ∧ 8 + (2 + 11) + rmJ5_charAt_100.locals ≤ R.locals) (hc : cells + 0 ≤ R.cells ∧ slots + 0 ≤ R.slots) (hW : (rest.map fun v => v.category).sum ≤ 8) (hd : decode cc pc = .ok (.invokevirtual 162, 3)) (h : CJ5_charAt_100 v1 S Q1) (k : ∀ (r : Int32) (S1 : CS) (H : Heap) (locs : List Loc), GC D a d A s.heap S1 H locs → Q1 r S1 → W p l e R s m args below meth c H locs cells slots Q (F0 m (pc + 3) ls (.int r :: rest))) : W p l e R s m args below meth c H locs cells slots Q (F0 m pc ls (.int v1 :: .ref (a 100) :: rest)) := by
  obtain ⟨hx, hb, hr, hml, hown, hts, hlocks, hA, hK, hN⟩ := id F
  exact c_calli F G (va_runV (As := [.int v1]) (rest := rest) ⟨hx, hb, hml, hown, hts⟩ (wCJ5_charAt_100 H.size v1 S Q1 h) (cwV 1 hts (lw_V q410 q411 q412 q99 q413) rfl rfl rfl (by decide +kernel) hR) ⟨PC_blind, st_recv_100 F G, c_pre F G⟩ rfl rfl hsz rfl (lv_room hW) hd hc) k
/-! StrokesHeard.isWord -/
def C0_isWord_100_p60 (Q : Int32 → CS → Prop) (K24 : Int32 → Int32 → CS → Prop) (v3 : Int32) (t0 : Int32) (S : CS) : Prop := K24 t0 (v3 + 1) S
def C0_isWord_100_L24 (Q : Int32 → CS → Prop)   : Nat → Int32 → Int32 → CS → Prop
  | 0, _, _, _ => False
  | n + 1, v2, v3, S => CJ5_length_100  S (fun r_4 S_5 => (r_4 ≤ v3 → zb v2 ∧ Q v2 S_5) ∧ (¬ r_4 ≤ v3 → (v2 = 0 → zb v2 ∧ Q v2 S_5) ∧ (¬ v2 = 0 → vp_in ((S_5.1 0 9) + v3) 96 ∧ (CJ5_charAt_100 v3 S_5 (fun r_9 S_10 => (¬ (S_5.1 22 (((S_5.1 0 9) + v3).toNatClampNeg)) = r_9 → C0_isWord_100_p60 Q (fun v2_ v3_ S_ => C0_isWord_100_L24 Q n v2_ v3_ S_) v3 0 S_10) ∧ ((S_5.1 22 (((S_5.1 0 9) + v3).toNatClampNeg)) = r_9 → C0_isWord_100_p60 Q (fun v2_ v3_ S_ => C0_isWord_100_L24 Q n v2_ v3_ S_) v3 1 S_10))))))
def C0_isWord_100_p21 (Q : Int32 → CS → Prop)  (t0 : Int32) (S : CS) : Prop := ∃ k24, C0_isWord_100_L24 Q k24 t0 0 S
def C0_isWord_100  (S : CS) (Q : Int32 → CS → Prop) : Prop := CJ5_length_100  S (fun r_1 S_2 => (¬ ((S.1 0 10) - (S.1 0 9)) = r_1 → C0_isWord_100_p21 Q 0 S_2) ∧ (((S.1 0 10) - (S.1 0 9)) = r_1 → C0_isWord_100_p21 Q 1 S_2))
abbrev rmX0_isWord_100 : Room := { frames := 4, cells := 0, slots := 0, locals := 85 }
set_option maxHeartbeats 4000000 in
set_option maxRecDepth 100000 in
theorem wC0_isWord_100_p60 {p : Program} {l : Launch} {e : Env} {s : State} {m : MethodId} {args : Array Value} {below : List Frame} {meth : Method} {c : Code} {D : va_G} {a : Nat → Nat} {d : Nat → ClassId} {A : Nat → Prop} {Q : Int32 → CS → Prop} {K24 : Int32 → Int32 → CS → Prop} (F : FC p s m meth c args D a d A RX0 cX0_isWord 4 (some .boolean)) (v3 : Int32) (t0 : Int32) (S : CS) (hK24 : ∀ (v2 : Int32) (v3 : Int32) (S : CS) (H : Heap) (locs : List Loc) (ls : Array Slot), GC D a d A s.heap S H locs → lv_has ls 4 [(0, .ref (a 0)), (1, .ref (a 100)), (2, .int v2), (3, .int v3)] → K24 v2 v3 S → wCi p l e rmX0_isWord_100 s m args below meth c D a d A Q 0 0 H locs 0 0 (F0 m 24 ls [])) {H : Heap} {locs : List Loc} {ls : Array Slot} (G : GC D a d A s.heap S H locs) (hl : lv_has ls 4 [(0, .ref (a 0)), (1, .ref (a 100)), (3, .int v3)]) (h : C0_isWord_100_p60 Q K24 v3 t0 S) : wCi p l e rmX0_isWord_100 s m args below meth c D a d A Q 0 0 H locs 0 0 (F0 m 60 ls [.int t0]) := by
  obtain ⟨hx, hb, hr, hml, hown, hts, hlocks, hA, hK, hN⟩ := id F
  unfold C0_isWord_100_p60 at h
  refine lv_istore_n (lv' := [(2, .int t0), (0, .ref (a 0)), (1, .ref (a 100)), (3, .int v3)]) hx hb dX0_isWord_60 rfl hl (by decide) rfl (fun ls hl => ?_)
  refine lv_iinc (v := (v3 + 1)) (lv' := [(3, .int (v3 + 1)), (2, .int t0), (0, .ref (a 0)), (1, .ref (a 100))]) hx hb dX0_isWord_61 hl (k := 3) rfl rfl (by decide) rfl (fun ls hl => ?_)
  refine lv_goto (tgt := 24) hx hb dX0_isWord_64 (by decide) ?_
  exact hK24 t0 (v3 + 1) S _ _ _ G (lv_sub hl [2, 3, 1, 0] rfl) h
set_option maxHeartbeats 4000000 in
set_option maxRecDepth 100000 in
theorem wC0_isWord_100_L24 {p : Program} {l : Launch} {e : Env} {s : State} {m : MethodId} {args : Array Value} {below : List Frame} {meth : Method} {c : Code} {D : va_G} {a : Nat → Nat} {d : Nat → ClassId} {A : Nat → Prop} {Q : Int32 → CS → Prop}  (F : FC p s m meth c args D a d A RX0 cX0_isWord 4 (some .boolean))   :
    ∀ (n : Nat) (v2 : Int32) (v3 : Int32) (S : CS) (H : Heap) (locs : List Loc) (ls : Array Slot), GC D a d A s.heap S H locs → lv_has ls 4 [(0, .ref (a 0)), (1, .ref (a 100)), (2, .int v2), (3, .int v3)] → C0_isWord_100_L24 Q n v2 v3 S → wCi p l e rmX0_isWord_100 s m args below meth c D a d A Q 0 0 H locs 0 0 (F0 m 24 ls []) := by
  obtain ⟨hx, hb, hr, hml, hown, hts, hlocks, hA, hK, hN⟩ := id F
  intro n
  induction n with
  | zero => intro v2 v3 S H locs ls G hl h; exact absurd h (fun q => q)
  | succ n ih =>
    intro v2 v3 S H locs ls G hl h
    unfold C0_isWord_100_L24 at h
    refine lv_iload_n hx hb dX0_isWord_24 rfl (lv_at hl 3 rfl) ?_
    refine lv_aload_n hx hb dX0_isWord_25 rfl (lv_at hl 1 rfl) ?_
    refine kX0_CJ5_length_100 F G hl.1 ⟨(Nat.le_of_ble_eq_true rfl), (Nat.le_of_ble_eq_true rfl)⟩ ⟨(Nat.le_of_ble_eq_true rfl), (Nat.le_of_ble_eq_true rfl)⟩ (Nat.le_of_ble_eq_true rfl) dX0_isWord_26 h (fun r_4 S_5 H locs G h => ?_)
    refine lv_icmp_ge (tgt := 67) hx hb dX0_isWord_29 (by decide) (fun c_6 => ?_) (fun c_6 => ?_)
    · replace h := h.1 c_6
      refine lv_iload_n hx hb dX0_isWord_67 rfl (lv_at hl 2 rfl) ?_
      exact c_zret h.1 F G dX0_isWord_68 h.2
    · replace h := h.2 c_6
      refine lv_iload_n hx hb dX0_isWord_32 rfl (lv_at hl 2 rfl) ?_
      refine lv_if_eq (tgt := 67) hx hb dX0_isWord_33 (by decide) (fun c_7 => ?_) (fun c_7 => ?_)
      · replace h := h.1 c_7
        refine lv_iload_n hx hb dX0_isWord_67 rfl (lv_at hl 2 rfl) ?_
        exact c_zret h.1 F G dX0_isWord_68 h.2
      · replace h := h.2 c_7
        refine lv_aload_n hx hb dX0_isWord_36 rfl (lv_at hl 0 rfl) ?_
        refine cgX0_0_tape F G dX0_isWord_37 ?_
        refine lv_aload_n hx hb dX0_isWord_40 rfl (lv_at hl 0 rfl) ?_
        refine cgX0_0_from F G dX0_isWord_41 ?_
        refine lv_iload_n hx hb dX0_isWord_44 rfl (lv_at hl 3 rfl) ?_
        refine lv_iadd hx hb dX0_isWord_45 ?_
        obtain ⟨b_8, h⟩ := h
        refine c_baload F G cI_22 b_8 dX0_isWord_46 ?_
        refine lv_aload_n hx hb dX0_isWord_47 rfl (lv_at hl 1 rfl) ?_
        refine lv_iload_n hx hb dX0_isWord_48 rfl (lv_at hl 3 rfl) ?_
        refine kX0_CJ5_charAt_100 F G hl.1 ⟨(Nat.le_of_ble_eq_true rfl), (Nat.le_of_ble_eq_true rfl)⟩ ⟨(Nat.le_of_ble_eq_true rfl), (Nat.le_of_ble_eq_true rfl)⟩ (Nat.le_of_ble_eq_true rfl) dX0_isWord_49 h (fun r_9 S_10 H locs G h => ?_)
        refine lv_icmp_ne (tgt := 59) hx hb dX0_isWord_52 (by decide) (fun c_11 => ?_) (fun c_11 => ?_)
        · replace h := h.1 c_11
          refine lv_iconst (v := 0) hx hb dX0_isWord_59 (by decide) ?_
          exact wC0_isWord_100_p60 F v3 0 S_10 ih G (lv_sub hl [0, 1, 3] rfl) h
        · replace h := h.2 c_11
          refine lv_iconst (v := 1) hx hb dX0_isWord_55 (by decide) ?_
          refine lv_goto (tgt := 60) hx hb dX0_isWord_56 (by decide) ?_
          exact wC0_isWord_100_p60 F v3 1 S_10 ih G (lv_sub hl [0, 1, 3] rfl) h
set_option maxHeartbeats 4000000 in
set_option maxRecDepth 100000 in
theorem wC0_isWord_100_p21 {p : Program} {l : Launch} {e : Env} {s : State} {m : MethodId} {args : Array Value} {below : List Frame} {meth : Method} {c : Code} {D : va_G} {a : Nat → Nat} {d : Nat → ClassId} {A : Nat → Prop} {Q : Int32 → CS → Prop}  (F : FC p s m meth c args D a d A RX0 cX0_isWord 4 (some .boolean)) (t0 : Int32) (S : CS)  {H : Heap} {locs : List Loc} {ls : Array Slot} (G : GC D a d A s.heap S H locs) (hl : lv_has ls 4 [(0, .ref (a 0)), (1, .ref (a 100))]) (h : C0_isWord_100_p21 Q t0 S) : wCi p l e rmX0_isWord_100 s m args below meth c D a d A Q 0 0 H locs 0 0 (F0 m 21 ls [.int t0]) := by
  obtain ⟨hx, hb, hr, hml, hown, hts, hlocks, hA, hK, hN⟩ := id F
  unfold C0_isWord_100_p21 at h
  refine lv_istore_n (lv' := [(2, .int t0), (0, .ref (a 0)), (1, .ref (a 100))]) hx hb dX0_isWord_21 rfl hl (by decide) rfl (fun ls hl => ?_)
  refine lv_iconst (v := 0) hx hb dX0_isWord_22 (by decide) ?_
  refine lv_istore_n (lv' := [(3, .int 0), (2, .int t0), (0, .ref (a 0)), (1, .ref (a 100))]) hx hb dX0_isWord_23 rfl hl (by decide) rfl (fun ls hl => ?_)
  obtain ⟨k24, h⟩ := h
  exact wC0_isWord_100_L24 F   k24 t0 0 S _ _ _ G (lv_sub hl [2, 3, 1, 0] rfl) h
set_option maxHeartbeats 4000000 in
set_option maxRecDepth 100000 in
theorem wC0_isWord_100 {l : Launch} {D : va_G} {a : Nat → Nat} {d : Nat → ClassId} (sz : Nat)  (S : CS) (Q : Int32 → CS → Prop) (h : C0_isWord_100  S Q) : CMi l D a d yX0_isWord cX0_isWord 4 .boolean rmX0_isWord_100 0 0 [.ref (a 0), .ref (a 100)] sz S Q := by
  refine c_enter (Qc := fun A => va_Qi Q (BC D a d A) A) RX0 (by decide +kernel) rfl (Nat.le_of_ble_eq_true rfl) ?_
  intro p e s m below meth c ls A hmn F hG hl
  have G := hG
  have hl : lv_has ls 4 [(0, .ref (a 0)), (1, .ref (a 100))] := hl
  obtain ⟨hx, hb, hr, hml, hown, hts, hlocks, hA, hK, hN⟩ := id F
  unfold C0_isWord_100 at h
  refine lv_aload_n hx hb dX0_isWord_0 rfl (lv_at hl 0 rfl) ?_
  refine cgX0_0_to F G dX0_isWord_1 ?_
  refine lv_aload_n hx hb dX0_isWord_4 rfl (lv_at hl 0 rfl) ?_
  refine cgX0_0_from F G dX0_isWord_5 ?_
  refine lv_isub hx hb dX0_isWord_8 ?_
  refine lv_aload_n hx hb dX0_isWord_9 rfl (lv_at hl 1 rfl) ?_
  refine kX0_CJ5_length_100 F G hl.1 ⟨(Nat.le_of_ble_eq_true rfl), (Nat.le_of_ble_eq_true rfl)⟩ ⟨(Nat.le_of_ble_eq_true rfl), (Nat.le_of_ble_eq_true rfl)⟩ (Nat.le_of_ble_eq_true rfl) dX0_isWord_10 h (fun r_1 S_2 H locs G h => ?_)
  refine lv_icmp_ne (tgt := 20) hx hb dX0_isWord_13 (by decide) (fun c_3 => ?_) (fun c_3 => ?_)
  · replace h := h.1 c_3
    refine lv_iconst (v := 0) hx hb dX0_isWord_20 (by decide) ?_
    exact wC0_isWord_100_p21 F 0 S_2  G (lv_sub hl [0, 1] rfl) h
  · replace h := h.2 c_3
    refine lv_iconst (v := 1) hx hb dX0_isWord_16 (by decide) ?_
    refine lv_goto (tgt := 21) hx hb dX0_isWord_17 (by decide) ?_
    exact wC0_isWord_100_p21 F 1 S_2  G (lv_sub hl [0, 1] rfl) h
set_option maxHeartbeats 4000000 in
set_option maxRecDepth 100000 in
theorem kX0_C0_isWord_100 {p : Program} {l : Launch} {e : Env} {s : State} {m : MethodId} {R : Room} {args : Array Value} {below : List Frame} {meth : Method} {c : Code} {D : va_G} {a : Nat → Nat} {d : Nat → ClassId} {A : Nat → Prop} {Q : State → Prop} {cc : ByteArray} {nL pc cells slots : Nat} {ret : Option FieldType} {ls : Array Slot} {rest : List Value}  {S : CS} {H : Heap} {locs : List Loc} {Q1 : Int32 → CS → Prop} (F : FC p s m meth c args D a d A RX0 cc nL ret) (G : GC D a d A s.heap S H locs) (hsz : ls.size = nL) (hR : rmX0_isWord_100.frames + 1 ≤ R.frames ∧ 8 + (4 + 11) + rmX0_isWord_100.locals ≤ R.locals) (hc : cells + 0 ≤ R.cells ∧ slots + 0 ≤ R.slots) (hW : (rest.map fun v => v.category).sum ≤ 8) (hd : decode cc pc = .ok (.invokevirtual 216, 3)) (h : C0_isWord_100  S Q1) (k : ∀ (r : Int32) (S1 : CS) (H : Heap) (locs : List Loc), GC D a d A s.heap S1 H locs → Q1 r S1 → W p l e R s m args below meth c H locs cells slots Q (F0 m (pc + 3) ls (.int r :: rest))) : W p l e R s m args below meth c H locs cells slots Q (F0 m pc ls (.ref (a 100) :: .ref (a 0) :: rest)) := by
  obtain ⟨hx, hb, hr, hml, hown, hts, hlocks, hA, hK, hN⟩ := id F
  exact c_calli F G (va_runV (As := [.ref (a 100)]) (rest := rest) ⟨hx, hb, hml, hown, hts⟩ (wC0_isWord_100 H.size  S Q1 h) (cwV 1 hts (lw_V q396 q398 qs6 q82 q399) rfl rfl rfl (by decide +kernel) hR) ⟨PC_blind, va_recv hK G.1 (ci := 0) (q0 := 0) rfl rfl, c_pre F G⟩ rfl rfl hsz rfl (lv_room hW) hd hc) k
/-! java/lang/String.coder -/
def CJ5_coder_101  (S : CS) (Q : Int32 → CS → Prop) : Prop := ((1 : Int32) = 0 → narrow .byte (.int 1) = .int 1 ∧ Q 1 S) ∧ (¬ (1 : Int32) = 0 → narrow .byte (.int (0 : Int32)) = .int (0 : Int32) ∧ Q (0 : Int32) S)
abbrev rmJ5_coder_101 : Room := { frames := 0, cells := 0, slots := 0, locals := 0 }
set_option maxHeartbeats 4000000 in
set_option maxRecDepth 100000 in
theorem wCJ5_coder_101 {l : Launch} {D : va_G} {a : Nat → Nat} {d : Nat → ClassId} (sz : Nat)  (S : CS) (Q : Int32 → CS → Prop) (h : CJ5_coder_101  S Q) : CMi l D a d yJ5_coder cJ5_coder 1 .byte rmJ5_coder_101 0 0 [.ref (a 101)] sz S Q := by
  refine c_enterF (Qc := fun A => va_Qi Q (BC D a d A) A) RJ5 (by decide +kernel) rfl (Nat.le_of_ble_eq_true rfl) ?_
  intro p e s m below meth c ls A hmn F hG hl
  have G := hG
  have hl : lv_has ls 1 [(0, .ref (a 101))] := hl
  obtain ⟨hx, hb, hr, hml, hown, hts, hlocks, hA, hK, hN⟩ := id F
  unfold CJ5_coder_101 at h
  refine st_compact F G dJ5_coder_0 ?_
  refine lv_if_eq (tgt := 13) hx hb dJ5_coder_3 (by decide) (fun c_1 => ?_) (fun c_1 => ?_)
  · replace h := h.1 c_1
    refine lv_iconst (v := 1) hx hb dJ5_coder_13 (by decide) ?_
    exact c_nret h.1 F G dJ5_coder_14 h.2
  · replace h := h.2 c_1
    refine lv_aload_n hx hb dJ5_coder_6 rfl (lv_at hl 0 rfl) ?_
    refine st_coder_101 F G dJ5_coder_7 ?_
    refine lv_goto (tgt := 14) hx hb dJ5_coder_10 (by decide) ?_
    exact c_nret h.1 F G dJ5_coder_14 h.2
set_option maxHeartbeats 4000000 in
set_option maxRecDepth 100000 in
theorem kJ5_CJ5_coder_101 {p : Program} {l : Launch} {e : Env} {s : State} {m : MethodId} {R : Room} {args : Array Value} {below : List Frame} {meth : Method} {c : Code} {D : va_G} {a : Nat → Nat} {d : Nat → ClassId} {A : Nat → Prop} {Q : State → Prop} {cc : ByteArray} {nL pc cells slots : Nat} {ret : Option FieldType} {ls : Array Slot} {rest : List Value}  {S : CS} {H : Heap} {locs : List Loc} {Q1 : Int32 → CS → Prop} (F : FC p s m meth c args D a d A RJ5 cc nL ret) (G : GC D a d A s.heap S H locs) (hsz : ls.size = nL) (hR : rmJ5_coder_101.frames + 1 ≤ R.frames ∧ 8 + (1 + 11) + rmJ5_coder_101.locals ≤ R.locals) (hc : cells + 0 ≤ R.cells ∧ slots + 0 ≤ R.slots) (hW : (rest.map fun v => v.category).sum ≤ 8) (hd : decode cc pc = .ok (.invokevirtual 335, 3)) (h : CJ5_coder_101  S Q1) (k : ∀ (r : Int32) (S1 : CS) (H : Heap) (locs : List Loc), GC D a d A s.heap S1 H locs → Q1 r S1 → W p l e R s m args below meth c H locs cells slots Q (F0 m (pc + 3) ls (.int r :: rest))) : W p l e R s m args below meth c H locs cells slots Q (F0 m pc ls (.ref (a 101) :: rest)) := by
  obtain ⟨hx, hb, hr, hml, hown, hts, hlocks, hA, hK, hN⟩ := id F
  exact c_calli F G (va_runV (As := []) (rest := rest) ⟨hx, hb, hml, hown, hts⟩ (wCJ5_coder_101 H.size  S Q1 h) (cwV 0 hts (lw_V q404 q405 q406 q99 q407) rfl rfl rfl (by decide +kernel) hR) ⟨PC_blind, st_recv_101 F G, c_pre F G⟩ rfl rfl hsz rfl (lv_room hW) hd hc) k
/-! java/lang/String.length -/
def CJ5_length_101  (S : CS) (Q : Int32 → CS → Prop) : Prop := CJ5_coder_101  S (fun r_1 S_2 => Q ((3 : Int32) >>> (r_1 &&& 31)) S_2)
abbrev rmJ5_length_101 : Room := { frames := 1, cells := 0, slots := 0, locals := 20 }
set_option maxHeartbeats 4000000 in
set_option maxRecDepth 100000 in
theorem wCJ5_length_101 {l : Launch} {D : va_G} {a : Nat → Nat} {d : Nat → ClassId} (sz : Nat)  (S : CS) (Q : Int32 → CS → Prop) (h : CJ5_length_101  S Q) : CMi l D a d yJ5_length cJ5_length 1 .int rmJ5_length_101 0 0 [.ref (a 101)] sz S Q := by
  refine c_enterF (Qc := fun A => va_Qi Q (BC D a d A) A) RJ5 (by decide +kernel) rfl (Nat.le_of_ble_eq_true rfl) ?_
  intro p e s m below meth c ls A hmn F hG hl
  have G := hG
  have hl : lv_has ls 1 [(0, .ref (a 101))] := hl
  obtain ⟨hx, hb, hr, hml, hown, hts, hlocks, hA, hK, hN⟩ := id F
  unfold CJ5_length_101 at h
  refine lv_aload_n hx hb dJ5_length_0 rfl (lv_at hl 0 rfl) ?_
  refine st_value_101 F G dJ5_length_1 ?_
  refine st_len_111 F G dJ5_length_4 ?_
  refine lv_aload_n hx hb dJ5_length_5 rfl (lv_at hl 0 rfl) ?_
  refine kJ5_CJ5_coder_101 F G hl.1 ⟨(Nat.le_of_ble_eq_true rfl), (Nat.le_of_ble_eq_true rfl)⟩ ⟨(Nat.le_of_ble_eq_true rfl), (Nat.le_of_ble_eq_true rfl)⟩ (Nat.le_of_ble_eq_true rfl) dJ5_length_6 h (fun r_1 S_2 H locs G h => ?_)
  refine lv_ishr hx hb dJ5_length_9 ?_
  exact c_iret F G dJ5_length_10 h
set_option maxHeartbeats 4000000 in
set_option maxRecDepth 100000 in
theorem kX0_CJ5_length_101 {p : Program} {l : Launch} {e : Env} {s : State} {m : MethodId} {R : Room} {args : Array Value} {below : List Frame} {meth : Method} {c : Code} {D : va_G} {a : Nat → Nat} {d : Nat → ClassId} {A : Nat → Prop} {Q : State → Prop} {cc : ByteArray} {nL pc cells slots : Nat} {ret : Option FieldType} {ls : Array Slot} {rest : List Value}  {S : CS} {H : Heap} {locs : List Loc} {Q1 : Int32 → CS → Prop} (F : FC p s m meth c args D a d A RX0 cc nL ret) (G : GC D a d A s.heap S H locs) (hsz : ls.size = nL) (hR : rmJ5_length_101.frames + 1 ≤ R.frames ∧ 8 + (1 + 11) + rmJ5_length_101.locals ≤ R.locals) (hc : cells + 0 ≤ R.cells ∧ slots + 0 ≤ R.slots) (hW : (rest.map fun v => v.category).sum ≤ 8) (hd : decode cc pc = .ok (.invokevirtual 156, 3)) (h : CJ5_length_101  S Q1) (k : ∀ (r : Int32) (S1 : CS) (H : Heap) (locs : List Loc), GC D a d A s.heap S1 H locs → Q1 r S1 → W p l e R s m args below meth c H locs cells slots Q (F0 m (pc + 3) ls (.int r :: rest))) : W p l e R s m args below meth c H locs cells slots Q (F0 m pc ls (.ref (a 101) :: rest)) := by
  obtain ⟨hx, hb, hr, hml, hown, hts, hlocks, hA, hK, hN⟩ := id F
  exact c_calli F G (va_runV (As := []) (rest := rest) ⟨hx, hb, hml, hown, hts⟩ (wCJ5_length_101 H.size  S Q1 h) (cwV 0 hts (lw_V q400 q401 q402 q99 q403) rfl rfl rfl (by decide +kernel) hR) ⟨PC_blind, st_recv_101 F G, c_pre F G⟩ rfl rfl hsz rfl (lv_room hW) hd hc) k
/-! java/lang/String.isLatin1 -/
def CJ5_isLatin1_101  (S : CS) (Q : Int32 → CS → Prop) : Prop := ((1 : Int32) = 0 → Q 0 S) ∧ (¬ (1 : Int32) = 0 → (¬ (0 : Int32) = 0 → Q 0 S) ∧ ((0 : Int32) = 0 → Q 1 S))
abbrev rmJ5_isLatin1_101 : Room := { frames := 0, cells := 0, slots := 0, locals := 0 }
set_option maxHeartbeats 4000000 in
set_option maxRecDepth 100000 in
theorem wCJ5_isLatin1_101 {l : Launch} {D : va_G} {a : Nat → Nat} {d : Nat → ClassId} (sz : Nat)  (S : CS) (Q : Int32 → CS → Prop) (h : CJ5_isLatin1_101  S Q) : CMi l D a d yJ5_isLatin1 cJ5_isLatin1 1 .boolean rmJ5_isLatin1_101 0 0 [.ref (a 101)] sz S Q := by
  refine c_enterF (Qc := fun A => va_Qi Q (BC D a d A) A) RJ5 (by decide +kernel) rfl (Nat.le_of_ble_eq_true rfl) ?_
  intro p e s m below meth c ls A hmn F hG hl
  have G := hG
  have hl : lv_has ls 1 [(0, .ref (a 101))] := hl
  obtain ⟨hx, hb, hr, hml, hown, hts, hlocks, hA, hK, hN⟩ := id F
  unfold CJ5_isLatin1_101 at h
  refine st_compact F G dJ5_isLatin1_0 ?_
  refine lv_if_eq (tgt := 17) hx hb dJ5_isLatin1_3 (by decide) (fun c_1 => ?_) (fun c_1 => ?_)
  · replace h := h.1 c_1
    refine lv_iconst (v := 0) hx hb dJ5_isLatin1_17 (by decide) ?_
    exact c_zret rfl F G dJ5_isLatin1_18 h
  · replace h := h.2 c_1
    refine lv_aload_n hx hb dJ5_isLatin1_6 rfl (lv_at hl 0 rfl) ?_
    refine st_coder_101 F G dJ5_isLatin1_7 ?_
    refine lv_if_ne (tgt := 17) hx hb dJ5_isLatin1_10 (by decide) (fun c_2 => ?_) (fun c_2 => ?_)
    · replace h := h.1 c_2
      refine lv_iconst (v := 0) hx hb dJ5_isLatin1_17 (by decide) ?_
      exact c_zret rfl F G dJ5_isLatin1_18 h
    · replace h := h.2 c_2
      refine lv_iconst (v := 1) hx hb dJ5_isLatin1_13 (by decide) ?_
      refine lv_goto (tgt := 18) hx hb dJ5_isLatin1_14 (by decide) ?_
      exact c_zret rfl F G dJ5_isLatin1_18 h
set_option maxHeartbeats 4000000 in
set_option maxRecDepth 100000 in
theorem kJ5_CJ5_isLatin1_101 {p : Program} {l : Launch} {e : Env} {s : State} {m : MethodId} {R : Room} {args : Array Value} {below : List Frame} {meth : Method} {c : Code} {D : va_G} {a : Nat → Nat} {d : Nat → ClassId} {A : Nat → Prop} {Q : State → Prop} {cc : ByteArray} {nL pc cells slots : Nat} {ret : Option FieldType} {ls : Array Slot} {rest : List Value}  {S : CS} {H : Heap} {locs : List Loc} {Q1 : Int32 → CS → Prop} (F : FC p s m meth c args D a d A RJ5 cc nL ret) (G : GC D a d A s.heap S H locs) (hsz : ls.size = nL) (hR : rmJ5_isLatin1_101.frames + 1 ≤ R.frames ∧ 8 + (1 + 11) + rmJ5_isLatin1_101.locals ≤ R.locals) (hc : cells + 0 ≤ R.cells ∧ slots + 0 ≤ R.slots) (hW : (rest.map fun v => v.category).sum ≤ 8) (hd : decode cc pc = .ok (.invokevirtual 492, 3)) (h : CJ5_isLatin1_101  S Q1) (k : ∀ (r : Int32) (S1 : CS) (H : Heap) (locs : List Loc), GC D a d A s.heap S1 H locs → Q1 r S1 → W p l e R s m args below meth c H locs cells slots Q (F0 m (pc + 3) ls (.int r :: rest))) : W p l e R s m args below meth c H locs cells slots Q (F0 m pc ls (.ref (a 101) :: rest)) := by
  obtain ⟨hx, hb, hr, hml, hown, hts, hlocks, hA, hK, hN⟩ := id F
  exact c_calli F G (va_runV (As := []) (rest := rest) ⟨hx, hb, hml, hown, hts⟩ (wCJ5_isLatin1_101 H.size  S Q1 h) (cwV 0 hts (lw_V q414 q415 q416 q99 q417) rfl rfl rfl (by decide +kernel) hR) ⟨PC_blind, st_recv_101 F G, c_pre F G⟩ rfl rfl hsz rfl (lv_room hW) hd hc) k
/-! java/lang/StringLatin1.charAt -/
def CJ7_charAt_111 (v1 : Int32) (S : CS) (Q : Int32 → CS → Prop) : Prop := CJ5_checkIndex v1 (3 : Int32) S (fun S_2 => vp_in v1 3 ∧ (narrow .char (.int (((((sby 1).getD v1.toNatClampNeg 0) &&& 255).toUInt32 % 65536).toInt32)) = .int (((((sby 1).getD v1.toNatClampNeg 0) &&& 255).toUInt32 % 65536).toInt32) ∧ Q (((((sby 1).getD v1.toNatClampNeg 0) &&& 255).toUInt32 % 65536).toInt32) S_2))
abbrev rmJ7_charAt_111 : Room := { frames := 2, cells := 0, slots := 0, locals := 43 }
set_option maxHeartbeats 4000000 in
set_option maxRecDepth 100000 in
theorem wCJ7_charAt_111 {l : Launch} {D : va_G} {a : Nat → Nat} {d : Nat → ClassId} (sz : Nat) (v1 : Int32) (S : CS) (Q : Int32 → CS → Prop) (h : CJ7_charAt_111 v1 S Q) : CMi l D a d yJ7_charAt cJ7_charAt 2 .char rmJ7_charAt_111 0 0 [.ref (a 111), .int v1] sz S Q := by
  refine c_enterF (Qc := fun A => va_Qi Q (BC D a d A) A) RJ7 (by decide +kernel) rfl (Nat.le_of_ble_eq_true rfl) ?_
  intro p e s m below meth c ls A hmn F hG hl
  have G := hG
  have hl : lv_has ls 2 [(0, .ref (a 111)), (1, .int v1)] := hl
  obtain ⟨hx, hb, hr, hml, hown, hts, hlocks, hA, hK, hN⟩ := id F
  unfold CJ7_charAt_111 at h
  refine lv_iload_n hx hb dJ7_charAt_0 rfl (lv_at hl 1 rfl) ?_
  refine lv_aload_n hx hb dJ7_charAt_1 rfl (lv_at hl 0 rfl) ?_
  refine st_len_111 F G dJ7_charAt_2 ?_
  refine kJ7_CJ5_checkIndex F G hl.1 ⟨(Nat.le_of_ble_eq_true rfl), (Nat.le_of_ble_eq_true rfl)⟩ ⟨(Nat.le_of_ble_eq_true rfl), (Nat.le_of_ble_eq_true rfl)⟩ (Nat.le_of_ble_eq_true rfl) dJ7_charAt_3 h (fun S_2 H locs G h => ?_)
  refine lv_aload_n hx hb dJ7_charAt_6 rfl (lv_at hl 0 rfl) ?_
  refine lv_iload_n hx hb dJ7_charAt_7 rfl (lv_at hl 1 rfl) ?_
  obtain ⟨b_3, h⟩ := h
  refine st_byte_111 F G b_3 dJ7_charAt_8 ?_
  refine lv_sipush (v := 255) hx hb dJ7_charAt_9 (by decide) ?_
  refine lv_iand hx hb dJ7_charAt_12 ?_
  refine lv_i2c (v := ((((sby 1).getD v1.toNatClampNeg 0) &&& 255).toUInt32 % 65536).toInt32) hx hb dJ7_charAt_13 rfl ?_
  exact c_nret h.1 F G dJ7_charAt_14 h.2
set_option maxHeartbeats 4000000 in
set_option maxRecDepth 100000 in
theorem kJ5_CJ7_charAt_111 {p : Program} {l : Launch} {e : Env} {s : State} {m : MethodId} {R : Room} {args : Array Value} {below : List Frame} {meth : Method} {c : Code} {D : va_G} {a : Nat → Nat} {d : Nat → ClassId} {A : Nat → Prop} {Q : State → Prop} {cc : ByteArray} {nL pc cells slots : Nat} {ret : Option FieldType} {ls : Array Slot} {rest : List Value} {v1 : Int32} {S : CS} {H : Heap} {locs : List Loc} {Q1 : Int32 → CS → Prop} (F : FC p s m meth c args D a d A RJ5 cc nL ret) (G : GC D a d A s.heap S H locs) (hsz : ls.size = nL) (hR : rmJ7_charAt_111.frames + 1 ≤ R.frames ∧ 8 + (2 + 11) + rmJ7_charAt_111.locals ≤ R.locals) (hc : cells + 0 ≤ R.cells ∧ slots + 0 ≤ R.slots) (hW : (rest.map fun v => v.category).sum ≤ 8) (hd : decode cc pc = .ok (.invokestatic 495, 3)) (h : CJ7_charAt_111 v1 S Q1) (k : ∀ (r : Int32) (S1 : CS) (H : Heap) (locs : List Loc), GC D a d A s.heap S1 H locs → Q1 r S1 → W p l e R s m args below meth c H locs cells slots Q (F0 m (pc + 3) ls (.int r :: rest))) : W p l e R s m args below meth c H locs cells slots Q (F0 m pc ls (.int v1 :: .ref (a 111) :: rest)) := by
  obtain ⟨hx, hb, hr, hml, hown, hts, hlocks, hA, hK, hN⟩ := id F
  exact c_calli F G (va_runS (As := [.ref (a 111), .int v1]) (rest := rest) ⟨hx, hb, hml, hown, hts⟩ (wCJ7_charAt_111 H.size v1 S Q1 h) (va_cwS 2 hts (lw_S q418 q419 q102 q420) rfl rfl rfl (by decide +kernel) hR) ⟨PC_blind, c_pre F G⟩ rfl rfl hsz rfl (lv_room hW) hd hc) k
/-! java/lang/String.charAt -/
def CJ5_charAt_101 (v1 : Int32) (S : CS) (Q : Int32 → CS → Prop) : Prop := CJ5_isLatin1_101  S (fun r_1 S_2 => (r_1 = 0 → False) ∧ (¬ r_1 = 0 → CJ7_charAt_111 v1 S_2 (fun r_4 S_5 => narrow .char (.int r_4) = .int r_4 ∧ Q r_4 S_5)))
abbrev rmJ5_charAt_101 : Room := { frames := 3, cells := 0, slots := 0, locals := 64 }
set_option maxHeartbeats 4000000 in
set_option maxRecDepth 100000 in
theorem wCJ5_charAt_101 {l : Launch} {D : va_G} {a : Nat → Nat} {d : Nat → ClassId} (sz : Nat) (v1 : Int32) (S : CS) (Q : Int32 → CS → Prop) (h : CJ5_charAt_101 v1 S Q) : CMi l D a d yJ5_charAt cJ5_charAt 2 .char rmJ5_charAt_101 0 0 [.ref (a 101), .int v1] sz S Q := by
  refine c_enterF (Qc := fun A => va_Qi Q (BC D a d A) A) RJ5 (by decide +kernel) rfl (Nat.le_of_ble_eq_true rfl) ?_
  intro p e s m below meth c ls A hmn F hG hl
  have G := hG
  have hl : lv_has ls 2 [(0, .ref (a 101)), (1, .int v1)] := hl
  obtain ⟨hx, hb, hr, hml, hown, hts, hlocks, hA, hK, hN⟩ := id F
  unfold CJ5_charAt_101 at h
  refine lv_aload_n hx hb dJ5_charAt_0 rfl (lv_at hl 0 rfl) ?_
  refine kJ5_CJ5_isLatin1_101 F G hl.1 ⟨(Nat.le_of_ble_eq_true rfl), (Nat.le_of_ble_eq_true rfl)⟩ ⟨(Nat.le_of_ble_eq_true rfl), (Nat.le_of_ble_eq_true rfl)⟩ (Nat.le_of_ble_eq_true rfl) dJ5_charAt_1 h (fun r_1 S_2 H locs G h => ?_)
  refine lv_if_eq (tgt := 16) hx hb dJ5_charAt_4 (by decide) (fun c_3 => ?_) (fun c_3 => ?_)
  · replace h := h.1 c_3
    exact h.elim
  · replace h := h.2 c_3
    refine lv_aload_n hx hb dJ5_charAt_7 rfl (lv_at hl 0 rfl) ?_
    refine st_value_101 F G dJ5_charAt_8 ?_
    refine lv_iload_n hx hb dJ5_charAt_11 rfl (lv_at hl 1 rfl) ?_
    refine kJ5_CJ7_charAt_111 F G hl.1 ⟨(Nat.le_of_ble_eq_true rfl), (Nat.le_of_ble_eq_true rfl)⟩ ⟨(Nat.le_of_ble_eq_true rfl), (Nat.le_of_ble_eq_true rfl)⟩ (Nat.le_of_ble_eq_true rfl) dJ5_charAt_12 h (fun r_4 S_5 H locs G h => ?_)
    exact c_nret h.1 F G dJ5_charAt_15 h.2
set_option maxHeartbeats 4000000 in
set_option maxRecDepth 100000 in
theorem kX0_CJ5_charAt_101 {p : Program} {l : Launch} {e : Env} {s : State} {m : MethodId} {R : Room} {args : Array Value} {below : List Frame} {meth : Method} {c : Code} {D : va_G} {a : Nat → Nat} {d : Nat → ClassId} {A : Nat → Prop} {Q : State → Prop} {cc : ByteArray} {nL pc cells slots : Nat} {ret : Option FieldType} {ls : Array Slot} {rest : List Value} {v1 : Int32} {S : CS} {H : Heap} {locs : List Loc} {Q1 : Int32 → CS → Prop} (F : FC p s m meth c args D a d A RX0 cc nL ret) (G : GC D a d A s.heap S H locs) (hsz : ls.size = nL) (hR : rmJ5_charAt_101.frames + 1 ≤ R.frames ∧ 8 + (2 + 11) + rmJ5_charAt_101.locals ≤ R.locals) (hc : cells + 0 ≤ R.cells ∧ slots + 0 ≤ R.slots) (hW : (rest.map fun v => v.category).sum ≤ 8) (hd : decode cc pc = .ok (.invokevirtual 162, 3)) (h : CJ5_charAt_101 v1 S Q1) (k : ∀ (r : Int32) (S1 : CS) (H : Heap) (locs : List Loc), GC D a d A s.heap S1 H locs → Q1 r S1 → W p l e R s m args below meth c H locs cells slots Q (F0 m (pc + 3) ls (.int r :: rest))) : W p l e R s m args below meth c H locs cells slots Q (F0 m pc ls (.int v1 :: .ref (a 101) :: rest)) := by
  obtain ⟨hx, hb, hr, hml, hown, hts, hlocks, hA, hK, hN⟩ := id F
  exact c_calli F G (va_runV (As := [.int v1]) (rest := rest) ⟨hx, hb, hml, hown, hts⟩ (wCJ5_charAt_101 H.size v1 S Q1 h) (cwV 1 hts (lw_V q410 q411 q412 q99 q413) rfl rfl rfl (by decide +kernel) hR) ⟨PC_blind, st_recv_101 F G, c_pre F G⟩ rfl rfl hsz rfl (lv_room hW) hd hc) k
/-! StrokesHeard.isWord -/
def C0_isWord_101_p60 (Q : Int32 → CS → Prop) (K24 : Int32 → Int32 → CS → Prop) (v3 : Int32) (t0 : Int32) (S : CS) : Prop := K24 t0 (v3 + 1) S
def C0_isWord_101_L24 (Q : Int32 → CS → Prop)   : Nat → Int32 → Int32 → CS → Prop
  | 0, _, _, _ => False
  | n + 1, v2, v3, S => CJ5_length_101  S (fun r_4 S_5 => (r_4 ≤ v3 → zb v2 ∧ Q v2 S_5) ∧ (¬ r_4 ≤ v3 → (v2 = 0 → zb v2 ∧ Q v2 S_5) ∧ (¬ v2 = 0 → vp_in ((S_5.1 0 9) + v3) 96 ∧ (CJ5_charAt_101 v3 S_5 (fun r_9 S_10 => (¬ (S_5.1 22 (((S_5.1 0 9) + v3).toNatClampNeg)) = r_9 → C0_isWord_101_p60 Q (fun v2_ v3_ S_ => C0_isWord_101_L24 Q n v2_ v3_ S_) v3 0 S_10) ∧ ((S_5.1 22 (((S_5.1 0 9) + v3).toNatClampNeg)) = r_9 → C0_isWord_101_p60 Q (fun v2_ v3_ S_ => C0_isWord_101_L24 Q n v2_ v3_ S_) v3 1 S_10))))))
def C0_isWord_101_p21 (Q : Int32 → CS → Prop)  (t0 : Int32) (S : CS) : Prop := ∃ k24, C0_isWord_101_L24 Q k24 t0 0 S
def C0_isWord_101  (S : CS) (Q : Int32 → CS → Prop) : Prop := CJ5_length_101  S (fun r_1 S_2 => (¬ ((S.1 0 10) - (S.1 0 9)) = r_1 → C0_isWord_101_p21 Q 0 S_2) ∧ (((S.1 0 10) - (S.1 0 9)) = r_1 → C0_isWord_101_p21 Q 1 S_2))
abbrev rmX0_isWord_101 : Room := { frames := 4, cells := 0, slots := 0, locals := 85 }
set_option maxHeartbeats 4000000 in
set_option maxRecDepth 100000 in
theorem wC0_isWord_101_p60 {p : Program} {l : Launch} {e : Env} {s : State} {m : MethodId} {args : Array Value} {below : List Frame} {meth : Method} {c : Code} {D : va_G} {a : Nat → Nat} {d : Nat → ClassId} {A : Nat → Prop} {Q : Int32 → CS → Prop} {K24 : Int32 → Int32 → CS → Prop} (F : FC p s m meth c args D a d A RX0 cX0_isWord 4 (some .boolean)) (v3 : Int32) (t0 : Int32) (S : CS) (hK24 : ∀ (v2 : Int32) (v3 : Int32) (S : CS) (H : Heap) (locs : List Loc) (ls : Array Slot), GC D a d A s.heap S H locs → lv_has ls 4 [(0, .ref (a 0)), (1, .ref (a 101)), (2, .int v2), (3, .int v3)] → K24 v2 v3 S → wCi p l e rmX0_isWord_101 s m args below meth c D a d A Q 0 0 H locs 0 0 (F0 m 24 ls [])) {H : Heap} {locs : List Loc} {ls : Array Slot} (G : GC D a d A s.heap S H locs) (hl : lv_has ls 4 [(0, .ref (a 0)), (1, .ref (a 101)), (3, .int v3)]) (h : C0_isWord_101_p60 Q K24 v3 t0 S) : wCi p l e rmX0_isWord_101 s m args below meth c D a d A Q 0 0 H locs 0 0 (F0 m 60 ls [.int t0]) := by
  obtain ⟨hx, hb, hr, hml, hown, hts, hlocks, hA, hK, hN⟩ := id F
  unfold C0_isWord_101_p60 at h
  refine lv_istore_n (lv' := [(2, .int t0), (0, .ref (a 0)), (1, .ref (a 101)), (3, .int v3)]) hx hb dX0_isWord_60 rfl hl (by decide) rfl (fun ls hl => ?_)
  refine lv_iinc (v := (v3 + 1)) (lv' := [(3, .int (v3 + 1)), (2, .int t0), (0, .ref (a 0)), (1, .ref (a 101))]) hx hb dX0_isWord_61 hl (k := 3) rfl rfl (by decide) rfl (fun ls hl => ?_)
  refine lv_goto (tgt := 24) hx hb dX0_isWord_64 (by decide) ?_
  exact hK24 t0 (v3 + 1) S _ _ _ G (lv_sub hl [2, 3, 1, 0] rfl) h
set_option maxHeartbeats 4000000 in
set_option maxRecDepth 100000 in
theorem wC0_isWord_101_L24 {p : Program} {l : Launch} {e : Env} {s : State} {m : MethodId} {args : Array Value} {below : List Frame} {meth : Method} {c : Code} {D : va_G} {a : Nat → Nat} {d : Nat → ClassId} {A : Nat → Prop} {Q : Int32 → CS → Prop}  (F : FC p s m meth c args D a d A RX0 cX0_isWord 4 (some .boolean))   :
    ∀ (n : Nat) (v2 : Int32) (v3 : Int32) (S : CS) (H : Heap) (locs : List Loc) (ls : Array Slot), GC D a d A s.heap S H locs → lv_has ls 4 [(0, .ref (a 0)), (1, .ref (a 101)), (2, .int v2), (3, .int v3)] → C0_isWord_101_L24 Q n v2 v3 S → wCi p l e rmX0_isWord_101 s m args below meth c D a d A Q 0 0 H locs 0 0 (F0 m 24 ls []) := by
  obtain ⟨hx, hb, hr, hml, hown, hts, hlocks, hA, hK, hN⟩ := id F
  intro n
  induction n with
  | zero => intro v2 v3 S H locs ls G hl h; exact absurd h (fun q => q)
  | succ n ih =>
    intro v2 v3 S H locs ls G hl h
    unfold C0_isWord_101_L24 at h
    refine lv_iload_n hx hb dX0_isWord_24 rfl (lv_at hl 3 rfl) ?_
    refine lv_aload_n hx hb dX0_isWord_25 rfl (lv_at hl 1 rfl) ?_
    refine kX0_CJ5_length_101 F G hl.1 ⟨(Nat.le_of_ble_eq_true rfl), (Nat.le_of_ble_eq_true rfl)⟩ ⟨(Nat.le_of_ble_eq_true rfl), (Nat.le_of_ble_eq_true rfl)⟩ (Nat.le_of_ble_eq_true rfl) dX0_isWord_26 h (fun r_4 S_5 H locs G h => ?_)
    refine lv_icmp_ge (tgt := 67) hx hb dX0_isWord_29 (by decide) (fun c_6 => ?_) (fun c_6 => ?_)
    · replace h := h.1 c_6
      refine lv_iload_n hx hb dX0_isWord_67 rfl (lv_at hl 2 rfl) ?_
      exact c_zret h.1 F G dX0_isWord_68 h.2
    · replace h := h.2 c_6
      refine lv_iload_n hx hb dX0_isWord_32 rfl (lv_at hl 2 rfl) ?_
      refine lv_if_eq (tgt := 67) hx hb dX0_isWord_33 (by decide) (fun c_7 => ?_) (fun c_7 => ?_)
      · replace h := h.1 c_7
        refine lv_iload_n hx hb dX0_isWord_67 rfl (lv_at hl 2 rfl) ?_
        exact c_zret h.1 F G dX0_isWord_68 h.2
      · replace h := h.2 c_7
        refine lv_aload_n hx hb dX0_isWord_36 rfl (lv_at hl 0 rfl) ?_
        refine cgX0_0_tape F G dX0_isWord_37 ?_
        refine lv_aload_n hx hb dX0_isWord_40 rfl (lv_at hl 0 rfl) ?_
        refine cgX0_0_from F G dX0_isWord_41 ?_
        refine lv_iload_n hx hb dX0_isWord_44 rfl (lv_at hl 3 rfl) ?_
        refine lv_iadd hx hb dX0_isWord_45 ?_
        obtain ⟨b_8, h⟩ := h
        refine c_baload F G cI_22 b_8 dX0_isWord_46 ?_
        refine lv_aload_n hx hb dX0_isWord_47 rfl (lv_at hl 1 rfl) ?_
        refine lv_iload_n hx hb dX0_isWord_48 rfl (lv_at hl 3 rfl) ?_
        refine kX0_CJ5_charAt_101 F G hl.1 ⟨(Nat.le_of_ble_eq_true rfl), (Nat.le_of_ble_eq_true rfl)⟩ ⟨(Nat.le_of_ble_eq_true rfl), (Nat.le_of_ble_eq_true rfl)⟩ (Nat.le_of_ble_eq_true rfl) dX0_isWord_49 h (fun r_9 S_10 H locs G h => ?_)
        refine lv_icmp_ne (tgt := 59) hx hb dX0_isWord_52 (by decide) (fun c_11 => ?_) (fun c_11 => ?_)
        · replace h := h.1 c_11
          refine lv_iconst (v := 0) hx hb dX0_isWord_59 (by decide) ?_
          exact wC0_isWord_101_p60 F v3 0 S_10 ih G (lv_sub hl [0, 1, 3] rfl) h
        · replace h := h.2 c_11
          refine lv_iconst (v := 1) hx hb dX0_isWord_55 (by decide) ?_
          refine lv_goto (tgt := 60) hx hb dX0_isWord_56 (by decide) ?_
          exact wC0_isWord_101_p60 F v3 1 S_10 ih G (lv_sub hl [0, 1, 3] rfl) h
set_option maxHeartbeats 4000000 in
set_option maxRecDepth 100000 in
theorem wC0_isWord_101_p21 {p : Program} {l : Launch} {e : Env} {s : State} {m : MethodId} {args : Array Value} {below : List Frame} {meth : Method} {c : Code} {D : va_G} {a : Nat → Nat} {d : Nat → ClassId} {A : Nat → Prop} {Q : Int32 → CS → Prop}  (F : FC p s m meth c args D a d A RX0 cX0_isWord 4 (some .boolean)) (t0 : Int32) (S : CS)  {H : Heap} {locs : List Loc} {ls : Array Slot} (G : GC D a d A s.heap S H locs) (hl : lv_has ls 4 [(0, .ref (a 0)), (1, .ref (a 101))]) (h : C0_isWord_101_p21 Q t0 S) : wCi p l e rmX0_isWord_101 s m args below meth c D a d A Q 0 0 H locs 0 0 (F0 m 21 ls [.int t0]) := by
  obtain ⟨hx, hb, hr, hml, hown, hts, hlocks, hA, hK, hN⟩ := id F
  unfold C0_isWord_101_p21 at h
  refine lv_istore_n (lv' := [(2, .int t0), (0, .ref (a 0)), (1, .ref (a 101))]) hx hb dX0_isWord_21 rfl hl (by decide) rfl (fun ls hl => ?_)
  refine lv_iconst (v := 0) hx hb dX0_isWord_22 (by decide) ?_
  refine lv_istore_n (lv' := [(3, .int 0), (2, .int t0), (0, .ref (a 0)), (1, .ref (a 101))]) hx hb dX0_isWord_23 rfl hl (by decide) rfl (fun ls hl => ?_)
  obtain ⟨k24, h⟩ := h
  exact wC0_isWord_101_L24 F   k24 t0 0 S _ _ _ G (lv_sub hl [2, 3, 1, 0] rfl) h
set_option maxHeartbeats 4000000 in
set_option maxRecDepth 100000 in
theorem wC0_isWord_101 {l : Launch} {D : va_G} {a : Nat → Nat} {d : Nat → ClassId} (sz : Nat)  (S : CS) (Q : Int32 → CS → Prop) (h : C0_isWord_101  S Q) : CMi l D a d yX0_isWord cX0_isWord 4 .boolean rmX0_isWord_101 0 0 [.ref (a 0), .ref (a 101)] sz S Q := by
  refine c_enter (Qc := fun A => va_Qi Q (BC D a d A) A) RX0 (by decide +kernel) rfl (Nat.le_of_ble_eq_true rfl) ?_
  intro p e s m below meth c ls A hmn F hG hl
  have G := hG
  have hl : lv_has ls 4 [(0, .ref (a 0)), (1, .ref (a 101))] := hl
  obtain ⟨hx, hb, hr, hml, hown, hts, hlocks, hA, hK, hN⟩ := id F
  unfold C0_isWord_101 at h
  refine lv_aload_n hx hb dX0_isWord_0 rfl (lv_at hl 0 rfl) ?_
  refine cgX0_0_to F G dX0_isWord_1 ?_
  refine lv_aload_n hx hb dX0_isWord_4 rfl (lv_at hl 0 rfl) ?_
  refine cgX0_0_from F G dX0_isWord_5 ?_
  refine lv_isub hx hb dX0_isWord_8 ?_
  refine lv_aload_n hx hb dX0_isWord_9 rfl (lv_at hl 1 rfl) ?_
  refine kX0_CJ5_length_101 F G hl.1 ⟨(Nat.le_of_ble_eq_true rfl), (Nat.le_of_ble_eq_true rfl)⟩ ⟨(Nat.le_of_ble_eq_true rfl), (Nat.le_of_ble_eq_true rfl)⟩ (Nat.le_of_ble_eq_true rfl) dX0_isWord_10 h (fun r_1 S_2 H locs G h => ?_)
  refine lv_icmp_ne (tgt := 20) hx hb dX0_isWord_13 (by decide) (fun c_3 => ?_) (fun c_3 => ?_)
  · replace h := h.1 c_3
    refine lv_iconst (v := 0) hx hb dX0_isWord_20 (by decide) ?_
    exact wC0_isWord_101_p21 F 0 S_2  G (lv_sub hl [0, 1] rfl) h
  · replace h := h.2 c_3
    refine lv_iconst (v := 1) hx hb dX0_isWord_16 (by decide) ?_
    refine lv_goto (tgt := 21) hx hb dX0_isWord_17 (by decide) ?_
    exact wC0_isWord_101_p21 F 1 S_2  G (lv_sub hl [0, 1] rfl) h
set_option maxHeartbeats 4000000 in
set_option maxRecDepth 100000 in
theorem kX0_C0_isWord_101 {p : Program} {l : Launch} {e : Env} {s : State} {m : MethodId} {R : Room} {args : Array Value} {below : List Frame} {meth : Method} {c : Code} {D : va_G} {a : Nat → Nat} {d : Nat → ClassId} {A : Nat → Prop} {Q : State → Prop} {cc : ByteArray} {nL pc cells slots : Nat} {ret : Option FieldType} {ls : Array Slot} {rest : List Value}  {S : CS} {H : Heap} {locs : List Loc} {Q1 : Int32 → CS → Prop} (F : FC p s m meth c args D a d A RX0 cc nL ret) (G : GC D a d A s.heap S H locs) (hsz : ls.size = nL) (hR : rmX0_isWord_101.frames + 1 ≤ R.frames ∧ 8 + (4 + 11) + rmX0_isWord_101.locals ≤ R.locals) (hc : cells + 0 ≤ R.cells ∧ slots + 0 ≤ R.slots) (hW : (rest.map fun v => v.category).sum ≤ 8) (hd : decode cc pc = .ok (.invokevirtual 216, 3)) (h : C0_isWord_101  S Q1) (k : ∀ (r : Int32) (S1 : CS) (H : Heap) (locs : List Loc), GC D a d A s.heap S1 H locs → Q1 r S1 → W p l e R s m args below meth c H locs cells slots Q (F0 m (pc + 3) ls (.int r :: rest))) : W p l e R s m args below meth c H locs cells slots Q (F0 m pc ls (.ref (a 101) :: .ref (a 0) :: rest)) := by
  obtain ⟨hx, hb, hr, hml, hown, hts, hlocks, hA, hK, hN⟩ := id F
  exact c_calli F G (va_runV (As := [.ref (a 101)]) (rest := rest) ⟨hx, hb, hml, hown, hts⟩ (wC0_isWord_101 H.size  S Q1 h) (cwV 1 hts (lw_V q396 q398 qs6 q82 q399) rfl rfl rfl (by decide +kernel) hR) ⟨PC_blind, va_recv hK G.1 (ci := 0) (q0 := 0) rfl rfl, c_pre F G⟩ rfl rfl hsz rfl (lv_room hW) hd hc) k
/-! java/lang/String.coder -/
def CJ5_coder_102  (S : CS) (Q : Int32 → CS → Prop) : Prop := ((1 : Int32) = 0 → narrow .byte (.int 1) = .int 1 ∧ Q 1 S) ∧ (¬ (1 : Int32) = 0 → narrow .byte (.int (0 : Int32)) = .int (0 : Int32) ∧ Q (0 : Int32) S)
abbrev rmJ5_coder_102 : Room := { frames := 0, cells := 0, slots := 0, locals := 0 }
set_option maxHeartbeats 4000000 in
set_option maxRecDepth 100000 in
theorem wCJ5_coder_102 {l : Launch} {D : va_G} {a : Nat → Nat} {d : Nat → ClassId} (sz : Nat)  (S : CS) (Q : Int32 → CS → Prop) (h : CJ5_coder_102  S Q) : CMi l D a d yJ5_coder cJ5_coder 1 .byte rmJ5_coder_102 0 0 [.ref (a 102)] sz S Q := by
  refine c_enterF (Qc := fun A => va_Qi Q (BC D a d A) A) RJ5 (by decide +kernel) rfl (Nat.le_of_ble_eq_true rfl) ?_
  intro p e s m below meth c ls A hmn F hG hl
  have G := hG
  have hl : lv_has ls 1 [(0, .ref (a 102))] := hl
  obtain ⟨hx, hb, hr, hml, hown, hts, hlocks, hA, hK, hN⟩ := id F
  unfold CJ5_coder_102 at h
  refine st_compact F G dJ5_coder_0 ?_
  refine lv_if_eq (tgt := 13) hx hb dJ5_coder_3 (by decide) (fun c_1 => ?_) (fun c_1 => ?_)
  · replace h := h.1 c_1
    refine lv_iconst (v := 1) hx hb dJ5_coder_13 (by decide) ?_
    exact c_nret h.1 F G dJ5_coder_14 h.2
  · replace h := h.2 c_1
    refine lv_aload_n hx hb dJ5_coder_6 rfl (lv_at hl 0 rfl) ?_
    refine st_coder_102 F G dJ5_coder_7 ?_
    refine lv_goto (tgt := 14) hx hb dJ5_coder_10 (by decide) ?_
    exact c_nret h.1 F G dJ5_coder_14 h.2
set_option maxHeartbeats 4000000 in
set_option maxRecDepth 100000 in
theorem kJ5_CJ5_coder_102 {p : Program} {l : Launch} {e : Env} {s : State} {m : MethodId} {R : Room} {args : Array Value} {below : List Frame} {meth : Method} {c : Code} {D : va_G} {a : Nat → Nat} {d : Nat → ClassId} {A : Nat → Prop} {Q : State → Prop} {cc : ByteArray} {nL pc cells slots : Nat} {ret : Option FieldType} {ls : Array Slot} {rest : List Value}  {S : CS} {H : Heap} {locs : List Loc} {Q1 : Int32 → CS → Prop} (F : FC p s m meth c args D a d A RJ5 cc nL ret) (G : GC D a d A s.heap S H locs) (hsz : ls.size = nL) (hR : rmJ5_coder_102.frames + 1 ≤ R.frames ∧ 8 + (1 + 11) + rmJ5_coder_102.locals ≤ R.locals) (hc : cells + 0 ≤ R.cells ∧ slots + 0 ≤ R.slots) (hW : (rest.map fun v => v.category).sum ≤ 8) (hd : decode cc pc = .ok (.invokevirtual 335, 3)) (h : CJ5_coder_102  S Q1) (k : ∀ (r : Int32) (S1 : CS) (H : Heap) (locs : List Loc), GC D a d A s.heap S1 H locs → Q1 r S1 → W p l e R s m args below meth c H locs cells slots Q (F0 m (pc + 3) ls (.int r :: rest))) : W p l e R s m args below meth c H locs cells slots Q (F0 m pc ls (.ref (a 102) :: rest)) := by
  obtain ⟨hx, hb, hr, hml, hown, hts, hlocks, hA, hK, hN⟩ := id F
  exact c_calli F G (va_runV (As := []) (rest := rest) ⟨hx, hb, hml, hown, hts⟩ (wCJ5_coder_102 H.size  S Q1 h) (cwV 0 hts (lw_V q404 q405 q406 q99 q407) rfl rfl rfl (by decide +kernel) hR) ⟨PC_blind, st_recv_102 F G, c_pre F G⟩ rfl rfl hsz rfl (lv_room hW) hd hc) k
/-! java/lang/String.length -/
def CJ5_length_102  (S : CS) (Q : Int32 → CS → Prop) : Prop := CJ5_coder_102  S (fun r_1 S_2 => Q ((4 : Int32) >>> (r_1 &&& 31)) S_2)
abbrev rmJ5_length_102 : Room := { frames := 1, cells := 0, slots := 0, locals := 20 }
set_option maxHeartbeats 4000000 in
set_option maxRecDepth 100000 in
theorem wCJ5_length_102 {l : Launch} {D : va_G} {a : Nat → Nat} {d : Nat → ClassId} (sz : Nat)  (S : CS) (Q : Int32 → CS → Prop) (h : CJ5_length_102  S Q) : CMi l D a d yJ5_length cJ5_length 1 .int rmJ5_length_102 0 0 [.ref (a 102)] sz S Q := by
  refine c_enterF (Qc := fun A => va_Qi Q (BC D a d A) A) RJ5 (by decide +kernel) rfl (Nat.le_of_ble_eq_true rfl) ?_
  intro p e s m below meth c ls A hmn F hG hl
  have G := hG
  have hl : lv_has ls 1 [(0, .ref (a 102))] := hl
  obtain ⟨hx, hb, hr, hml, hown, hts, hlocks, hA, hK, hN⟩ := id F
  unfold CJ5_length_102 at h
  refine lv_aload_n hx hb dJ5_length_0 rfl (lv_at hl 0 rfl) ?_
  refine st_value_102 F G dJ5_length_1 ?_
  refine st_len_112 F G dJ5_length_4 ?_
  refine lv_aload_n hx hb dJ5_length_5 rfl (lv_at hl 0 rfl) ?_
  refine kJ5_CJ5_coder_102 F G hl.1 ⟨(Nat.le_of_ble_eq_true rfl), (Nat.le_of_ble_eq_true rfl)⟩ ⟨(Nat.le_of_ble_eq_true rfl), (Nat.le_of_ble_eq_true rfl)⟩ (Nat.le_of_ble_eq_true rfl) dJ5_length_6 h (fun r_1 S_2 H locs G h => ?_)
  refine lv_ishr hx hb dJ5_length_9 ?_
  exact c_iret F G dJ5_length_10 h
set_option maxHeartbeats 4000000 in
set_option maxRecDepth 100000 in
theorem kX0_CJ5_length_102 {p : Program} {l : Launch} {e : Env} {s : State} {m : MethodId} {R : Room} {args : Array Value} {below : List Frame} {meth : Method} {c : Code} {D : va_G} {a : Nat → Nat} {d : Nat → ClassId} {A : Nat → Prop} {Q : State → Prop} {cc : ByteArray} {nL pc cells slots : Nat} {ret : Option FieldType} {ls : Array Slot} {rest : List Value}  {S : CS} {H : Heap} {locs : List Loc} {Q1 : Int32 → CS → Prop} (F : FC p s m meth c args D a d A RX0 cc nL ret) (G : GC D a d A s.heap S H locs) (hsz : ls.size = nL) (hR : rmJ5_length_102.frames + 1 ≤ R.frames ∧ 8 + (1 + 11) + rmJ5_length_102.locals ≤ R.locals) (hc : cells + 0 ≤ R.cells ∧ slots + 0 ≤ R.slots) (hW : (rest.map fun v => v.category).sum ≤ 8) (hd : decode cc pc = .ok (.invokevirtual 156, 3)) (h : CJ5_length_102  S Q1) (k : ∀ (r : Int32) (S1 : CS) (H : Heap) (locs : List Loc), GC D a d A s.heap S1 H locs → Q1 r S1 → W p l e R s m args below meth c H locs cells slots Q (F0 m (pc + 3) ls (.int r :: rest))) : W p l e R s m args below meth c H locs cells slots Q (F0 m pc ls (.ref (a 102) :: rest)) := by
  obtain ⟨hx, hb, hr, hml, hown, hts, hlocks, hA, hK, hN⟩ := id F
  exact c_calli F G (va_runV (As := []) (rest := rest) ⟨hx, hb, hml, hown, hts⟩ (wCJ5_length_102 H.size  S Q1 h) (cwV 0 hts (lw_V q400 q401 q402 q99 q403) rfl rfl rfl (by decide +kernel) hR) ⟨PC_blind, st_recv_102 F G, c_pre F G⟩ rfl rfl hsz rfl (lv_room hW) hd hc) k
/-! java/lang/String.isLatin1 -/
def CJ5_isLatin1_102  (S : CS) (Q : Int32 → CS → Prop) : Prop := ((1 : Int32) = 0 → Q 0 S) ∧ (¬ (1 : Int32) = 0 → (¬ (0 : Int32) = 0 → Q 0 S) ∧ ((0 : Int32) = 0 → Q 1 S))
abbrev rmJ5_isLatin1_102 : Room := { frames := 0, cells := 0, slots := 0, locals := 0 }
set_option maxHeartbeats 4000000 in
set_option maxRecDepth 100000 in
theorem wCJ5_isLatin1_102 {l : Launch} {D : va_G} {a : Nat → Nat} {d : Nat → ClassId} (sz : Nat)  (S : CS) (Q : Int32 → CS → Prop) (h : CJ5_isLatin1_102  S Q) : CMi l D a d yJ5_isLatin1 cJ5_isLatin1 1 .boolean rmJ5_isLatin1_102 0 0 [.ref (a 102)] sz S Q := by
  refine c_enterF (Qc := fun A => va_Qi Q (BC D a d A) A) RJ5 (by decide +kernel) rfl (Nat.le_of_ble_eq_true rfl) ?_
  intro p e s m below meth c ls A hmn F hG hl
  have G := hG
  have hl : lv_has ls 1 [(0, .ref (a 102))] := hl
  obtain ⟨hx, hb, hr, hml, hown, hts, hlocks, hA, hK, hN⟩ := id F
  unfold CJ5_isLatin1_102 at h
  refine st_compact F G dJ5_isLatin1_0 ?_
  refine lv_if_eq (tgt := 17) hx hb dJ5_isLatin1_3 (by decide) (fun c_1 => ?_) (fun c_1 => ?_)
  · replace h := h.1 c_1
    refine lv_iconst (v := 0) hx hb dJ5_isLatin1_17 (by decide) ?_
    exact c_zret rfl F G dJ5_isLatin1_18 h
  · replace h := h.2 c_1
    refine lv_aload_n hx hb dJ5_isLatin1_6 rfl (lv_at hl 0 rfl) ?_
    refine st_coder_102 F G dJ5_isLatin1_7 ?_
    refine lv_if_ne (tgt := 17) hx hb dJ5_isLatin1_10 (by decide) (fun c_2 => ?_) (fun c_2 => ?_)
    · replace h := h.1 c_2
      refine lv_iconst (v := 0) hx hb dJ5_isLatin1_17 (by decide) ?_
      exact c_zret rfl F G dJ5_isLatin1_18 h
    · replace h := h.2 c_2
      refine lv_iconst (v := 1) hx hb dJ5_isLatin1_13 (by decide) ?_
      refine lv_goto (tgt := 18) hx hb dJ5_isLatin1_14 (by decide) ?_
      exact c_zret rfl F G dJ5_isLatin1_18 h
set_option maxHeartbeats 4000000 in
set_option maxRecDepth 100000 in
theorem kJ5_CJ5_isLatin1_102 {p : Program} {l : Launch} {e : Env} {s : State} {m : MethodId} {R : Room} {args : Array Value} {below : List Frame} {meth : Method} {c : Code} {D : va_G} {a : Nat → Nat} {d : Nat → ClassId} {A : Nat → Prop} {Q : State → Prop} {cc : ByteArray} {nL pc cells slots : Nat} {ret : Option FieldType} {ls : Array Slot} {rest : List Value}  {S : CS} {H : Heap} {locs : List Loc} {Q1 : Int32 → CS → Prop} (F : FC p s m meth c args D a d A RJ5 cc nL ret) (G : GC D a d A s.heap S H locs) (hsz : ls.size = nL) (hR : rmJ5_isLatin1_102.frames + 1 ≤ R.frames ∧ 8 + (1 + 11) + rmJ5_isLatin1_102.locals ≤ R.locals) (hc : cells + 0 ≤ R.cells ∧ slots + 0 ≤ R.slots) (hW : (rest.map fun v => v.category).sum ≤ 8) (hd : decode cc pc = .ok (.invokevirtual 492, 3)) (h : CJ5_isLatin1_102  S Q1) (k : ∀ (r : Int32) (S1 : CS) (H : Heap) (locs : List Loc), GC D a d A s.heap S1 H locs → Q1 r S1 → W p l e R s m args below meth c H locs cells slots Q (F0 m (pc + 3) ls (.int r :: rest))) : W p l e R s m args below meth c H locs cells slots Q (F0 m pc ls (.ref (a 102) :: rest)) := by
  obtain ⟨hx, hb, hr, hml, hown, hts, hlocks, hA, hK, hN⟩ := id F
  exact c_calli F G (va_runV (As := []) (rest := rest) ⟨hx, hb, hml, hown, hts⟩ (wCJ5_isLatin1_102 H.size  S Q1 h) (cwV 0 hts (lw_V q414 q415 q416 q99 q417) rfl rfl rfl (by decide +kernel) hR) ⟨PC_blind, st_recv_102 F G, c_pre F G⟩ rfl rfl hsz rfl (lv_room hW) hd hc) k
/-! java/lang/StringLatin1.charAt -/
def CJ7_charAt_112 (v1 : Int32) (S : CS) (Q : Int32 → CS → Prop) : Prop := CJ5_checkIndex v1 (4 : Int32) S (fun S_2 => vp_in v1 4 ∧ (narrow .char (.int (((((sby 2).getD v1.toNatClampNeg 0) &&& 255).toUInt32 % 65536).toInt32)) = .int (((((sby 2).getD v1.toNatClampNeg 0) &&& 255).toUInt32 % 65536).toInt32) ∧ Q (((((sby 2).getD v1.toNatClampNeg 0) &&& 255).toUInt32 % 65536).toInt32) S_2))
abbrev rmJ7_charAt_112 : Room := { frames := 2, cells := 0, slots := 0, locals := 43 }
set_option maxHeartbeats 4000000 in
set_option maxRecDepth 100000 in
theorem wCJ7_charAt_112 {l : Launch} {D : va_G} {a : Nat → Nat} {d : Nat → ClassId} (sz : Nat) (v1 : Int32) (S : CS) (Q : Int32 → CS → Prop) (h : CJ7_charAt_112 v1 S Q) : CMi l D a d yJ7_charAt cJ7_charAt 2 .char rmJ7_charAt_112 0 0 [.ref (a 112), .int v1] sz S Q := by
  refine c_enterF (Qc := fun A => va_Qi Q (BC D a d A) A) RJ7 (by decide +kernel) rfl (Nat.le_of_ble_eq_true rfl) ?_
  intro p e s m below meth c ls A hmn F hG hl
  have G := hG
  have hl : lv_has ls 2 [(0, .ref (a 112)), (1, .int v1)] := hl
  obtain ⟨hx, hb, hr, hml, hown, hts, hlocks, hA, hK, hN⟩ := id F
  unfold CJ7_charAt_112 at h
  refine lv_iload_n hx hb dJ7_charAt_0 rfl (lv_at hl 1 rfl) ?_
  refine lv_aload_n hx hb dJ7_charAt_1 rfl (lv_at hl 0 rfl) ?_
  refine st_len_112 F G dJ7_charAt_2 ?_
  refine kJ7_CJ5_checkIndex F G hl.1 ⟨(Nat.le_of_ble_eq_true rfl), (Nat.le_of_ble_eq_true rfl)⟩ ⟨(Nat.le_of_ble_eq_true rfl), (Nat.le_of_ble_eq_true rfl)⟩ (Nat.le_of_ble_eq_true rfl) dJ7_charAt_3 h (fun S_2 H locs G h => ?_)
  refine lv_aload_n hx hb dJ7_charAt_6 rfl (lv_at hl 0 rfl) ?_
  refine lv_iload_n hx hb dJ7_charAt_7 rfl (lv_at hl 1 rfl) ?_
  obtain ⟨b_3, h⟩ := h
  refine st_byte_112 F G b_3 dJ7_charAt_8 ?_
  refine lv_sipush (v := 255) hx hb dJ7_charAt_9 (by decide) ?_
  refine lv_iand hx hb dJ7_charAt_12 ?_
  refine lv_i2c (v := ((((sby 2).getD v1.toNatClampNeg 0) &&& 255).toUInt32 % 65536).toInt32) hx hb dJ7_charAt_13 rfl ?_
  exact c_nret h.1 F G dJ7_charAt_14 h.2
set_option maxHeartbeats 4000000 in
set_option maxRecDepth 100000 in
theorem kJ5_CJ7_charAt_112 {p : Program} {l : Launch} {e : Env} {s : State} {m : MethodId} {R : Room} {args : Array Value} {below : List Frame} {meth : Method} {c : Code} {D : va_G} {a : Nat → Nat} {d : Nat → ClassId} {A : Nat → Prop} {Q : State → Prop} {cc : ByteArray} {nL pc cells slots : Nat} {ret : Option FieldType} {ls : Array Slot} {rest : List Value} {v1 : Int32} {S : CS} {H : Heap} {locs : List Loc} {Q1 : Int32 → CS → Prop} (F : FC p s m meth c args D a d A RJ5 cc nL ret) (G : GC D a d A s.heap S H locs) (hsz : ls.size = nL) (hR : rmJ7_charAt_112.frames + 1 ≤ R.frames ∧ 8 + (2 + 11) + rmJ7_charAt_112.locals ≤ R.locals) (hc : cells + 0 ≤ R.cells ∧ slots + 0 ≤ R.slots) (hW : (rest.map fun v => v.category).sum ≤ 8) (hd : decode cc pc = .ok (.invokestatic 495, 3)) (h : CJ7_charAt_112 v1 S Q1) (k : ∀ (r : Int32) (S1 : CS) (H : Heap) (locs : List Loc), GC D a d A s.heap S1 H locs → Q1 r S1 → W p l e R s m args below meth c H locs cells slots Q (F0 m (pc + 3) ls (.int r :: rest))) : W p l e R s m args below meth c H locs cells slots Q (F0 m pc ls (.int v1 :: .ref (a 112) :: rest)) := by
  obtain ⟨hx, hb, hr, hml, hown, hts, hlocks, hA, hK, hN⟩ := id F
  exact c_calli F G (va_runS (As := [.ref (a 112), .int v1]) (rest := rest) ⟨hx, hb, hml, hown, hts⟩ (wCJ7_charAt_112 H.size v1 S Q1 h) (va_cwS 2 hts (lw_S q418 q419 q102 q420) rfl rfl rfl (by decide +kernel) hR) ⟨PC_blind, c_pre F G⟩ rfl rfl hsz rfl (lv_room hW) hd hc) k
/-! java/lang/String.charAt -/
def CJ5_charAt_102 (v1 : Int32) (S : CS) (Q : Int32 → CS → Prop) : Prop := CJ5_isLatin1_102  S (fun r_1 S_2 => (r_1 = 0 → False) ∧ (¬ r_1 = 0 → CJ7_charAt_112 v1 S_2 (fun r_4 S_5 => narrow .char (.int r_4) = .int r_4 ∧ Q r_4 S_5)))
abbrev rmJ5_charAt_102 : Room := { frames := 3, cells := 0, slots := 0, locals := 64 }
set_option maxHeartbeats 4000000 in
set_option maxRecDepth 100000 in
theorem wCJ5_charAt_102 {l : Launch} {D : va_G} {a : Nat → Nat} {d : Nat → ClassId} (sz : Nat) (v1 : Int32) (S : CS) (Q : Int32 → CS → Prop) (h : CJ5_charAt_102 v1 S Q) : CMi l D a d yJ5_charAt cJ5_charAt 2 .char rmJ5_charAt_102 0 0 [.ref (a 102), .int v1] sz S Q := by
  refine c_enterF (Qc := fun A => va_Qi Q (BC D a d A) A) RJ5 (by decide +kernel) rfl (Nat.le_of_ble_eq_true rfl) ?_
  intro p e s m below meth c ls A hmn F hG hl
  have G := hG
  have hl : lv_has ls 2 [(0, .ref (a 102)), (1, .int v1)] := hl
  obtain ⟨hx, hb, hr, hml, hown, hts, hlocks, hA, hK, hN⟩ := id F
  unfold CJ5_charAt_102 at h
  refine lv_aload_n hx hb dJ5_charAt_0 rfl (lv_at hl 0 rfl) ?_
  refine kJ5_CJ5_isLatin1_102 F G hl.1 ⟨(Nat.le_of_ble_eq_true rfl), (Nat.le_of_ble_eq_true rfl)⟩ ⟨(Nat.le_of_ble_eq_true rfl), (Nat.le_of_ble_eq_true rfl)⟩ (Nat.le_of_ble_eq_true rfl) dJ5_charAt_1 h (fun r_1 S_2 H locs G h => ?_)
  refine lv_if_eq (tgt := 16) hx hb dJ5_charAt_4 (by decide) (fun c_3 => ?_) (fun c_3 => ?_)
  · replace h := h.1 c_3
    exact h.elim
  · replace h := h.2 c_3
    refine lv_aload_n hx hb dJ5_charAt_7 rfl (lv_at hl 0 rfl) ?_
    refine st_value_102 F G dJ5_charAt_8 ?_
    refine lv_iload_n hx hb dJ5_charAt_11 rfl (lv_at hl 1 rfl) ?_
    refine kJ5_CJ7_charAt_112 F G hl.1 ⟨(Nat.le_of_ble_eq_true rfl), (Nat.le_of_ble_eq_true rfl)⟩ ⟨(Nat.le_of_ble_eq_true rfl), (Nat.le_of_ble_eq_true rfl)⟩ (Nat.le_of_ble_eq_true rfl) dJ5_charAt_12 h (fun r_4 S_5 H locs G h => ?_)
    exact c_nret h.1 F G dJ5_charAt_15 h.2
set_option maxHeartbeats 4000000 in
set_option maxRecDepth 100000 in
theorem kX0_CJ5_charAt_102 {p : Program} {l : Launch} {e : Env} {s : State} {m : MethodId} {R : Room} {args : Array Value} {below : List Frame} {meth : Method} {c : Code} {D : va_G} {a : Nat → Nat} {d : Nat → ClassId} {A : Nat → Prop} {Q : State → Prop} {cc : ByteArray} {nL pc cells slots : Nat} {ret : Option FieldType} {ls : Array Slot} {rest : List Value} {v1 : Int32} {S : CS} {H : Heap} {locs : List Loc} {Q1 : Int32 → CS → Prop} (F : FC p s m meth c args D a d A RX0 cc nL ret) (G : GC D a d A s.heap S H locs) (hsz : ls.size = nL) (hR : rmJ5_charAt_102.frames + 1 ≤ R.frames ∧ 8 + (2 + 11) + rmJ5_charAt_102.locals ≤ R.locals) (hc : cells + 0 ≤ R.cells ∧ slots + 0 ≤ R.slots) (hW : (rest.map fun v => v.category).sum ≤ 8) (hd : decode cc pc = .ok (.invokevirtual 162, 3)) (h : CJ5_charAt_102 v1 S Q1) (k : ∀ (r : Int32) (S1 : CS) (H : Heap) (locs : List Loc), GC D a d A s.heap S1 H locs → Q1 r S1 → W p l e R s m args below meth c H locs cells slots Q (F0 m (pc + 3) ls (.int r :: rest))) : W p l e R s m args below meth c H locs cells slots Q (F0 m pc ls (.int v1 :: .ref (a 102) :: rest)) := by
  obtain ⟨hx, hb, hr, hml, hown, hts, hlocks, hA, hK, hN⟩ := id F
  exact c_calli F G (va_runV (As := [.int v1]) (rest := rest) ⟨hx, hb, hml, hown, hts⟩ (wCJ5_charAt_102 H.size v1 S Q1 h) (cwV 1 hts (lw_V q410 q411 q412 q99 q413) rfl rfl rfl (by decide +kernel) hR) ⟨PC_blind, st_recv_102 F G, c_pre F G⟩ rfl rfl hsz rfl (lv_room hW) hd hc) k
/-! StrokesHeard.isWord -/
def C0_isWord_102_p60 (Q : Int32 → CS → Prop) (K24 : Int32 → Int32 → CS → Prop) (v3 : Int32) (t0 : Int32) (S : CS) : Prop := K24 t0 (v3 + 1) S
def C0_isWord_102_L24 (Q : Int32 → CS → Prop)   : Nat → Int32 → Int32 → CS → Prop
  | 0, _, _, _ => False
  | n + 1, v2, v3, S => CJ5_length_102  S (fun r_4 S_5 => (r_4 ≤ v3 → zb v2 ∧ Q v2 S_5) ∧ (¬ r_4 ≤ v3 → (v2 = 0 → zb v2 ∧ Q v2 S_5) ∧ (¬ v2 = 0 → vp_in ((S_5.1 0 9) + v3) 96 ∧ (CJ5_charAt_102 v3 S_5 (fun r_9 S_10 => (¬ (S_5.1 22 (((S_5.1 0 9) + v3).toNatClampNeg)) = r_9 → C0_isWord_102_p60 Q (fun v2_ v3_ S_ => C0_isWord_102_L24 Q n v2_ v3_ S_) v3 0 S_10) ∧ ((S_5.1 22 (((S_5.1 0 9) + v3).toNatClampNeg)) = r_9 → C0_isWord_102_p60 Q (fun v2_ v3_ S_ => C0_isWord_102_L24 Q n v2_ v3_ S_) v3 1 S_10))))))
def C0_isWord_102_p21 (Q : Int32 → CS → Prop)  (t0 : Int32) (S : CS) : Prop := ∃ k24, C0_isWord_102_L24 Q k24 t0 0 S
def C0_isWord_102  (S : CS) (Q : Int32 → CS → Prop) : Prop := CJ5_length_102  S (fun r_1 S_2 => (¬ ((S.1 0 10) - (S.1 0 9)) = r_1 → C0_isWord_102_p21 Q 0 S_2) ∧ (((S.1 0 10) - (S.1 0 9)) = r_1 → C0_isWord_102_p21 Q 1 S_2))
abbrev rmX0_isWord_102 : Room := { frames := 4, cells := 0, slots := 0, locals := 85 }
set_option maxHeartbeats 4000000 in
set_option maxRecDepth 100000 in
theorem wC0_isWord_102_p60 {p : Program} {l : Launch} {e : Env} {s : State} {m : MethodId} {args : Array Value} {below : List Frame} {meth : Method} {c : Code} {D : va_G} {a : Nat → Nat} {d : Nat → ClassId} {A : Nat → Prop} {Q : Int32 → CS → Prop} {K24 : Int32 → Int32 → CS → Prop} (F : FC p s m meth c args D a d A RX0 cX0_isWord 4 (some .boolean)) (v3 : Int32) (t0 : Int32) (S : CS) (hK24 : ∀ (v2 : Int32) (v3 : Int32) (S : CS) (H : Heap) (locs : List Loc) (ls : Array Slot), GC D a d A s.heap S H locs → lv_has ls 4 [(0, .ref (a 0)), (1, .ref (a 102)), (2, .int v2), (3, .int v3)] → K24 v2 v3 S → wCi p l e rmX0_isWord_102 s m args below meth c D a d A Q 0 0 H locs 0 0 (F0 m 24 ls [])) {H : Heap} {locs : List Loc} {ls : Array Slot} (G : GC D a d A s.heap S H locs) (hl : lv_has ls 4 [(0, .ref (a 0)), (1, .ref (a 102)), (3, .int v3)]) (h : C0_isWord_102_p60 Q K24 v3 t0 S) : wCi p l e rmX0_isWord_102 s m args below meth c D a d A Q 0 0 H locs 0 0 (F0 m 60 ls [.int t0]) := by
  obtain ⟨hx, hb, hr, hml, hown, hts, hlocks, hA, hK, hN⟩ := id F
  unfold C0_isWord_102_p60 at h
  refine lv_istore_n (lv' := [(2, .int t0), (0, .ref (a 0)), (1, .ref (a 102)), (3, .int v3)]) hx hb dX0_isWord_60 rfl hl (by decide) rfl (fun ls hl => ?_)
  refine lv_iinc (v := (v3 + 1)) (lv' := [(3, .int (v3 + 1)), (2, .int t0), (0, .ref (a 0)), (1, .ref (a 102))]) hx hb dX0_isWord_61 hl (k := 3) rfl rfl (by decide) rfl (fun ls hl => ?_)
  refine lv_goto (tgt := 24) hx hb dX0_isWord_64 (by decide) ?_
  exact hK24 t0 (v3 + 1) S _ _ _ G (lv_sub hl [2, 3, 1, 0] rfl) h
set_option maxHeartbeats 4000000 in
set_option maxRecDepth 100000 in
theorem wC0_isWord_102_L24 {p : Program} {l : Launch} {e : Env} {s : State} {m : MethodId} {args : Array Value} {below : List Frame} {meth : Method} {c : Code} {D : va_G} {a : Nat → Nat} {d : Nat → ClassId} {A : Nat → Prop} {Q : Int32 → CS → Prop}  (F : FC p s m meth c args D a d A RX0 cX0_isWord 4 (some .boolean))   :
    ∀ (n : Nat) (v2 : Int32) (v3 : Int32) (S : CS) (H : Heap) (locs : List Loc) (ls : Array Slot), GC D a d A s.heap S H locs → lv_has ls 4 [(0, .ref (a 0)), (1, .ref (a 102)), (2, .int v2), (3, .int v3)] → C0_isWord_102_L24 Q n v2 v3 S → wCi p l e rmX0_isWord_102 s m args below meth c D a d A Q 0 0 H locs 0 0 (F0 m 24 ls []) := by
  obtain ⟨hx, hb, hr, hml, hown, hts, hlocks, hA, hK, hN⟩ := id F
  intro n
  induction n with
  | zero => intro v2 v3 S H locs ls G hl h; exact absurd h (fun q => q)
  | succ n ih =>
    intro v2 v3 S H locs ls G hl h
    unfold C0_isWord_102_L24 at h
    refine lv_iload_n hx hb dX0_isWord_24 rfl (lv_at hl 3 rfl) ?_
    refine lv_aload_n hx hb dX0_isWord_25 rfl (lv_at hl 1 rfl) ?_
    refine kX0_CJ5_length_102 F G hl.1 ⟨(Nat.le_of_ble_eq_true rfl), (Nat.le_of_ble_eq_true rfl)⟩ ⟨(Nat.le_of_ble_eq_true rfl), (Nat.le_of_ble_eq_true rfl)⟩ (Nat.le_of_ble_eq_true rfl) dX0_isWord_26 h (fun r_4 S_5 H locs G h => ?_)
    refine lv_icmp_ge (tgt := 67) hx hb dX0_isWord_29 (by decide) (fun c_6 => ?_) (fun c_6 => ?_)
    · replace h := h.1 c_6
      refine lv_iload_n hx hb dX0_isWord_67 rfl (lv_at hl 2 rfl) ?_
      exact c_zret h.1 F G dX0_isWord_68 h.2
    · replace h := h.2 c_6
      refine lv_iload_n hx hb dX0_isWord_32 rfl (lv_at hl 2 rfl) ?_
      refine lv_if_eq (tgt := 67) hx hb dX0_isWord_33 (by decide) (fun c_7 => ?_) (fun c_7 => ?_)
      · replace h := h.1 c_7
        refine lv_iload_n hx hb dX0_isWord_67 rfl (lv_at hl 2 rfl) ?_
        exact c_zret h.1 F G dX0_isWord_68 h.2
      · replace h := h.2 c_7
        refine lv_aload_n hx hb dX0_isWord_36 rfl (lv_at hl 0 rfl) ?_
        refine cgX0_0_tape F G dX0_isWord_37 ?_
        refine lv_aload_n hx hb dX0_isWord_40 rfl (lv_at hl 0 rfl) ?_
        refine cgX0_0_from F G dX0_isWord_41 ?_
        refine lv_iload_n hx hb dX0_isWord_44 rfl (lv_at hl 3 rfl) ?_
        refine lv_iadd hx hb dX0_isWord_45 ?_
        obtain ⟨b_8, h⟩ := h
        refine c_baload F G cI_22 b_8 dX0_isWord_46 ?_
        refine lv_aload_n hx hb dX0_isWord_47 rfl (lv_at hl 1 rfl) ?_
        refine lv_iload_n hx hb dX0_isWord_48 rfl (lv_at hl 3 rfl) ?_
        refine kX0_CJ5_charAt_102 F G hl.1 ⟨(Nat.le_of_ble_eq_true rfl), (Nat.le_of_ble_eq_true rfl)⟩ ⟨(Nat.le_of_ble_eq_true rfl), (Nat.le_of_ble_eq_true rfl)⟩ (Nat.le_of_ble_eq_true rfl) dX0_isWord_49 h (fun r_9 S_10 H locs G h => ?_)
        refine lv_icmp_ne (tgt := 59) hx hb dX0_isWord_52 (by decide) (fun c_11 => ?_) (fun c_11 => ?_)
        · replace h := h.1 c_11
          refine lv_iconst (v := 0) hx hb dX0_isWord_59 (by decide) ?_
          exact wC0_isWord_102_p60 F v3 0 S_10 ih G (lv_sub hl [0, 1, 3] rfl) h
        · replace h := h.2 c_11
          refine lv_iconst (v := 1) hx hb dX0_isWord_55 (by decide) ?_
          refine lv_goto (tgt := 60) hx hb dX0_isWord_56 (by decide) ?_
          exact wC0_isWord_102_p60 F v3 1 S_10 ih G (lv_sub hl [0, 1, 3] rfl) h
set_option maxHeartbeats 4000000 in
set_option maxRecDepth 100000 in
theorem wC0_isWord_102_p21 {p : Program} {l : Launch} {e : Env} {s : State} {m : MethodId} {args : Array Value} {below : List Frame} {meth : Method} {c : Code} {D : va_G} {a : Nat → Nat} {d : Nat → ClassId} {A : Nat → Prop} {Q : Int32 → CS → Prop}  (F : FC p s m meth c args D a d A RX0 cX0_isWord 4 (some .boolean)) (t0 : Int32) (S : CS)  {H : Heap} {locs : List Loc} {ls : Array Slot} (G : GC D a d A s.heap S H locs) (hl : lv_has ls 4 [(0, .ref (a 0)), (1, .ref (a 102))]) (h : C0_isWord_102_p21 Q t0 S) : wCi p l e rmX0_isWord_102 s m args below meth c D a d A Q 0 0 H locs 0 0 (F0 m 21 ls [.int t0]) := by
  obtain ⟨hx, hb, hr, hml, hown, hts, hlocks, hA, hK, hN⟩ := id F
  unfold C0_isWord_102_p21 at h
  refine lv_istore_n (lv' := [(2, .int t0), (0, .ref (a 0)), (1, .ref (a 102))]) hx hb dX0_isWord_21 rfl hl (by decide) rfl (fun ls hl => ?_)
  refine lv_iconst (v := 0) hx hb dX0_isWord_22 (by decide) ?_
  refine lv_istore_n (lv' := [(3, .int 0), (2, .int t0), (0, .ref (a 0)), (1, .ref (a 102))]) hx hb dX0_isWord_23 rfl hl (by decide) rfl (fun ls hl => ?_)
  obtain ⟨k24, h⟩ := h
  exact wC0_isWord_102_L24 F   k24 t0 0 S _ _ _ G (lv_sub hl [2, 3, 1, 0] rfl) h
set_option maxHeartbeats 4000000 in
set_option maxRecDepth 100000 in
theorem wC0_isWord_102 {l : Launch} {D : va_G} {a : Nat → Nat} {d : Nat → ClassId} (sz : Nat)  (S : CS) (Q : Int32 → CS → Prop) (h : C0_isWord_102  S Q) : CMi l D a d yX0_isWord cX0_isWord 4 .boolean rmX0_isWord_102 0 0 [.ref (a 0), .ref (a 102)] sz S Q := by
  refine c_enter (Qc := fun A => va_Qi Q (BC D a d A) A) RX0 (by decide +kernel) rfl (Nat.le_of_ble_eq_true rfl) ?_
  intro p e s m below meth c ls A hmn F hG hl
  have G := hG
  have hl : lv_has ls 4 [(0, .ref (a 0)), (1, .ref (a 102))] := hl
  obtain ⟨hx, hb, hr, hml, hown, hts, hlocks, hA, hK, hN⟩ := id F
  unfold C0_isWord_102 at h
  refine lv_aload_n hx hb dX0_isWord_0 rfl (lv_at hl 0 rfl) ?_
  refine cgX0_0_to F G dX0_isWord_1 ?_
  refine lv_aload_n hx hb dX0_isWord_4 rfl (lv_at hl 0 rfl) ?_
  refine cgX0_0_from F G dX0_isWord_5 ?_
  refine lv_isub hx hb dX0_isWord_8 ?_
  refine lv_aload_n hx hb dX0_isWord_9 rfl (lv_at hl 1 rfl) ?_
  refine kX0_CJ5_length_102 F G hl.1 ⟨(Nat.le_of_ble_eq_true rfl), (Nat.le_of_ble_eq_true rfl)⟩ ⟨(Nat.le_of_ble_eq_true rfl), (Nat.le_of_ble_eq_true rfl)⟩ (Nat.le_of_ble_eq_true rfl) dX0_isWord_10 h (fun r_1 S_2 H locs G h => ?_)
  refine lv_icmp_ne (tgt := 20) hx hb dX0_isWord_13 (by decide) (fun c_3 => ?_) (fun c_3 => ?_)
  · replace h := h.1 c_3
    refine lv_iconst (v := 0) hx hb dX0_isWord_20 (by decide) ?_
    exact wC0_isWord_102_p21 F 0 S_2  G (lv_sub hl [0, 1] rfl) h
  · replace h := h.2 c_3
    refine lv_iconst (v := 1) hx hb dX0_isWord_16 (by decide) ?_
    refine lv_goto (tgt := 21) hx hb dX0_isWord_17 (by decide) ?_
    exact wC0_isWord_102_p21 F 1 S_2  G (lv_sub hl [0, 1] rfl) h
set_option maxHeartbeats 4000000 in
set_option maxRecDepth 100000 in
theorem kX0_C0_isWord_102 {p : Program} {l : Launch} {e : Env} {s : State} {m : MethodId} {R : Room} {args : Array Value} {below : List Frame} {meth : Method} {c : Code} {D : va_G} {a : Nat → Nat} {d : Nat → ClassId} {A : Nat → Prop} {Q : State → Prop} {cc : ByteArray} {nL pc cells slots : Nat} {ret : Option FieldType} {ls : Array Slot} {rest : List Value}  {S : CS} {H : Heap} {locs : List Loc} {Q1 : Int32 → CS → Prop} (F : FC p s m meth c args D a d A RX0 cc nL ret) (G : GC D a d A s.heap S H locs) (hsz : ls.size = nL) (hR : rmX0_isWord_102.frames + 1 ≤ R.frames ∧ 8 + (4 + 11) + rmX0_isWord_102.locals ≤ R.locals) (hc : cells + 0 ≤ R.cells ∧ slots + 0 ≤ R.slots) (hW : (rest.map fun v => v.category).sum ≤ 8) (hd : decode cc pc = .ok (.invokevirtual 216, 3)) (h : C0_isWord_102  S Q1) (k : ∀ (r : Int32) (S1 : CS) (H : Heap) (locs : List Loc), GC D a d A s.heap S1 H locs → Q1 r S1 → W p l e R s m args below meth c H locs cells slots Q (F0 m (pc + 3) ls (.int r :: rest))) : W p l e R s m args below meth c H locs cells slots Q (F0 m pc ls (.ref (a 102) :: .ref (a 0) :: rest)) := by
  obtain ⟨hx, hb, hr, hml, hown, hts, hlocks, hA, hK, hN⟩ := id F
  exact c_calli F G (va_runV (As := [.ref (a 102)]) (rest := rest) ⟨hx, hb, hml, hown, hts⟩ (wC0_isWord_102 H.size  S Q1 h) (cwV 1 hts (lw_V q396 q398 qs6 q82 q399) rfl rfl rfl (by decide +kernel) hR) ⟨PC_blind, va_recv hK G.1 (ci := 0) (q0 := 0) rfl rfl, c_pre F G⟩ rfl rfl hsz rfl (lv_room hW) hd hc) k
/-! StrokesHeard.key -/
def C0_key_p50 (Q : Int32 → CS → Prop) (E : Nat → CS → Prop)  (v1 : Int32) (S : CS) : Prop := C0_goes  S (fun S_14 => Q v1 S_14) E
def C0_key_p40 (Q : Int32 → CS → Prop) (E : Nat → CS → Prop)  (t0 : Int32) (S : CS) : Prop := (¬ t0 = (-1) → C0_key_p50 Q E t0 S) ∧ (t0 = (-1) → C0_wrong  S (fun S_12 => C0_key_p50 Q E t0 S_12) E)
def C0_key  (S : CS) (Q : Int32 → CS → Prop) (E : Nat → CS → Prop) : Prop := C0_isWord_100  S (fun r_1 S_2 => (r_1 = 0 → C0_isWord_101  S_2 (fun r_4 S_5 => (r_4 = 0 → C0_isWord_102  S_5 (fun r_7 S_8 => (r_7 = 0 → C0_key_p40 Q E (-1) S_8) ∧ (¬ r_7 = 0 → C0_key_p40 Q E 2 S_8))) ∧ (¬ r_4 = 0 → C0_key_p40 Q E 1 S_5))) ∧ (¬ r_1 = 0 → C0_key_p40 Q E 0 S_2))
abbrev rmX0_key : Room := { frames := 5, cells := 0, slots := 0, locals := 108 }
set_option maxHeartbeats 4000000 in
set_option maxRecDepth 100000 in
theorem wC0_key_p50 {p : Program} {l : Launch} {e : Env} {s : State} {m : MethodId} {args : Array Value} {below : List Frame} {meth : Method} {c : Code} {D : va_G} {a : Nat → Nat} {d : Nat → ClassId} {A : Nat → Prop} {Q : Int32 → CS → Prop} {E : Nat → CS → Prop}  (Ft : FT p s m meth c args D a d A RX0 cX0_key 2 (some .int)) (v1 : Int32) (S : CS)  {H : Heap} {locs : List Loc} {ls : Array Slot} (G : GC D a d A s.heap S H locs) (hl : lv_has ls 2 [(0, .ref (a 0)), (1, .int v1)]) (h : C0_key_p50 Q E v1 S) : wTi p l e rmX0_key s m args below meth c D a d A Q E 0 0 H locs 0 0 (F0 m 50 ls []) := by
  have F := Ft.1
  obtain ⟨hx, hb, hr, hml, hown, hts, hlocks, hA, hK, hN⟩ := id F
  unfold C0_key_p50 at h
  refine lv_aload_n hx hb dX0_key_50 rfl (lv_at hl 0 rfl) ?_
  refine kX0_C0_goes F G hl.1 ⟨(Nat.le_of_ble_eq_true rfl), (Nat.le_of_ble_eq_true rfl)⟩ ⟨(Nat.le_of_ble_eq_true rfl), (Nat.le_of_ble_eq_true rfl)⟩ (Nat.le_of_ble_eq_true rfl) dX0_key_51 h (fun S_14 H locs G h => ?_) (fun z S1 H locs G h => WX.widen (k := 0) (n := 0) (Nat.le_of_ble_eq_true rfl) (Nat.le_of_ble_eq_true rfl) (t_outi Ft G h))
  refine lv_iload_n hx hb dX0_key_54 rfl (lv_at hl 1 rfl) ?_
  exact t_iret Ft G dX0_key_55 h
set_option maxHeartbeats 4000000 in
set_option maxRecDepth 100000 in
theorem wC0_key_p40 {p : Program} {l : Launch} {e : Env} {s : State} {m : MethodId} {args : Array Value} {below : List Frame} {meth : Method} {c : Code} {D : va_G} {a : Nat → Nat} {d : Nat → ClassId} {A : Nat → Prop} {Q : Int32 → CS → Prop} {E : Nat → CS → Prop}  (Ft : FT p s m meth c args D a d A RX0 cX0_key 2 (some .int)) (t0 : Int32) (S : CS)  {H : Heap} {locs : List Loc} {ls : Array Slot} (G : GC D a d A s.heap S H locs) (hl : lv_has ls 2 [(0, .ref (a 0))]) (h : C0_key_p40 Q E t0 S) : wTi p l e rmX0_key s m args below meth c D a d A Q E 0 0 H locs 0 0 (F0 m 40 ls [.int t0]) := by
  have F := Ft.1
  obtain ⟨hx, hb, hr, hml, hown, hts, hlocks, hA, hK, hN⟩ := id F
  unfold C0_key_p40 at h
  refine lv_istore_n (lv' := [(1, .int t0), (0, .ref (a 0))]) hx hb dX0_key_40 rfl hl (by decide) rfl (fun ls hl => ?_)
  refine lv_iload_n hx hb dX0_key_41 rfl (lv_at hl 0 rfl) ?_
  refine lv_iconst (v := (-1)) hx hb dX0_key_42 (by decide) ?_
  refine lv_icmp_ne (tgt := 50) hx hb dX0_key_43 (by decide) (fun c_10 => ?_) (fun c_10 => ?_)
  · replace h := h.1 c_10
    exact wC0_key_p50 Ft t0 S  G (lv_sub hl [1, 0] rfl) h
  · replace h := h.2 c_10
    refine lv_aload_n hx hb dX0_key_46 rfl (lv_at hl 1 rfl) ?_
    refine kX0_C0_wrong F G hl.1 ⟨(Nat.le_of_ble_eq_true rfl), (Nat.le_of_ble_eq_true rfl)⟩ ⟨(Nat.le_of_ble_eq_true rfl), (Nat.le_of_ble_eq_true rfl)⟩ (Nat.le_of_ble_eq_true rfl) dX0_key_47 h (fun S_12 H locs G h => ?_) (fun z S1 H locs G h => WX.widen (k := 0) (n := 0) (Nat.le_of_ble_eq_true rfl) (Nat.le_of_ble_eq_true rfl) (t_outi Ft G h))
    exact wC0_key_p50 Ft t0 S_12  G (lv_sub hl [1, 0] rfl) h
set_option maxHeartbeats 4000000 in
set_option maxRecDepth 100000 in
theorem wC0_key {l : Launch} {D : va_G} {a : Nat → Nat} {d : Nat → ClassId} (sz : Nat)  (S : CS) (Q : Int32 → CS → Prop) (E : Nat → CS → Prop) (h : C0_key  S Q E) : CTi l D a d yX0_key cX0_key 2 .int rmX0_key 0 0 [.ref (a 0)] sz S Q E := by
  refine t_enter (Qc := fun A => QTi Q E (BC D a d A) A) RX0 (by decide +kernel) rfl (Nat.le_of_ble_eq_true rfl) ?_
  intro p e s m below meth c ls A Ft hG hl
  have G := hG
  have hl : lv_has ls 2 [(0, .ref (a 0))] := hl
  have F := Ft.1
  obtain ⟨hx, hb, hr, hml, hown, hts, hlocks, hA, hK, hN⟩ := id F
  unfold C0_key at h
  refine lv_aload_n hx hb dX0_key_0 rfl (lv_at hl 0 rfl) ?_
  refine st_ldc_100 F G dX0_key_1 ?_
  refine kX0_C0_isWord_100 F G hl.1 ⟨(Nat.le_of_ble_eq_true rfl), (Nat.le_of_ble_eq_true rfl)⟩ ⟨(Nat.le_of_ble_eq_true rfl), (Nat.le_of_ble_eq_true rfl)⟩ (Nat.le_of_ble_eq_true rfl) dX0_key_3 h (fun r_1 S_2 H locs G h => ?_)
  refine lv_if_eq (tgt := 13) hx hb dX0_key_6 (by decide) (fun c_3 => ?_) (fun c_3 => ?_)
  · replace h := h.1 c_3
    refine lv_aload_n hx hb dX0_key_13 rfl (lv_at hl 0 rfl) ?_
    refine st_ldc_101 F G dX0_key_14 ?_
    refine kX0_C0_isWord_101 F G hl.1 ⟨(Nat.le_of_ble_eq_true rfl), (Nat.le_of_ble_eq_true rfl)⟩ ⟨(Nat.le_of_ble_eq_true rfl), (Nat.le_of_ble_eq_true rfl)⟩ (Nat.le_of_ble_eq_true rfl) dX0_key_16 h (fun r_4 S_5 H locs G h => ?_)
    refine lv_if_eq (tgt := 26) hx hb dX0_key_19 (by decide) (fun c_6 => ?_) (fun c_6 => ?_)
    · replace h := h.1 c_6
      refine lv_aload_n hx hb dX0_key_26 rfl (lv_at hl 0 rfl) ?_
      refine st_ldc_102 F G dX0_key_27 ?_
      refine kX0_C0_isWord_102 F G hl.1 ⟨(Nat.le_of_ble_eq_true rfl), (Nat.le_of_ble_eq_true rfl)⟩ ⟨(Nat.le_of_ble_eq_true rfl), (Nat.le_of_ble_eq_true rfl)⟩ (Nat.le_of_ble_eq_true rfl) dX0_key_29 h (fun r_7 S_8 H locs G h => ?_)
      refine lv_if_eq (tgt := 39) hx hb dX0_key_32 (by decide) (fun c_9 => ?_) (fun c_9 => ?_)
      · replace h := h.1 c_9
        refine lv_iconst (v := (-1)) hx hb dX0_key_39 (by decide) ?_
        exact wC0_key_p40 Ft (-1) S_8  G (lv_sub hl [0] rfl) h
      · replace h := h.2 c_9
        refine lv_iconst (v := 2) hx hb dX0_key_35 (by decide) ?_
        refine lv_goto (tgt := 40) hx hb dX0_key_36 (by decide) ?_
        exact wC0_key_p40 Ft 2 S_8  G (lv_sub hl [0] rfl) h
    · replace h := h.2 c_6
      refine lv_iconst (v := 1) hx hb dX0_key_22 (by decide) ?_
      refine lv_goto (tgt := 40) hx hb dX0_key_23 (by decide) ?_
      exact wC0_key_p40 Ft 1 S_5  G (lv_sub hl [0] rfl) h
  · replace h := h.2 c_3
    refine lv_iconst (v := 0) hx hb dX0_key_9 (by decide) ?_
    refine lv_goto (tgt := 40) hx hb dX0_key_10 (by decide) ?_
    exact wC0_key_p40 Ft 0 S_2  G (lv_sub hl [0] rfl) h
set_option maxHeartbeats 4000000 in
set_option maxRecDepth 100000 in
theorem kX0_C0_key {p : Program} {l : Launch} {e : Env} {s : State} {m : MethodId} {R : Room} {args : Array Value} {below : List Frame} {meth : Method} {c : Code} {D : va_G} {a : Nat → Nat} {d : Nat → ClassId} {A : Nat → Prop} {Q : State → Prop} {cc : ByteArray} {nL pc cells slots : Nat} {ret : Option FieldType} {ls : Array Slot} {rest : List Value}  {S : CS} {H : Heap} {locs : List Loc} {Q1 : Int32 → CS → Prop} {E1 : Nat → CS → Prop} (F : FC p s m meth c args D a d A RX0 cc nL ret) (G : GC D a d A s.heap S H locs) (hsz : ls.size = nL) (hR : rmX0_key.frames + 1 ≤ R.frames ∧ 8 + (2 + 11) + rmX0_key.locals ≤ R.locals) (hc : cells + 0 ≤ R.cells ∧ slots + 0 ≤ R.slots) (hW : (rest.map fun v => v.category).sum ≤ 8) (hd : decode cc pc = .ok (.invokevirtual 224, 3)) (h : C0_key  S Q1 E1) (k : ∀ (r : Int32) (S1 : CS) (H : Heap) (locs : List Loc), GC D a d A s.heap S1 H locs → Q1 r S1 → W p l e R s m args below meth c H locs cells slots Q (F0 m (pc + 3) ls (.int r :: rest))) (kx : ∀ (z : Nat) (S1 : CS) (H : Heap) (locs : List Loc), GC D a d A s.heap S1 H locs → E1 z S1 → WX p l e R s m args below meth c H locs cells slots Q (F0 m pc ls rest) z) : W p l e R s m args below meth c H locs cells slots Q (F0 m pc ls (.ref (a 0) :: rest)) := by
  obtain ⟨hx, hb, hr, hml, hown, hts, hlocks, hA, hK, hN⟩ := id F
  exact t_callVi (n := 0) (As := []) F G hsz (wC0_key H.size  S Q1 E1 h) q391 q393 qs5 q82 q394 (va_recv hK G.1 (ci := 0) (q0 := 0) rfl rfl) (by decide +kernel) rfl rfl rfl rfl hR hc hW hd k kx
set_option maxHeartbeats 4000000 in
set_option maxRecDepth 100000 in
theorem kX0_C0_expression {p : Program} {l : Launch} {e : Env} {s : State} {m : MethodId} {R : Room} {args : Array Value} {below : List Frame} {meth : Method} {c : Code} {D : va_G} {a : Nat → Nat} {d : Nat → ClassId} {A : Nat → Prop} {Q : State → Prop} {cc : ByteArray} {nL pc cells slots : Nat} {ret : Option FieldType} {ls : Array Slot} {rest : List Value}  {S : CS} {H : Heap} {locs : List Loc} {Q1 : Nat → CS → Prop} {E1 : Nat → CS → Prop} (F : FC p s m meth c args D a d A RX0 cc nL ret) (G : GC D a d A s.heap S H locs) (hsz : ls.size = nL) (hR : rmX0_expression.frames + 1 ≤ R.frames ∧ 8 + (2 + 11) + rmX0_expression.locals ≤ R.locals) (hc : cells + 3 ≤ R.cells ∧ slots + 195 ≤ R.slots) (hW : (rest.map fun v => v.category).sum ≤ 8) (hd : decode cc pc = .ok (.invokevirtual 227, 3)) (h : C0_expression  S Q1 E1) (k : ∀ (r : Nat) (S1 : CS) (H : Heap) (locs : List Loc), GC D a d A s.heap S1 H locs → Q1 r S1 → W p l e R s m args below meth c H locs (cells + 3) (slots + 195) Q (F0 m (pc + 3) ls (.ref r :: rest))) (kx : ∀ (z : Nat) (S1 : CS) (H : Heap) (locs : List Loc), GC D a d A s.heap S1 H locs → E1 z S1 → WX p l e R s m args below meth c H locs (cells + 3) (slots + 195) Q (F0 m pc ls rest) z) : W p l e R s m args below meth c H locs cells slots Q (F0 m pc ls (.ref (a 0) :: rest)) := by
  obtain ⟨hx, hb, hr, hml, hown, hts, hlocks, hA, hK, hN⟩ := id F
  exact t_callVr (n := 0) (As := []) F G hsz (wC0_expression H.size  S Q1 E1 h) q450 q452 qs7 q82 q453 (va_recv hK G.1 (ci := 0) (q0 := 0) rfl rfl) (by decide +kernel) rfl rfl rfl rfl hR hc hW hd k kx
set_option maxHeartbeats 4000000 in
set_option maxRecDepth 100000 in
theorem kX0_C13_init {p : Program} {l : Launch} {e : Env} {s : State} {m : MethodId} {R : Room} {args : Array Value} {below : List Frame} {meth : Method} {c : Code} {D : va_G} {a : Nat → Nat} {d : Nat → ClassId} {A : Nat → Prop} {Q : State → Prop} {cc : ByteArray} {nL pc cells slots : Nat} {ret : Option FieldType} {ls : Array Slot} {rest : List Value} {y0 : Nat} {v1 : Int32} {y2 : Nat} {v3 : Int32} {S : CS} {H : Heap} {locs : List Loc} {Q1 : CS → Prop} (F : FC p s m meth c args D a d A RX0 cc nL ret) (G : GC D a d A s.heap S H locs) (hsz : ls.size = nL) (hR : rmX13_init.frames + 1 ≤ R.frames ∧ 8 + (4 + 11) + rmX13_init.locals ≤ R.locals) (hc : cells + 0 ≤ R.cells ∧ slots + 0 ≤ R.slots) (hW : (rest.map fun v => v.category).sum ≤ 8) (hd : decode cc pc = .ok (.invokespecial 233, 3)) (h : C13_init y0 v1 y2 v3 S Q1) (k : ∀ (S1 : CS) (H : Heap) (locs : List Loc), GC D a d A s.heap S1 H locs → Q1 S1 → W p l e R s m args below meth c H locs cells slots Q (F0 m (pc + 3) ls rest)) : W p l e R s m args below meth c H locs cells slots Q (F0 m pc ls (.int v3 :: .ref y2 :: .int v1 :: .ref y0 :: rest)) := by
  obtain ⟨hx, hb, hr, hml, hown, hts, hlocks, hA, hK, hN⟩ := id F
  exact c_callv F G (va_runI (As := [.int v1, .ref y2, .int v3]) (rest := rest) ⟨hx, hb, hml, hown, hts⟩ (wC13_init H.size y0 v1 y2 v3 S Q1 h) (cwI 3 hts (lw_meth q517) rfl rfl rfl (hts _ q106) (hts _ q515) (hts _ q516) rfl (by decide +kernel) hR) ⟨PC_blind, c_pre F G⟩ rfl rfl hsz rfl (lv_room hW) hd hc) k
/-! StrokesHeard.textRead -/
def C0_textRead_p60 (Q : Nat → CS → Prop) (E : Nat → CS → Prop)  (y1 : Nat) (S : CS) : Prop := ∀ y_10 : Nat, y_10 ∉ S.2.2.1 → C13_init y_10 ((cN S y_10 (.inr (13, [.int 0, .null, .int 0]))).1 0 15) y1 ((cN S y_10 (.inr (13, [.int 0, .null, .int 0]))).1 0 14) (cN S y_10 (.inr (13, [.int 0, .null, .int 0]))) (fun S_13 => Q y_10 S_13)
def C0_textRead  (S : CS) (Q : Nat → CS → Prop) (E : Nat → CS → Prop) : Prop := C0_goes  (cF (cF (cF (cF (cF S 0 11 (S.1 0 7)) 0 10 0) 0 12 0) 0 13 0) 0 14 0) (fun S_2 => C0_key  S_2 (fun r_3 S_4 => C0_expression  (cF S_4 0 15 r_3) (fun y_5 S_6 => ((S_6.1 0 11) ≤ (S_6.1 0 9) → C0_textRead_p60 Q E y_5 S_6) ∧ (¬ (S_6.1 0 11) ≤ (S_6.1 0 9) → C0_wrong  S_6 (fun S_9 => C0_textRead_p60 Q E y_5 S_9) E)) E) E) E
abbrev rmX0_textRead : Room := { frames := 86, cells := 4, slots := 198, locals := 1890 }
set_option maxHeartbeats 4000000 in
set_option maxRecDepth 100000 in
theorem wC0_textRead_p60 {p : Program} {l : Launch} {e : Env} {s : State} {m : MethodId} {args : Array Value} {below : List Frame} {meth : Method} {c : Code} {D : va_G} {a : Nat → Nat} {d : Nat → ClassId} {A : Nat → Prop} {Q : Nat → CS → Prop} {E : Nat → CS → Prop}  (Ft : FT p s m meth c args D a d A RX0 cX0_textRead 2 (some (.object "StrokesHeard$Text"))) (y1 : Nat) (S : CS)  {H : Heap} {locs : List Loc} {ls : Array Slot} (G : GC D a d A s.heap S H locs) (hl : lv_has ls 2 [(0, .ref (a 0)), (1, .ref y1)]) (h : C0_textRead_p60 Q E y1 S) : wTr p l e rmX0_textRead s m args below meth c D a d A Q E 4 198 H locs 3 195 (F0 m 60 ls []) := by
  have F := Ft.1
  obtain ⟨hx, hb, hr, hml, hown, hts, hlocks, hA, hK, hN⟩ := id F
  unfold C0_textRead_p60 at h
  refine pnX0_X13 F G ⟨(Nat.le_of_ble_eq_true rfl), (Nat.le_of_ble_eq_true rfl)⟩ dX0_textRead_60 (fun y_10 H q_11 G => ?_)
  replace h := h y_10 q_11
  refine lv_dup hx hb dX0_textRead_63 rfl ?_
  refine lv_aload_n hx hb dX0_textRead_64 rfl (lv_at hl 0 rfl) ?_
  refine cgX0_0_keyRead F G dX0_textRead_65 ?_
  refine lv_aload_n hx hb dX0_textRead_68 rfl (lv_at hl 1 rfl) ?_
  refine lv_aload_n hx hb dX0_textRead_69 rfl (lv_at hl 0 rfl) ?_
  refine cgX0_0_wordMany F G dX0_textRead_70 ?_
  refine kX0_C13_init F G hl.1 ⟨(Nat.le_of_ble_eq_true rfl), (Nat.le_of_ble_eq_true rfl)⟩ ⟨(Nat.le_of_ble_eq_true rfl), (Nat.le_of_ble_eq_true rfl)⟩ (Nat.le_of_ble_eq_true rfl) dX0_textRead_73 h (fun S_13 H locs G h => ?_)
  exact t_aret Ft G dX0_textRead_76 h
set_option maxHeartbeats 4000000 in
set_option maxRecDepth 100000 in
theorem wC0_textRead {l : Launch} {D : va_G} {a : Nat → Nat} {d : Nat → ClassId} (sz : Nat)  (S : CS) (Q : Nat → CS → Prop) (E : Nat → CS → Prop) (h : C0_textRead  S Q E) : CTr l D a d yX0_textRead cX0_textRead 2 (.object "StrokesHeard$Text") rmX0_textRead 4 198 [.ref (a 0)] sz S Q E := by
  refine t_enter (Qc := fun A => QTr Q E (BC D a d A) A) RX0 (by decide +kernel) rfl (Nat.le_of_ble_eq_true rfl) ?_
  intro p e s m below meth c ls A Ft hG hl
  have G := hG
  have hl : lv_has ls 2 [(0, .ref (a 0))] := hl
  have F := Ft.1
  obtain ⟨hx, hb, hr, hml, hown, hts, hlocks, hA, hK, hN⟩ := id F
  unfold C0_textRead at h
  refine lv_aload_n hx hb dX0_textRead_0 rfl (lv_at hl 0 rfl) ?_
  refine lv_aload_n hx hb dX0_textRead_1 rfl (lv_at hl 0 rfl) ?_
  refine cgX0_0_taped F G dX0_textRead_2 ?_
  refine cpX0_0_end F G dX0_textRead_5 (fun H locs G => ?_)
  refine lv_aload_n hx hb dX0_textRead_8 rfl (lv_at hl 0 rfl) ?_
  refine lv_iconst (v := 0) hx hb dX0_textRead_9 (by decide) ?_
  refine cpX0_0_to F G dX0_textRead_10 (fun H locs G => ?_)
  refine lv_aload_n hx hb dX0_textRead_13 rfl (lv_at hl 0 rfl) ?_
  refine lv_iconst (v := 0) hx hb dX0_textRead_14 (by decide) ?_
  refine cpX0_0_parens F G dX0_textRead_15 (fun H locs G => ?_)
  refine lv_aload_n hx hb dX0_textRead_18 rfl (lv_at hl 0 rfl) ?_
  refine lv_iconst (v := 0) hx hb dX0_textRead_19 (by decide) ?_
  refine cpX0_0_nots F G dX0_textRead_20 (fun H locs G => ?_)
  refine lv_aload_n hx hb dX0_textRead_23 rfl (lv_at hl 0 rfl) ?_
  refine lv_iconst (v := 0) hx hb dX0_textRead_24 (by decide) ?_
  refine cpX0_0_wordMany F G dX0_textRead_25 (fun H locs G => ?_)
  refine lv_aload_n hx hb dX0_textRead_28 rfl (lv_at hl 0 rfl) ?_
  refine kX0_C0_goes F G hl.1 ⟨(Nat.le_of_ble_eq_true rfl), (Nat.le_of_ble_eq_true rfl)⟩ ⟨(Nat.le_of_ble_eq_true rfl), (Nat.le_of_ble_eq_true rfl)⟩ (Nat.le_of_ble_eq_true rfl) dX0_textRead_29 h (fun S_2 H locs G h => ?_) (fun z S1 H locs G h => WX.widen (k := 4) (n := 198) (Nat.le_of_ble_eq_true rfl) (Nat.le_of_ble_eq_true rfl) (t_outr Ft G h))
  refine lv_aload_n hx hb dX0_textRead_32 rfl (lv_at hl 0 rfl) ?_
  refine lv_aload_n hx hb dX0_textRead_33 rfl (lv_at hl 0 rfl) ?_
  refine kX0_C0_key F G hl.1 ⟨(Nat.le_of_ble_eq_true rfl), (Nat.le_of_ble_eq_true rfl)⟩ ⟨(Nat.le_of_ble_eq_true rfl), (Nat.le_of_ble_eq_true rfl)⟩ (Nat.le_of_ble_eq_true rfl) dX0_textRead_34 h (fun r_3 S_4 H locs G h => ?_) (fun z S1 H locs G h => WX.widen (k := 4) (n := 198) (Nat.le_of_ble_eq_true rfl) (Nat.le_of_ble_eq_true rfl) (t_outr Ft G h))
  refine cpX0_0_keyRead F G dX0_textRead_37 (fun H locs G => ?_)
  refine lv_aload_n hx hb dX0_textRead_40 rfl (lv_at hl 0 rfl) ?_
  refine kX0_C0_expression F G hl.1 ⟨(Nat.le_of_ble_eq_true rfl), (Nat.le_of_ble_eq_true rfl)⟩ ⟨(Nat.le_of_ble_eq_true rfl), (Nat.le_of_ble_eq_true rfl)⟩ (Nat.le_of_ble_eq_true rfl) dX0_textRead_41 h (fun y_5 S_6 H locs G h => ?_) (fun z S1 H locs G h => WX.widen (k := 4) (n := 198) (Nat.le_of_ble_eq_true rfl) (Nat.le_of_ble_eq_true rfl) (t_outr Ft G h))
  refine lv_astore_n (lv' := [(1, .ref y_5), (0, .ref (a 0))]) hx hb dX0_textRead_44 rfl hl (by decide) rfl (fun ls hl => ?_)
  refine lv_aload_n hx hb dX0_textRead_45 rfl (lv_at hl 1 rfl) ?_
  refine cgX0_0_from F G dX0_textRead_46 ?_
  refine lv_aload_n hx hb dX0_textRead_49 rfl (lv_at hl 1 rfl) ?_
  refine cgX0_0_end F G dX0_textRead_50 ?_
  refine lv_icmp_ge (tgt := 60) hx hb dX0_textRead_53 (by decide) (fun c_7 => ?_) (fun c_7 => ?_)
  · replace h := h.1 c_7
    exact wC0_textRead_p60 Ft y_5 S_6  G (lv_sub hl [1, 0] rfl) h
  · replace h := h.2 c_7
    refine lv_aload_n hx hb dX0_textRead_56 rfl (lv_at hl 1 rfl) ?_
    refine kX0_C0_wrong F G hl.1 ⟨(Nat.le_of_ble_eq_true rfl), (Nat.le_of_ble_eq_true rfl)⟩ ⟨(Nat.le_of_ble_eq_true rfl), (Nat.le_of_ble_eq_true rfl)⟩ (Nat.le_of_ble_eq_true rfl) dX0_textRead_57 h (fun S_9 H locs G h => ?_) (fun z S1 H locs G h => WX.widen (k := 4) (n := 198) (Nat.le_of_ble_eq_true rfl) (Nat.le_of_ble_eq_true rfl) (t_outr Ft G h))
    exact wC0_textRead_p60 Ft y_5 S_9  G (lv_sub hl [1, 0] rfl) h
