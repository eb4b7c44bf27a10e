set_option maxRecDepth 100000
/-! sets -/
def M_sets (v1 : Int32) (v2 : Int32) (v3 : Int32) (I : St) (Q : St → Prop) : Prop := vp_in ((10 + (3 * v1)) + v2) 3040 ∧ (Q (sA I 1 ((10 + (3 * v1)) + v2) v3))
abbrev rmX5_sets : Room := { frames := 0, cells := 0, slots := 0, locals := 0 }
set_option maxHeartbeats 4000000 in
set_option maxRecDepth 100000 in
theorem wM_sets {l : Launch} {D : va_G} {cl : List vw_C} {a : Nat → Nat} {d : ClassId} (hcl : cl[5]? = some (RX5, TX5, 32)) (sz : Nat) (v1 : Int32) (v2 : Int32) (v3 : Int32) (I : St) (Q : St → Prop) (h : M_sets v1 v2 v3 I Q) : MMv l D cl a d yX5_sets cX5_sets 4 rmX5_sets [.ref (a 0), .int v1, .int v2, .int v3] sz I Q := by
  refine m_enter (Qc := fun A => va_Qv Q (BM D cl a d A) A) hcl (by decide) rfl (Nat.le_of_ble_eq_true rfl) ?_
  intro p e s m below meth c ls A F hG hl
  have G := hG
  have hl : lv_has ls 4 [(0, .ref (a 0)), (1, .int v1), (2, .int v2), (3, .int v3)] := hl
  obtain ⟨hx, hb, hr, hml, hown, hts, hlocks, hA, hK, hcl⟩ := id F
  unfold M_sets at h
  refine lv_aload_n hx hb dX5_sets_0 rfl (lv_at hl 0 rfl) ?_
  refine mg_s F G dX5_sets_1 ?_
  refine lv_bipush (v := 10) hx hb dX5_sets_4 (by decide) ?_
  refine lv_iconst (v := 3) hx hb dX5_sets_6 (by decide) ?_
  refine lv_iload_n hx hb dX5_sets_7 rfl (lv_at hl 1 rfl) ?_
  refine lv_imul hx hb dX5_sets_8 ?_
  refine lv_iadd hx hb dX5_sets_9 ?_
  refine lv_iload_n hx hb dX5_sets_10 rfl (lv_at hl 2 rfl) ?_
  refine lv_iadd hx hb dX5_sets_11 ?_
  refine lv_iload_n hx hb dX5_sets_12 rfl (lv_at hl 3 rfl) ?_
  obtain ⟨b_1, h⟩ := h
  refine m_st F G mA_1 b_1 dX5_sets_13 (fun H locs G => ?_)
  exact m_vret F G dX5_sets_14 h
set_option maxHeartbeats 4000000 in
set_option maxRecDepth 100000 in
theorem kM_sets {p : Program} {l : Launch} {e : Env} {s : State} {m : MethodId} {R : Room} {args : Array Value} {below : List Frame} {meth : Method} {c : Code} {D : va_G} {cl : List vw_C} {a : Nat → Nat} {d : ClassId} {A : Nat → Prop} {Q : State → Prop} {cc : ByteArray} {nL pc : Nat} {ret : Option FieldType} {ls : Array Slot} {rest : List Value} {v1 : Int32} {v2 : Int32} {v3 : Int32} {I : St} {H : Heap} {locs : List Loc} {Q1 : St → Prop} (F : FM p s m meth c args D cl d A cc nL ret) (G : GM D cl a d A s.heap I H locs) (hsz : ls.size = nL) (hR : rmX5_sets.frames + 1 ≤ R.frames ∧ 8 + (4 + 11) + rmX5_sets.locals ≤ R.locals) (hW : (rest.map fun v => v.category).sum ≤ 8) (hd : decode cc pc = .ok (.invokevirtual 73, 3)) (h : M_sets v1 v2 v3 I Q1) (k : ∀ (I1 : St) (H : Heap) (locs : List Loc), GM D cl a d A s.heap I1 H locs → Q1 I1 → W p l e R s m args below meth c H locs 0 0 Q (F0 m (pc + 3) ls rest)) : W p l e R s m args below meth c H locs 0 0 Q (F0 m pc ls (.int v3 :: .int v2 :: .int v1 :: .ref (a 0) :: rest)) := by
  obtain ⟨hx, hb, hr, hml, hown, hts, hlocks, hA, hK, hcl⟩ := id F
  exact m_callVv (As := [.int v1, .int v2, .int v3]) F G hsz (wM_sets hcl H.size v1 v2 v3 I Q1 h) (cwV 3 hts (lw_V q1302 q1304 qs39 q90 q1305) rfl rfl rfl (by decide +kernel) hR) rfl rfl hW hd k
/-! comes -/
def M_comes (v1 : Int32) (v2 : Int32) (v3 : Int32) (I : St) (Q : St → Prop) : Prop := ∀ x_1 : Int32, x_1 = (I 1 0) → M_sets x_1 0 v1 (sA I 1 0 ((I 1 0) + 1)) (fun I_3 => M_sets x_1 1 v2 I_3 (fun I_5 => M_sets x_1 2 v3 I_5 (fun I_7 => Q I_7)))
abbrev rmX5_comes : Room := { frames := 1, cells := 0, slots := 0, locals := 23 }
set_option maxHeartbeats 4000000 in
set_option maxRecDepth 100000 in
theorem wM_comes {l : Launch} {D : va_G} {cl : List vw_C} {a : Nat → Nat} {d : ClassId} (hcl : cl[5]? = some (RX5, TX5, 32)) (sz : Nat) (v1 : Int32) (v2 : Int32) (v3 : Int32) (I : St) (Q : St → Prop) (h : M_comes v1 v2 v3 I Q) : MMv l D cl a d yX5_comes cX5_comes 5 rmX5_comes [.ref (a 0), .int v1, .int v2, .int v3] sz I Q := by
  refine m_enter (Qc := fun A => va_Qv Q (BM D cl a d A) A) hcl (by decide) rfl (Nat.le_of_ble_eq_true rfl) ?_
  intro p e s m below meth c ls A F hG hl
  have G := hG
  have hl : lv_has ls 5 [(0, .ref (a 0)), (1, .int v1), (2, .int v2), (3, .int v3)] := hl
  obtain ⟨hx, hb, hr, hml, hown, hts, hlocks, hA, hK, hcl⟩ := id F
  unfold M_comes at h
  refine lv_aload_n hx hb dX5_comes_0 rfl (lv_at hl 0 rfl) ?_
  refine mg_s F G dX5_comes_1 ?_
  refine lv_iconst (v := 0) hx hb dX5_comes_4 (by decide) ?_
  refine m_ld F G mA_1 (by unfold vp_in; decide) dX5_comes_5 ?_
  refine lv_topi (fun x_1 ex_1 => ?_)
  replace h := h x_1 ex_1
  refine lv_istore (lv' := [(4, .int x_1), (0, .ref (a 0)), (1, .int v1), (2, .int v2), (3, .int v3)]) hx hb dX5_comes_6 hl (by decide) rfl (fun ls hl => ?_)
  refine lv_aload_n hx hb dX5_comes_8 rfl (lv_at hl 1 rfl) ?_
  refine mg_s F G dX5_comes_9 ?_
  refine lv_iconst (v := 0) hx hb dX5_comes_12 (by decide) ?_
  refine lv_dup2_11 hx hb dX5_comes_13 rfl rfl ?_
  refine m_ld F G mA_1 (by unfold vp_in; decide) dX5_comes_14 ?_
  refine lv_iconst (v := 1) hx hb dX5_comes_15 (by decide) ?_
  refine lv_iadd hx hb dX5_comes_16 ?_
  refine m_st F G mA_1 (by unfold vp_in; decide) dX5_comes_17 (fun H locs G => ?_)
  refine lv_aload_n hx hb dX5_comes_18 rfl (lv_at hl 1 rfl) ?_
  refine lv_iload hx hb dX5_comes_19 (lv_at hl 0 rfl) ?_
  refine lv_iconst (v := 0) hx hb dX5_comes_21 (by decide) ?_
  refine lv_iload_n hx hb dX5_comes_22 rfl (lv_at hl 2 rfl) ?_
  refine kM_sets F G hl.1 ⟨Nat.le_of_ble_eq_true rfl, Nat.le_of_ble_eq_true rfl⟩ (Nat.le_of_ble_eq_true rfl) dX5_comes_23 h (fun I_3 H locs G h => ?_)
  refine lv_aload_n hx hb dX5_comes_26 rfl (lv_at hl 1 rfl) ?_
  refine lv_iload hx hb dX5_comes_27 (lv_at hl 0 rfl) ?_
  refine lv_iconst (v := 1) hx hb dX5_comes_29 (by decide) ?_
  refine lv_iload_n hx hb dX5_comes_30 rfl (lv_at hl 3 rfl) ?_
  refine kM_sets F G hl.1 ⟨Nat.le_of_ble_eq_true rfl, Nat.le_of_ble_eq_true rfl⟩ (Nat.le_of_ble_eq_true rfl) dX5_comes_31 h (fun I_5 H locs G h => ?_)
  refine lv_aload_n hx hb dX5_comes_34 rfl (lv_at hl 1 rfl) ?_
  refine lv_iload hx hb dX5_comes_35 (lv_at hl 0 rfl) ?_
  refine lv_iconst (v := 2) hx hb dX5_comes_37 (by decide) ?_
  refine lv_iload_n hx hb dX5_comes_38 rfl (lv_at hl 4 rfl) ?_
  refine kM_sets F G hl.1 ⟨Nat.le_of_ble_eq_true rfl, Nat.le_of_ble_eq_true rfl⟩ (Nat.le_of_ble_eq_true rfl) dX5_comes_39 h (fun I_7 H locs G h => ?_)
  exact m_vret F G dX5_comes_42 h
set_option maxHeartbeats 4000000 in
set_option maxRecDepth 100000 in
theorem kM_comes {p : Program} {l : Launch} {e : Env} {s : State} {m : MethodId} {R : Room} {args : Array Value} {below : List Frame} {meth : Method} {c : Code} {D : va_G} {cl : List vw_C} {a : Nat → Nat} {d : ClassId} {A : Nat → Prop} {Q : State → Prop} {cc : ByteArray} {nL pc : Nat} {ret : Option FieldType} {ls : Array Slot} {rest : List Value} {v1 : Int32} {v2 : Int32} {v3 : Int32} {I : St} {H : Heap} {locs : List Loc} {Q1 : St → Prop} (F : FM p s m meth c args D cl d A cc nL ret) (G : GM D cl a d A s.heap I H locs) (hsz : ls.size = nL) (hR : rmX5_comes.frames + 1 ≤ R.frames ∧ 8 + (5 + 11) + rmX5_comes.locals ≤ R.locals) (hW : (rest.map fun v => v.category).sum ≤ 8) (hd : decode cc pc = .ok (.invokevirtual 85, 3)) (h : M_comes v1 v2 v3 I Q1) (k : ∀ (I1 : St) (H : Heap) (locs : List Loc), GM D cl a d A s.heap I1 H locs → Q1 I1 → W p l e R s m args below meth c H locs 0 0 Q (F0 m (pc + 3) ls rest)) : W p l e R s m args below meth c H locs 0 0 Q (F0 m pc ls (.int v3 :: .int v2 :: .int v1 :: .ref (a 0) :: rest)) := by
  obtain ⟨hx, hb, hr, hml, hown, hts, hlocks, hA, hK, hcl⟩ := id F
  exact m_callVv (As := [.int v1, .int v2, .int v3]) F G hsz (wM_comes hcl H.size v1 v2 v3 I Q1 h) (cwV 3 hts (lw_V q1298 q1300 qs38 q90 q1301) rfl rfl rfl (by decide +kernel) hR) rfl rfl hW hd k
/-! isIn -/
def M_isIn (w0 : Int64) (w2 : Int64) (w4 : Int64) (I : St) (Q : Int32 → St → Prop) : Prop := ((lg_cmp w0 w2) < 0 → Q 0 I) ∧ (¬ (lg_cmp w0 w2) < 0 → (0 < (lg_cmp w0 w4) → Q 0 I) ∧ (¬ 0 < (lg_cmp w0 w4) → Q 1 I))
abbrev rmX5_isIn : Room := { frames := 0, cells := 0, slots := 0, locals := 0 }
set_option maxHeartbeats 4000000 in
set_option maxRecDepth 100000 in
theorem wM_isIn {l : Launch} {D : va_G} {cl : List vw_C} {a : Nat → Nat} {d : ClassId} (hcl : cl[5]? = some (RX5, TX5, 32)) (sz : Nat) (w0 : Int64) (w2 : Int64) (w4 : Int64) (I : St) (Q : Int32 → St → Prop) (h : M_isIn w0 w2 w4 I Q) : MMi l D cl a d yX5_isIn cX5_isIn 6 .boolean rmX5_isIn [.long w0, .long w2, .long w4] sz I Q := by
  refine m_enter (Qc := fun A => va_Qi Q (BM D cl a d A) A) hcl (by decide) rfl (Nat.le_of_ble_eq_true rfl) ?_
  intro p e s m below meth c ls A F hG hl
  have G := hG
  have hl : lv_has ls 6 [(0, .long w0), (2, .long w2), (4, .long w4)] := hl
  obtain ⟨hx, hb, hr, hml, hown, hts, hlocks, hA, hK, hcl⟩ := id F
  unfold M_isIn at h
  refine lv_lload_n hx hb dX5_isIn_0 rfl (lv_at hl 0 rfl) ?_
  refine lv_lload_n hx hb dX5_isIn_1 rfl (lv_at hl 1 rfl) ?_
  refine W.lcmp hx hb dX5_isIn_2 ?_
  refine lv_if_lt (tgt := 17) hx hb dX5_isIn_3 (by decide) (fun c_1 => ?_) (fun c_1 => ?_)
  · replace h := h.1 c_1
    refine lv_iconst (v := 0) hx hb dX5_isIn_17 (by decide) ?_
    exact m_zret F G rfl dX5_isIn_18 h
  · replace h := h.2 c_1
    refine lv_lload_n hx hb dX5_isIn_6 rfl (lv_at hl 0 rfl) ?_
    refine lv_lload hx hb dX5_isIn_7 (lv_at hl 2 rfl) ?_
    refine W.lcmp hx hb dX5_isIn_9 ?_
    refine lv_if_gt (tgt := 17) hx hb dX5_isIn_10 (by decide) (fun c_2 => ?_) (fun c_2 => ?_)
    · replace h := h.1 c_2
      refine lv_iconst (v := 0) hx hb dX5_isIn_17 (by decide) ?_
      exact m_zret F G rfl dX5_isIn_18 h
    · replace h := h.2 c_2
      refine lv_iconst (v := 1) hx hb dX5_isIn_13 (by decide) ?_
      refine lv_goto (tgt := 18) hx hb dX5_isIn_14 (by decide) ?_
      exact m_zret F G rfl dX5_isIn_18 h
set_option maxHeartbeats 4000000 in
set_option maxRecDepth 100000 in
theorem kM_isIn {p : Program} {l : Launch} {e : Env} {s : State} {m : MethodId} {R : Room} {args : Array Value} {below : List Frame} {meth : Method} {c : Code} {D : va_G} {cl : List vw_C} {a : Nat → Nat} {d : ClassId} {A : Nat → Prop} {Q : State → Prop} {cc : ByteArray} {nL pc : Nat} {ret : Option FieldType} {ls : Array Slot} {rest : List Value} {w0 : Int64} {w2 : Int64} {w4 : Int64} {I : St} {H : Heap} {locs : List Loc} {Q1 : Int32 → St → Prop} (F : FM p s m meth c args D cl d A cc nL ret) (G : GM D cl a d A s.heap I H locs) (hsz : ls.size = nL) (hR : rmX5_isIn.frames + 1 ≤ R.frames ∧ 8 + (6 + 11) + rmX5_isIn.locals ≤ R.locals) (hW : (rest.map fun v => v.category).sum ≤ 8) (hd : decode cc pc = .ok (.invokestatic 68, 3)) (h : M_isIn w0 w2 w4 I Q1) (k : ∀ (r : Int32) (I1 : St) (H : Heap) (locs : List Loc), GM D cl a d A s.heap I1 H locs → Q1 r I1 → W p l e R s m args below meth c H locs 0 0 Q (F0 m (pc + 3) ls (.int r :: rest))) : W p l e R s m args below meth c H locs 0 0 Q (F0 m pc ls (.long w4 :: .long w2 :: .long w0 :: rest)) := by
  obtain ⟨hx, hb, hr, hml, hown, hts, hlocks, hA, hK, hcl⟩ := id F
  exact m_callSi (As := [.long w0, .long w2, .long w4]) F G hsz (wM_isIn hcl H.size w0 w2 w4 I Q1 h) (va_cwS 3 hts (lw_S q1291 q1292 q90 q1293) rfl rfl rfl (by decide +kernel) hR) rfl rfl hW hd k
/-! clock -/
def M_clock (v1 : Int32) (v2 : Int32) (v3 : Int32) (I : St) (Q : Int32 → St → Prop) : Prop := M_isIn v1.toInt64 0 5 I (fun r_1 I_2 => (r_1 = 0 → Q (-1000000001) I_2) ∧ (¬ r_1 = 0 → M_isIn v2.toInt64 0 59 I_2 (fun r_4 I_5 => (r_4 = 0 → Q (-1000000001) I_5) ∧ (¬ r_4 = 0 → M_isIn v3.toInt64 0 9 I_5 (fun r_7 I_8 => (¬ r_7 = 0 → (¬ (I_8 1 0) = 6 → M_comes v1 v2 v3 I_8 (fun I_12 => Q ((I_12 1 0) - 1) I_12)) ∧ ((I_8 1 0) = 6 → Q (-1000000003) I_8)) ∧ (r_7 = 0 → Q (-1000000001) I_8))))))
abbrev rmX5_clock : Room := { frames := 2, cells := 0, slots := 0, locals := 47 }
set_option maxHeartbeats 4000000 in
set_option maxRecDepth 100000 in
theorem wM_clock {l : Launch} {D : va_G} {cl : List vw_C} {a : Nat → Nat} {d : ClassId} (hcl : cl[5]? = some (RX5, TX5, 32)) (sz : Nat) (v1 : Int32) (v2 : Int32) (v3 : Int32) (I : St) (Q : Int32 → St → Prop) (h : M_clock v1 v2 v3 I Q) : MMi l D cl a d yX5_clock cX5_clock 4 .int rmX5_clock [.ref (a 0), .int v1, .int v2, .int v3] sz I Q := by
  refine m_enter (Qc := fun A => va_Qi Q (BM D cl a d A) A) hcl (by decide) rfl (Nat.le_of_ble_eq_true rfl) ?_
  intro p e s m below meth c ls A F hG hl
  have G := hG
  have hl : lv_has ls 4 [(0, .ref (a 0)), (1, .int v1), (2, .int v2), (3, .int v3)] := hl
  obtain ⟨hx, hb, hr, hml, hown, hts, hlocks, hA, hK, hcl⟩ := id F
  unfold M_clock at h
  refine lv_iload_n hx hb dX5_clock_0 rfl (lv_at hl 1 rfl) ?_
  refine lv_i2l (v := v1.toInt64) hx hb dX5_clock_1 rfl ?_
  refine lv_lconst (v := 0) hx hb dX5_clock_2 (by decide) ?_
  refine lv_ldc2 hx hb hown (hts _ q1290) dX5_clock_3 ?_
  refine kM_isIn F G hl.1 ⟨Nat.le_of_ble_eq_true rfl, Nat.le_of_ble_eq_true rfl⟩ (Nat.le_of_ble_eq_true rfl) dX5_clock_6 h (fun r_1 I_2 H locs G h => ?_)
  refine lv_if_eq (tgt := 36) hx hb dX5_clock_9 (by decide) (fun c_3 => ?_) (fun c_3 => ?_)
  · replace h := h.1 c_3
    refine lv_ldc hx hb hown (hts _ q1296) dX5_clock_36 ?_
    exact m_iret F G dX5_clock_38 h
  · replace h := h.2 c_3
    refine lv_iload_n hx hb dX5_clock_12 rfl (lv_at hl 2 rfl) ?_
    refine lv_i2l (v := v2.toInt64) hx hb dX5_clock_13 rfl ?_
    refine lv_lconst (v := 0) hx hb dX5_clock_14 (by decide) ?_
    refine lv_ldc2 hx hb hown (hts _ q1294) dX5_clock_15 ?_
    refine kM_isIn F G hl.1 ⟨Nat.le_of_ble_eq_true rfl, Nat.le_of_ble_eq_true rfl⟩ (Nat.le_of_ble_eq_true rfl) dX5_clock_18 h (fun r_4 I_5 H locs G h => ?_)
    refine lv_if_eq (tgt := 36) hx hb dX5_clock_21 (by decide) (fun c_6 => ?_) (fun c_6 => ?_)
    · replace h := h.1 c_6
      refine lv_ldc hx hb hown (hts _ q1296) dX5_clock_36 ?_
      exact m_iret F G dX5_clock_38 h
    · replace h := h.2 c_6
      refine lv_iload_n hx hb dX5_clock_24 rfl (lv_at hl 3 rfl) ?_
      refine lv_i2l (v := v3.toInt64) hx hb dX5_clock_25 rfl ?_
      refine lv_lconst (v := 0) hx hb dX5_clock_26 (by decide) ?_
      refine lv_ldc2 hx hb hown (hts _ q1295) dX5_clock_27 ?_
      refine kM_isIn F G hl.1 ⟨Nat.le_of_ble_eq_true rfl, Nat.le_of_ble_eq_true rfl⟩ (Nat.le_of_ble_eq_true rfl) dX5_clock_30 h (fun r_7 I_8 H locs G h => ?_)
      refine lv_if_ne (tgt := 39) hx hb dX5_clock_33 (by decide) (fun c_9 => ?_) (fun c_9 => ?_)
      · replace h := h.1 c_9
        refine lv_aload_n hx hb dX5_clock_39 rfl (lv_at hl 0 rfl) ?_
        refine mg_s F G dX5_clock_40 ?_
        refine lv_iconst (v := 0) hx hb dX5_clock_43 (by decide) ?_
        refine m_ld F G mA_1 (by unfold vp_in; decide) dX5_clock_44 ?_
        refine lv_bipush (v := 6) hx hb dX5_clock_45 (by decide) ?_
        refine lv_icmp_ne (tgt := 53) hx hb dX5_clock_47 (by decide) (fun c_10 => ?_) (fun c_10 => ?_)
        · replace h := h.1 c_10
          refine lv_aload_n hx hb dX5_clock_53 rfl (lv_at hl 0 rfl) ?_
          refine lv_iload_n hx hb dX5_clock_54 rfl (lv_at hl 1 rfl) ?_
          refine lv_iload_n hx hb dX5_clock_55 rfl (lv_at hl 2 rfl) ?_
          refine lv_iload_n hx hb dX5_clock_56 rfl (lv_at hl 3 rfl) ?_
          refine kM_comes F G hl.1 ⟨Nat.le_of_ble_eq_true rfl, Nat.le_of_ble_eq_true rfl⟩ (Nat.le_of_ble_eq_true rfl) dX5_clock_57 h (fun I_12 H locs G h => ?_)
          refine lv_aload_n hx hb dX5_clock_60 rfl (lv_at hl 0 rfl) ?_
          refine mg_s F G dX5_clock_61 ?_
          refine lv_iconst (v := 0) hx hb dX5_clock_64 (by decide) ?_
          refine m_ld F G mA_1 (by unfold vp_in; decide) dX5_clock_65 ?_
          refine lv_iconst (v := 1) hx hb dX5_clock_66 (by decide) ?_
          refine lv_isub hx hb dX5_clock_67 ?_
          exact m_iret F G dX5_clock_68 h
        · replace h := h.2 c_10
          refine lv_ldc hx hb hown (hts _ q1297) dX5_clock_50 ?_
          exact m_iret F G dX5_clock_52 h
      · replace h := h.2 c_9
        refine lv_ldc hx hb hown (hts _ q1296) dX5_clock_36 ?_
        exact m_iret F G dX5_clock_38 h

/-! isClock -/
def M_isClock (v1 : Int32) (I : St) (Q : Int32 → St → Prop) : Prop := M_isIn v1.toInt64 0 (((I 1 0) - 1).toInt64) I (fun r_1 I_2 => zb r_1 ∧ Q r_1 I_2)
abbrev rmX5_isClock : Room := { frames := 1, cells := 0, slots := 0, locals := 25 }
set_option maxHeartbeats 4000000 in
set_option maxRecDepth 100000 in
theorem wM_isClock {l : Launch} {D : va_G} {cl : List vw_C} {a : Nat → Nat} {d : ClassId} (hcl : cl[5]? = some (RX5, TX5, 32)) (sz : Nat) (v1 : Int32) (I : St) (Q : Int32 → St → Prop) (h : M_isClock v1 I Q) : MMi l D cl a d yX5_isClock cX5_isClock 2 .boolean rmX5_isClock [.ref (a 0), .int v1] sz I Q := by
  refine m_enter (Qc := fun A => va_Qi Q (BM D cl a d A) A) hcl (by decide) rfl (Nat.le_of_ble_eq_true rfl) ?_
  intro p e s m below meth c ls A F hG hl
  have G := hG
  have hl : lv_has ls 2 [(0, .ref (a 0)), (1, .int v1)] := hl
  obtain ⟨hx, hb, hr, hml, hown, hts, hlocks, hA, hK, hcl⟩ := id F
  unfold M_isClock at h
  refine lv_iload_n hx hb dX5_isClock_0 rfl (lv_at hl 1 rfl) ?_
  refine lv_i2l (v := v1.toInt64) hx hb dX5_isClock_1 rfl ?_
  refine lv_lconst (v := 0) hx hb dX5_isClock_2 (by decide) ?_
  refine lv_aload_n hx hb dX5_isClock_3 rfl (lv_at hl 0 rfl) ?_
  refine mg_s F G dX5_isClock_4 ?_
  refine lv_iconst (v := 0) hx hb dX5_isClock_7 (by decide) ?_
  refine m_ld F G mA_1 (by unfold vp_in; decide) dX5_isClock_8 ?_
  refine lv_iconst (v := 1) hx hb dX5_isClock_9 (by decide) ?_
  refine lv_isub hx hb dX5_isClock_10 ?_
  refine lv_i2l (v := ((I 1 0) - 1).toInt64) hx hb dX5_isClock_11 rfl ?_
  refine kM_isIn F G hl.1 ⟨Nat.le_of_ble_eq_true rfl, Nat.le_of_ble_eq_true rfl⟩ (Nat.le_of_ble_eq_true rfl) dX5_isClock_12 h (fun r_1 I_2 H locs G h => ?_)
  exact m_zret F G h.1 dX5_isClock_15 h.2
set_option maxHeartbeats 4000000 in
set_option maxRecDepth 100000 in
theorem kM_isClock {p : Program} {l : Launch} {e : Env} {s : State} {m : MethodId} {R : Room} {args : Array Value} {below : List Frame} {meth : Method} {c : Code} {D : va_G} {cl : List vw_C} {a : Nat → Nat} {d : ClassId} {A : Nat → Prop} {Q : State → Prop} {cc : ByteArray} {nL pc : Nat} {ret : Option FieldType} {ls : Array Slot} {rest : List Value} {v1 : Int32} {I : St} {H : Heap} {locs : List Loc} {Q1 : Int32 → St → Prop} (F : FM p s m meth c args D cl d A cc nL ret) (G : GM D cl a d A s.heap I H locs) (hsz : ls.size = nL) (hR : rmX5_isClock.frames + 1 ≤ R.frames ∧ 8 + (2 + 11) + rmX5_isClock.locals ≤ R.locals) (hW : (rest.map fun v => v.category).sum ≤ 8) (hd : decode cc pc = .ok (.invokevirtual 107, 3)) (h : M_isClock v1 I Q1) (k : ∀ (r : Int32) (I1 : St) (H : Heap) (locs : List Loc), GM D cl a d A s.heap I1 H locs → Q1 r I1 → W p l e R s m args below meth c H locs 0 0 Q (F0 m (pc + 3) ls (.int r :: rest))) : W p l e R s m args below meth c H locs 0 0 Q (F0 m pc ls (.int v1 :: .ref (a 0) :: rest)) := by
  obtain ⟨hx, hb, hr, hml, hown, hts, hlocks, hA, hK, hcl⟩ := id F
  exact m_callVi (As := [.int v1]) F G hsz (wM_isClock hcl H.size v1 I Q1 h) (cwV 1 hts (lw_V q1310 q1312 qs40 q90 q1313) rfl rfl rfl (by decide +kernel) hR) rfl rfl hW hd k
/-! of -/
def M_of (v1 : Int32) (v2 : Int32) (I : St) (Q : Int32 → St → Prop) : Prop := vp_in ((10 + (3 * v1)) + v2) 3040 ∧ (Q (I 1 (((10 + (3 * v1)) + v2).toNatClampNeg)) I)
abbrev rmX5_of : Room := { frames := 0, cells := 0, slots := 0, locals := 0 }
set_option maxHeartbeats 4000000 in
set_option maxRecDepth 100000 in
theorem wM_of {l : Launch} {D : va_G} {cl : List vw_C} {a : Nat → Nat} {d : ClassId} (hcl : cl[5]? = some (RX5, TX5, 32)) (sz : Nat) (v1 : Int32) (v2 : Int32) (I : St) (Q : Int32 → St → Prop) (h : M_of v1 v2 I Q) : MMi l D cl a d yX5_of cX5_of 3 .int rmX5_of [.ref (a 0), .int v1, .int v2] sz I Q := by
  refine m_enter (Qc := fun A => va_Qi Q (BM D cl a d A) A) hcl (by decide) rfl (Nat.le_of_ble_eq_true rfl) ?_
  intro p e s m below meth c ls A F hG hl
  have G := hG
  have hl : lv_has ls 3 [(0, .ref (a 0)), (1, .int v1), (2, .int v2)] := hl
  obtain ⟨hx, hb, hr, hml, hown, hts, hlocks, hA, hK, hcl⟩ := id F
  unfold M_of at h
  refine lv_aload_n hx hb dX5_of_0 rfl (lv_at hl 0 rfl) ?_
  refine mg_s F G dX5_of_1 ?_
  refine lv_bipush (v := 10) hx hb dX5_of_4 (by decide) ?_
  refine lv_iconst (v := 3) hx hb dX5_of_6 (by decide) ?_
  refine lv_iload_n hx hb dX5_of_7 rfl (lv_at hl 1 rfl) ?_
  refine lv_imul hx hb dX5_of_8 ?_
  refine lv_iadd hx hb dX5_of_9 ?_
  refine lv_iload_n hx hb dX5_of_10 rfl (lv_at hl 2 rfl) ?_
  refine lv_iadd hx hb dX5_of_11 ?_
  obtain ⟨b_1, h⟩ := h
  refine m_ld F G mA_1 b_1 dX5_of_12 ?_
  exact m_iret F G dX5_of_13 h
set_option maxHeartbeats 4000000 in
set_option maxRecDepth 100000 in
theorem kM_of {p : Program} {l : Launch} {e : Env} {s : State} {m : MethodId} {R : Room} {args : Array Value} {below : List Frame} {meth : Method} {c : Code} {D : va_G} {cl : List vw_C} {a : Nat → Nat} {d : ClassId} {A : Nat → Prop} {Q : State → Prop} {cc : ByteArray} {nL pc : Nat} {ret : Option FieldType} {ls : Array Slot} {rest : List Value} {v1 : Int32} {v2 : Int32} {I : St} {H : Heap} {locs : List Loc} {Q1 : Int32 → St → Prop} (F : FM p s m meth c args D cl d A cc nL ret) (G : GM D cl a d A s.heap I H locs) (hsz : ls.size = nL) (hR : rmX5_of.frames + 1 ≤ R.frames ∧ 8 + (3 + 11) + rmX5_of.locals ≤ R.locals) (hW : (rest.map fun v => v.category).sum ≤ 8) (hd : decode cc pc = .ok (.invokevirtual 88, 3)) (h : M_of v1 v2 I Q1) (k : ∀ (r : Int32) (I1 : St) (H : Heap) (locs : List Loc), GM D cl a d A s.heap I1 H locs → Q1 r I1 → W p l e R s m args below meth c H locs 0 0 Q (F0 m (pc + 3) ls (.int r :: rest))) : W p l e R s m args below meth c H locs 0 0 Q (F0 m pc ls (.int v2 :: .int v1 :: .ref (a 0) :: rest)) := by
  obtain ⟨hx, hb, hr, hml, hown, hts, hlocks, hA, hK, hcl⟩ := id F
  exact m_callVi (As := [.int v1, .int v2]) F G hsz (wM_of hcl H.size v1 v2 I Q1 h) (cwV 2 hts (lw_V q1314 q1316 qs41 q90 q1317) rfl rfl rfl (by decide +kernel) hR) rfl rfl hW hd k
/-! textAt -/
def M_textAt (v1 : Int32) (I : St) (Q : Int32 → St → Prop) : Prop := Q (40 + (200 * v1)) I
abbrev rmX5_textAt : Room := { frames := 0, cells := 0, slots := 0, locals := 0 }
set_option maxHeartbeats 4000000 in
set_option maxRecDepth 100000 in
theorem wM_textAt {l : Launch} {D : va_G} {cl : List vw_C} {a : Nat → Nat} {d : ClassId} (hcl : cl[5]? = some (RX5, TX5, 32)) (sz : Nat) (v1 : Int32) (I : St) (Q : Int32 → St → Prop) (h : M_textAt v1 I Q) : MMi l D cl a d yX5_textAt cX5_textAt 2 .int rmX5_textAt [.ref (a 0), .int v1] sz I Q := by
  refine m_enter (Qc := fun A => va_Qi Q (BM D cl a d A) A) hcl (by decide) rfl (Nat.le_of_ble_eq_true rfl) ?_
  intro p e s m below meth c ls A F hG hl
  have G := hG
  have hl : lv_has ls 2 [(0, .ref (a 0)), (1, .int v1)] := hl
  obtain ⟨hx, hb, hr, hml, hown, hts, hlocks, hA, hK, hcl⟩ := id F
  unfold M_textAt at h
  refine lv_bipush (v := 40) hx hb dX5_textAt_0 (by decide) ?_
  refine lv_sipush (v := 200) hx hb dX5_textAt_2 (by decide) ?_
  refine lv_iload_n hx hb dX5_textAt_5 rfl (lv_at hl 1 rfl) ?_
  refine lv_imul hx hb dX5_textAt_6 ?_
  refine lv_iadd hx hb dX5_textAt_7 ?_
  exact m_iret F G dX5_textAt_8 h
set_option maxHeartbeats 4000000 in
set_option maxRecDepth 100000 in
theorem kM_textAt {p : Program} {l : Launch} {e : Env} {s : State} {m : MethodId} {R : Room} {args : Array Value} {below : List Frame} {meth : Method} {c : Code} {D : va_G} {cl : List vw_C} {a : Nat → Nat} {d : ClassId} {A : Nat → Prop} {Q : State → Prop} {cc : ByteArray} {nL pc : Nat} {ret : Option FieldType} {ls : Array Slot} {rest : List Value} {v1 : Int32} {I : St} {H : Heap} {locs : List Loc} {Q1 : Int32 → St → Prop} (F : FM p s m meth c args D cl d A cc nL ret) (G : GM D cl a d A s.heap I H locs) (hsz : ls.size = nL) (hR : rmX5_textAt.frames + 1 ≤ R.frames ∧ 8 + (2 + 11) + rmX5_textAt.locals ≤ R.locals) (hW : (rest.map fun v => v.category).sum ≤ 8) (hd : decode cc pc = .ok (.invokevirtual 277, 3)) (h : M_textAt v1 I Q1) (k : ∀ (r : Int32) (I1 : St) (H : Heap) (locs : List Loc), GM D cl a d A s.heap I1 H locs → Q1 r I1 → W p l e R s m args below meth c H locs 0 0 Q (F0 m (pc + 3) ls (.int r :: rest))) : W p l e R s m args below meth c H locs 0 0 Q (F0 m pc ls (.int v1 :: .ref (a 0) :: rest)) := by
  obtain ⟨hx, hb, hr, hml, hown, hts, hlocks, hA, hK, hcl⟩ := id F
  exact m_callVi (As := [.int v1]) F G hsz (wM_textAt hcl H.size v1 I Q1 h) (cwV 1 hts (lw_V q1338 q1340 qs47 q90 q1341) rfl rfl rfl (by decide +kernel) hR) rfl rfl hW hd k
/-! counts -/
def M_counts_p33 (Q : Int32 → St → Prop) (K4 : Int32 → Int32 → St → Prop) (v1 : Int32) (v3 : Int32) (t0 : Int32) (I : St) : Prop := K4 t0 (v3 + 1) I
def M_counts_L4 (Q : Int32 → St → Prop)  (v1 : Int32) : Nat → Int32 → Int32 → St → Prop
  | 0, _, _, _ => False
  | n + 1, v2, v3, I => ((I 1 1) ≤ v3 → Q v2 I) ∧ (¬ (I 1 1) ≤ v3 → M_textAt v3 I (fun r_2 I_3 => vp_in r_2 3040 ∧ ((¬ (I_3 1 (r_2.toNatClampNeg)) = v1 → M_counts_p33 Q (fun v2_ v3_ I_ => M_counts_L4 Q v1 n v2_ v3_ I_) v1 v3 v2 I_3) ∧ ((I_3 1 (r_2.toNatClampNeg)) = v1 → M_counts_p33 Q (fun v2_ v3_ I_ => M_counts_L4 Q v1 n v2_ v3_ I_) v1 v3 v3 I_3))))
def M_counts (v1 : Int32) (I : St) (Q : Int32 → St → Prop) : Prop := ∃ k4, M_counts_L4 Q v1 k4 (-1) 0 I
abbrev rmX5_counts : Room := { frames := 1, cells := 0, slots := 0, locals := 21 }
set_option maxHeartbeats 4000000 in
set_option maxRecDepth 100000 in
theorem wM_counts_p33 {p : Program} {l : Launch} {e : Env} {s : State} {m : MethodId} {args : Array Value} {below : List Frame} {meth : Method} {c : Code} {D : va_G} {cl : List vw_C} {a : Nat → Nat} {d : ClassId} {A : Nat → Prop} {Q : Int32 → St → Prop} {K4 : Int32 → Int32 → St → Prop} (F : FM p s m meth c args D cl d A cX5_counts 4 (some .int)) (v1 : Int32) (v3 : Int32) (t0 : Int32) (I : St) (hK4 : ∀ (v2 : Int32) (v3 : Int32) (I : St) (H : Heap) (locs : List Loc) (ls : Array Slot), GM D cl a d A s.heap I H locs → lv_has ls 4 [(0, .ref (a 0)), (1, .int v1), (2, .int v2), (3, .int v3)] → K4 v2 v3 I → wMi p l e rmX5_counts s m args below meth c D cl a d A Q H locs (F0 m 4 ls [])) {H : Heap} {locs : List Loc} {ls : Array Slot} (G : GM D cl a d A s.heap I H locs) (hl : lv_has ls 4 [(0, .ref (a 0)), (1, .int v1), (3, .int v3)]) (h : M_counts_p33 Q K4 v1 v3 t0 I) : wMi p l e rmX5_counts s m args below meth c D cl a d A Q H locs (F0 m 33 ls [.int t0]) := by
  obtain ⟨hx, hb, hr, hml, hown, hts, hlocks, hA, hK, hcl⟩ := id F
  unfold M_counts_p33 at h
  refine lv_istore_n (lv' := [(2, .int t0), (0, .ref (a 0)), (1, .int v1), (3, .int v3)]) hx hb dX5_counts_33 rfl hl (by decide) rfl (fun ls hl => ?_)
  refine lv_iinc (v := (v3 + 1)) (lv' := [(3, .int (v3 + 1)), (2, .int t0), (0, .ref (a 0)), (1, .int v1)]) hx hb dX5_counts_34 hl (k := 3) rfl rfl (by decide) rfl (fun ls hl => ?_)
  refine lv_goto (tgt := 4) hx hb dX5_counts_37 (by decide) ?_
  exact hK4 t0 (v3 + 1) I _ _ _ G (lv_sub hl [2, 3, 1, 0] rfl) h
set_option maxHeartbeats 4000000 in
set_option maxRecDepth 100000 in
theorem wM_counts_L4 {p : Program} {l : Launch} {e : Env} {s : State} {m : MethodId} {args : Array Value} {below : List Frame} {meth : Method} {c : Code} {D : va_G} {cl : List vw_C} {a : Nat → Nat} {d : ClassId} {A : Nat → Prop} {Q : Int32 → St → Prop}  (F : FM p s m meth c args D cl d A cX5_counts 4 (some .int)) (v1 : Int32)  :
    ∀ (n : Nat) (v2 : Int32) (v3 : Int32) (I : St) (H : Heap) (locs : List Loc) (ls : Array Slot), GM D cl a d A s.heap I H locs → lv_has ls 4 [(0, .ref (a 0)), (1, .int v1), (2, .int v2), (3, .int v3)] → M_counts_L4 Q v1 n v2 v3 I → wMi p l e rmX5_counts s m args below meth c D cl a d A Q H locs (F0 m 4 ls []) := by
  obtain ⟨hx, hb, hr, hml, hown, hts, hlocks, hA, hK, hcl⟩ := id F
  intro n
  induction n with
  | zero => intro v2 v3 I H locs ls G hl h; exact absurd h (fun q => q)
  | succ n ih =>
    intro v2 v3 I H locs ls G hl h
    unfold M_counts_L4 at h
    refine lv_iload_n hx hb dX5_counts_4 rfl (lv_at hl 3 rfl) ?_
    refine lv_aload_n hx hb dX5_counts_5 rfl (lv_at hl 0 rfl) ?_
    refine mg_s F G dX5_counts_6 ?_
    refine lv_iconst (v := 1) hx hb dX5_counts_9 (by decide) ?_
    refine m_ld F G mA_1 (by unfold vp_in; decide) dX5_counts_10 ?_
    refine lv_icmp_ge (tgt := 40) hx hb dX5_counts_11 (by decide) (fun c_1 => ?_) (fun c_1 => ?_)
    · replace h := h.1 c_1
      refine lv_iload_n hx hb dX5_counts_40 rfl (lv_at hl 2 rfl) ?_
      exact m_iret F G dX5_counts_41 h
    · replace h := h.2 c_1
      refine lv_aload_n hx hb dX5_counts_14 rfl (lv_at hl 0 rfl) ?_
      refine mg_s F G dX5_counts_15 ?_
      refine lv_aload_n hx hb dX5_counts_18 rfl (lv_at hl 0 rfl) ?_
      refine lv_iload_n hx hb dX5_counts_19 rfl (lv_at hl 3 rfl) ?_
      refine kM_textAt F G hl.1 ⟨Nat.le_of_ble_eq_true rfl, Nat.le_of_ble_eq_true rfl⟩ (Nat.le_of_ble_eq_true rfl) dX5_counts_20 h (fun r_2 I_3 H locs G h => ?_)
      obtain ⟨b_4, h⟩ := h
      refine m_ld F G mA_1 b_4 dX5_counts_23 ?_
      refine lv_iload_n hx hb dX5_counts_24 rfl (lv_at hl 1 rfl) ?_
      refine lv_icmp_ne (tgt := 32) hx hb dX5_counts_25 (by decide) (fun c_5 => ?_) (fun c_5 => ?_)
      · replace h := h.1 c_5
        refine lv_iload_n hx hb dX5_counts_32 rfl (lv_at hl 2 rfl) ?_
        exact wM_counts_p33 F v1 v3 v2 I_3 ih G (lv_sub hl [0, 1, 3] rfl) h
      · replace h := h.2 c_5
        refine lv_iload_n hx hb dX5_counts_28 rfl (lv_at hl 3 rfl) ?_
        refine lv_goto (tgt := 33) hx hb dX5_counts_29 (by decide) ?_
        exact wM_counts_p33 F v1 v3 v3 I_3 ih G (lv_sub hl [0, 1, 3] rfl) h
set_option maxHeartbeats 4000000 in
set_option maxRecDepth 100000 in
theorem wM_counts {l : Launch} {D : va_G} {cl : List vw_C} {a : Nat → Nat} {d : ClassId} (hcl : cl[5]? = some (RX5, TX5, 32)) (sz : Nat) (v1 : Int32) (I : St) (Q : Int32 → St → Prop) (h : M_counts v1 I Q) : MMi l D cl a d yX5_counts cX5_counts 4 .int rmX5_counts [.ref (a 0), .int v1] sz I Q := by
  refine m_enter (Qc := fun A => va_Qi Q (BM D cl a d A) A) hcl (by decide) rfl (Nat.le_of_ble_eq_true rfl) ?_
  intro p e s m below meth c ls A F hG hl
  have G := hG
  have hl : lv_has ls 4 [(0, .ref (a 0)), (1, .int v1)] := hl
  obtain ⟨hx, hb, hr, hml, hown, hts, hlocks, hA, hK, hcl⟩ := id F
  unfold M_counts at h
  refine lv_iconst (v := (-1)) hx hb dX5_counts_0 (by decide) ?_
  refine lv_istore_n (lv' := [(2, .int (-1)), (0, .ref (a 0)), (1, .int v1)]) hx hb dX5_counts_1 rfl hl (by decide) rfl (fun ls hl => ?_)
  refine lv_iconst (v := 0) hx hb dX5_counts_2 (by decide) ?_
  refine lv_istore_n (lv' := [(3, .int 0), (2, .int (-1)), (0, .ref (a 0)), (1, .int v1)]) hx hb dX5_counts_3 rfl hl (by decide) rfl (fun ls hl => ?_)
  obtain ⟨k4, h⟩ := h
  exact wM_counts_L4 F v1  k4 (-1) 0 I _ _ _ G (lv_sub hl [2, 3, 1, 0] rfl) h
set_option maxHeartbeats 4000000 in
set_option maxRecDepth 100000 in
theorem kM_counts {p : Program} {l : Launch} {e : Env} {s : State} {m : MethodId} {R : Room} {args : Array Value} {below : List Frame} {meth : Method} {c : Code} {D : va_G} {cl : List vw_C} {a : Nat → Nat} {d : ClassId} {A : Nat → Prop} {Q : State → Prop} {cc : ByteArray} {nL pc : Nat} {ret : Option FieldType} {ls : Array Slot} {rest : List Value} {v1 : Int32} {I : St} {H : Heap} {locs : List Loc} {Q1 : Int32 → St → Prop} (F : FM p s m meth c args D cl d A cc nL ret) (G : GM D cl a d A s.heap I H locs) (hsz : ls.size = nL) (hR : rmX5_counts.frames + 1 ≤ R.frames ∧ 8 + (4 + 11) + rmX5_counts.locals ≤ R.locals) (hW : (rest.map fun v => v.category).sum ≤ 8) (hd : decode cc pc = .ok (.invokevirtual 92, 3)) (h : M_counts v1 I Q1) (k : ∀ (r : Int32) (I1 : St) (H : Heap) (locs : List Loc), GM D cl a d A s.heap I1 H locs → Q1 r I1 → W p l e R s m args below meth c H locs 0 0 Q (F0 m (pc + 3) ls (.int r :: rest))) : W p l e R s m args below meth c H locs 0 0 Q (F0 m pc ls (.int v1 :: .ref (a 0) :: rest)) := by
  obtain ⟨hx, hb, hr, hml, hown, hts, hlocks, hA, hK, hcl⟩ := id F
  exact m_callVi (As := [.int v1]) F G hsz (wM_counts hcl H.size v1 I Q1 h) (cwV 1 hts (lw_V q1334 q1336 qs46 q90 q1337) rfl rfl rfl (by decide +kernel) hR) rfl rfl hW hd k
/-! joined -/
def M_joined_p205 (Q : Int32 → St → Prop)   (I : St) : Prop := Q 1 I
def M_joined (v0 : Int32) (v1 : Int32) (v2 : Int32) (I : St) (Q : Int32 → St → Prop) : Prop := (v0 = 38 → (v1 = 0 → Q 0 I) ∧ (¬ v1 = 0 → (v2 = 0 → Q 0 I) ∧ (¬ v2 = 0 → Q 1 I))) ∧ (v0 = 42 → Q (v1 * v2) I) ∧ (v0 = 43 → Q (v1 + v2) I) ∧ (v0 = 45 → Q (v1 - v2) I) ∧ (v0 = 47 → (¬ v2 = 0 → (¬ v2 = (-1) → ¬ v2 = 0 ∧ (Q (v1 / v2) I)) ∧ (v2 = (-1) → Q (-v1) I)) ∧ (v2 = 0 → Q 0 I)) ∧ (v0 = 60 → (v2 ≤ v1 → Q 0 I) ∧ (¬ v2 ≤ v1 → Q 1 I)) ∧ (v0 = 61 → (¬ v1 = v2 → Q 0 I) ∧ (v1 = v2 → Q 1 I)) ∧ (v0 = 62 → (v1 ≤ v2 → Q 0 I) ∧ (¬ v1 ≤ v2 → Q 1 I)) ∧ (¬ v0 = 38 → ¬ v0 = 42 → ¬ v0 = 43 → ¬ v0 = 45 → ¬ v0 = 47 → ¬ v0 = 60 → ¬ v0 = 61 → ¬ v0 = 62 → (¬ v1 = 0 → M_joined_p205 Q  I) ∧ (v1 = 0 → (v2 = 0 → Q 0 I) ∧ (¬ v2 = 0 → M_joined_p205 Q  I)))
abbrev rmX5_joined : Room := { frames := 0, cells := 0, slots := 0, locals := 0 }
set_option maxHeartbeats 4000000 in
set_option maxRecDepth 100000 in
theorem wM_joined_p205 {p : Program} {l : Launch} {e : Env} {s : State} {m : MethodId} {args : Array Value} {below : List Frame} {meth : Method} {c : Code} {D : va_G} {cl : List vw_C} {a : Nat → Nat} {d : ClassId} {A : Nat → Prop} {Q : Int32 → St → Prop}  (F : FM p s m meth c args D cl d A cX5_joined 3 (some .int))  (I : St)  {H : Heap} {locs : List Loc} {ls : Array Slot} (G : GM D cl a d A s.heap I H locs) (hl : lv_has ls 3 []) (h : M_joined_p205 Q I) : wMi p l e rmX5_joined s m args below meth c D cl a d A Q H locs (F0 m 205 ls []) := by
  obtain ⟨hx, hb, hr, hml, hown, hts, hlocks, hA, hK, hcl⟩ := id F
  unfold M_joined_p205 at h
  refine lv_iconst (v := 1) hx hb dX5_joined_205 (by decide) ?_
  refine lv_goto (tgt := 210) hx hb dX5_joined_206 (by decide) ?_
  exact m_iret F G dX5_joined_210 h
set_option maxHeartbeats 4000000 in
set_option maxRecDepth 100000 in
theorem wM_joined {l : Launch} {D : va_G} {cl : List vw_C} {a : Nat → Nat} {d : ClassId} (hcl : cl[5]? = some (RX5, TX5, 32)) (sz : Nat) (v0 : Int32) (v1 : Int32) (v2 : Int32) (I : St) (Q : Int32 → St → Prop) (h : M_joined v0 v1 v2 I Q) : MMi l D cl a d yX5_joined cX5_joined 3 .int rmX5_joined [.int v0, .int v1, .int v2] sz I Q := by
  refine m_enter (Qc := fun A => va_Qi Q (BM D cl a d A) A) hcl (by decide) rfl (Nat.le_of_ble_eq_true rfl) ?_
  intro p e s m below meth c ls A F hG hl
  have G := hG
  have hl : lv_has ls 3 [(0, .int v0), (1, .int v1), (2, .int v2)] := hl
  obtain ⟨hx, hb, hr, hml, hown, hts, hlocks, hA, hK, hcl⟩ := id F
  unfold M_joined at h
  refine lv_iload_n hx hb dX5_joined_0 rfl (lv_at hl 0 rfl) ?_
  by_cases c_1 : v0 = 38
  · replace h := h.1 c_1
    refine m_tsIn (k := 38) (off := 182) (tgt := 183) hx hb dX5_joined_1 c_1 (by decide) (by decide) (by decide) (by decide) ?_
    refine lv_iload_n hx hb dX5_joined_183 rfl (lv_at hl 1 rfl) ?_
    refine lv_if_eq (tgt := 195) hx hb dX5_joined_184 (by decide) (fun c_2 => ?_) (fun c_2 => ?_)
    · replace h := h.1 c_2
      refine lv_iconst (v := 0) hx hb dX5_joined_195 (by decide) ?_
      exact m_iret F G dX5_joined_196 h
    · replace h := h.2 c_2
      refine lv_iload_n hx hb dX5_joined_187 rfl (lv_at hl 2 rfl) ?_
      refine lv_if_eq (tgt := 195) hx hb dX5_joined_188 (by decide) (fun c_3 => ?_) (fun c_3 => ?_)
      · replace h := h.1 c_3
        refine lv_iconst (v := 0) hx hb dX5_joined_195 (by decide) ?_
        exact m_iret F G dX5_joined_196 h
      · replace h := h.2 c_3
        refine lv_iconst (v := 1) hx hb dX5_joined_191 (by decide) ?_
        refine lv_goto (tgt := 196) hx hb dX5_joined_192 (by decide) ?_
        exact m_iret F G dX5_joined_196 h
  by_cases c_4 : v0 = 42
  · replace h := h.2.1 c_4
    refine m_tsIn (k := 42) (off := 123) (tgt := 124) hx hb dX5_joined_1 c_4 (by decide) (by decide) (by decide) (by decide) ?_
    refine lv_iload_n hx hb dX5_joined_124 rfl (lv_at hl 1 rfl) ?_
    refine lv_iload_n hx hb dX5_joined_125 rfl (lv_at hl 2 rfl) ?_
    refine lv_imul hx hb dX5_joined_126 ?_
    exact m_iret F G dX5_joined_127 h
  by_cases c_5 : v0 = 43
  · replace h := h.2.2.1 c_5
    refine m_tsIn (k := 43) (off := 115) (tgt := 116) hx hb dX5_joined_1 c_5 (by decide) (by decide) (by decide) (by decide) ?_
    refine lv_iload_n hx hb dX5_joined_116 rfl (lv_at hl 1 rfl) ?_
    refine lv_iload_n hx hb dX5_joined_117 rfl (lv_at hl 2 rfl) ?_
    refine lv_iadd hx hb dX5_joined_118 ?_
    exact m_iret F G dX5_joined_119 h
  by_cases c_6 : v0 = 45
  · replace h := h.2.2.2.1 c_6
    refine m_tsIn (k := 45) (off := 119) (tgt := 120) hx hb dX5_joined_1 c_6 (by decide) (by decide) (by decide) (by decide) ?_
    refine lv_iload_n hx hb dX5_joined_120 rfl (lv_at hl 1 rfl) ?_
    refine lv_iload_n hx hb dX5_joined_121 rfl (lv_at hl 2 rfl) ?_
    refine lv_isub hx hb dX5_joined_122 ?_
    exact m_iret F G dX5_joined_123 h
  by_cases c_7 : v0 = 47
  · replace h := h.2.2.2.2.1 c_7
    refine m_tsIn (k := 47) (off := 127) (tgt := 128) hx hb dX5_joined_1 c_7 (by decide) (by decide) (by decide) (by decide) ?_
    refine lv_iload_n hx hb dX5_joined_128 rfl (lv_at hl 2 rfl) ?_
    refine lv_if_ne (tgt := 136) hx hb dX5_joined_129 (by decide) (fun c_8 => ?_) (fun c_8 => ?_)
    · replace h := h.1 c_8
      refine lv_iload_n hx hb dX5_joined_136 rfl (lv_at hl 2 rfl) ?_
      refine lv_iconst (v := (-1)) hx hb dX5_joined_137 (by decide) ?_
      refine lv_icmp_ne (tgt := 146) hx hb dX5_joined_138 (by decide) (fun c_9 => ?_) (fun c_9 => ?_)
      · replace h := h.1 c_9
        refine lv_iload_n hx hb dX5_joined_146 rfl (lv_at hl 1 rfl) ?_
        refine lv_iload_n hx hb dX5_joined_147 rfl (lv_at hl 2 rfl) ?_
        obtain ⟨z_10, h⟩ := h
        refine lv_idiv hx hb dX5_joined_148 z_10 ?_
        exact m_iret F G dX5_joined_149 h
      · replace h := h.2 c_9
        refine lv_iload_n hx hb dX5_joined_141 rfl (lv_at hl 1 rfl) ?_
        refine lv_ineg hx hb dX5_joined_142 ?_
        refine lv_goto (tgt := 149) hx hb dX5_joined_143 (by decide) ?_
        exact m_iret F G dX5_joined_149 h
    · replace h := h.2 c_8
      refine lv_iconst (v := 0) hx hb dX5_joined_132 (by decide) ?_
      refine lv_goto (tgt := 149) hx hb dX5_joined_133 (by decide) ?_
      exact m_iret F G dX5_joined_149 h
  by_cases c_11 : v0 = 60
  · replace h := h.2.2.2.2.2.1 c_11
    refine m_tsIn (k := 60) (off := 149) (tgt := 150) hx hb dX5_joined_1 c_11 (by decide) (by decide) (by decide) (by decide) ?_
    refine lv_iload_n hx hb dX5_joined_150 rfl (lv_at hl 1 rfl) ?_
    refine lv_iload_n hx hb dX5_joined_151 rfl (lv_at hl 2 rfl) ?_
    refine lv_icmp_ge (tgt := 159) hx hb dX5_joined_152 (by decide) (fun c_12 => ?_) (fun c_12 => ?_)
    · replace h := h.1 c_12
      refine lv_iconst (v := 0) hx hb dX5_joined_159 (by decide) ?_
      exact m_iret F G dX5_joined_160 h
    · replace h := h.2 c_12
      refine lv_iconst (v := 1) hx hb dX5_joined_155 (by decide) ?_
      refine lv_goto (tgt := 160) hx hb dX5_joined_156 (by decide) ?_
      exact m_iret F G dX5_joined_160 h
  by_cases c_13 : v0 = 61
  · replace h := h.2.2.2.2.2.2.1 c_13
    refine m_tsIn (k := 61) (off := 171) (tgt := 172) hx hb dX5_joined_1 c_13 (by decide) (by decide) (by decide) (by decide) ?_
    refine lv_iload_n hx hb dX5_joined_172 rfl (lv_at hl 1 rfl) ?_
    refine lv_iload_n hx hb dX5_joined_173 rfl (lv_at hl 2 rfl) ?_
    refine lv_icmp_ne (tgt := 181) hx hb dX5_joined_174 (by decide) (fun c_14 => ?_) (fun c_14 => ?_)
    · replace h := h.1 c_14
      refine lv_iconst (v := 0) hx hb dX5_joined_181 (by decide) ?_
      exact m_iret F G dX5_joined_182 h
    · replace h := h.2 c_14
      refine lv_iconst (v := 1) hx hb dX5_joined_177 (by decide) ?_
      refine lv_goto (tgt := 182) hx hb dX5_joined_178 (by decide) ?_
      exact m_iret F G dX5_joined_182 h
  by_cases c_15 : v0 = 62
  · replace h := h.2.2.2.2.2.2.2.1 c_15
    refine m_tsIn (k := 62) (off := 160) (tgt := 161) hx hb dX5_joined_1 c_15 (by decide) (by decide) (by decide) (by decide) ?_
    refine lv_iload_n hx hb dX5_joined_161 rfl (lv_at hl 1 rfl) ?_
    refine lv_iload_n hx hb dX5_joined_162 rfl (lv_at hl 2 rfl) ?_
    refine lv_icmp_le (tgt := 170) hx hb dX5_joined_163 (by decide) (fun c_16 => ?_) (fun c_16 => ?_)
    · replace h := h.1 c_16
      refine lv_iconst (v := 0) hx hb dX5_joined_170 (by decide) ?_
      exact m_iret F G dX5_joined_171 h
    · replace h := h.2 c_16
      refine lv_iconst (v := 1) hx hb dX5_joined_166 (by decide) ?_
      refine lv_goto (tgt := 171) hx hb dX5_joined_167 (by decide) ?_
      exact m_iret F G dX5_joined_171 h
  replace h := h.2.2.2.2.2.2.2.2 c_1 c_4 c_5 c_6 c_7 c_11 c_13 c_15
  refine m_tsD (ks := [38, 42, 43, 45, 47, 60, 61, 62]) (tgt := 197) hx hb dX5_joined_1 (tk_cons c_1 (by decide) (tk_cons c_4 (by decide) (tk_cons c_5 (by decide) (tk_cons c_6 (by decide) (tk_cons c_7 (by decide) (tk_cons c_11 (by decide) (tk_cons c_13 (by decide) (tk_cons c_15 (by decide) tk_nil)))))))) (by decide) (by decide) ?_
  refine lv_iload_n hx hb dX5_joined_197 rfl (lv_at hl 1 rfl) ?_
  refine lv_if_ne (tgt := 205) hx hb dX5_joined_198 (by decide) (fun c_17 => ?_) (fun c_17 => ?_)
  · replace h := h.1 c_17
    exact wM_joined_p205 F  I  G (lv_sub hl [] rfl) h
  · replace h := h.2 c_17
    refine lv_iload_n hx hb dX5_joined_201 rfl (lv_at hl 2 rfl) ?_
    refine lv_if_eq (tgt := 209) hx hb dX5_joined_202 (by decide) (fun c_18 => ?_) (fun c_18 => ?_)
    · replace h := h.1 c_18
      refine lv_iconst (v := 0) hx hb dX5_joined_209 (by decide) ?_
      exact m_iret F G dX5_joined_210 h
    · replace h := h.2 c_18
      exact wM_joined_p205 F  I  G (lv_sub hl [] rfl) h
set_option maxHeartbeats 4000000 in
set_option maxRecDepth 100000 in
theorem kM_joined {p : Program} {l : Launch} {e : Env} {s : State} {m : MethodId} {R : Room} {args : Array Value} {below : List Frame} {meth : Method} {c : Code} {D : va_G} {cl : List vw_C} {a : Nat → Nat} {d : ClassId} {A : Nat → Prop} {Q : State → Prop} {cc : ByteArray} {nL pc : Nat} {ret : Option FieldType} {ls : Array Slot} {rest : List Value} {v0 : Int32} {v1 : Int32} {v2 : Int32} {I : St} {H : Heap} {locs : List Loc} {Q1 : Int32 → St → Prop} (F : FM p s m meth c args D cl d A cc nL ret) (G : GM D cl a d A s.heap I H locs) (hsz : ls.size = nL) (hR : rmX5_joined.frames + 1 ≤ R.frames ∧ 8 + (3 + 11) + rmX5_joined.locals ≤ R.locals) (hW : (rest.map fun v => v.category).sum ≤ 8) (hd : decode cc pc = .ok (.invokestatic 292, 3)) (h : M_joined v0 v1 v2 I Q1) (k : ∀ (r : Int32) (I1 : St) (H : Heap) (locs : List Loc), GM D cl a d A s.heap I1 H locs → Q1 r I1 → W p l e R s m args below meth c H locs 0 0 Q (F0 m (pc + 3) ls (.int r :: rest))) : W p l e R s m args below meth c H locs 0 0 Q (F0 m pc ls (.int v2 :: .int v1 :: .int v0 :: rest)) := by
  obtain ⟨hx, hb, hr, hml, hown, hts, hlocks, hA, hK, hcl⟩ := id F
  exact m_callSi (As := [.int v0, .int v1, .int v2]) F G hsz (wM_joined hcl H.size v0 v1 v2 I Q1 h) (va_cwS 3 hts (lw_S q1346 q1347 q90 q1348) rfl rfl rfl (by decide +kernel) hR) rfl rfl hW hd k
/-! worked -/
def M_worked_p157 (Q : Int32 → St → Prop) (K4 : Int32 → Int32 → St → Prop) (v1 : Int32) (v2 : Int32) (v3 : Int32) (I : St) : Prop := K4 v2 (v3 + 1) I
def M_worked_p123 (Q : Int32 → St → Prop) (K4 : Int32 → Int32 → St → Prop) (v1 : Int32) (v2 : Int32) (v3 : Int32) (t0 : Int32) (t1 : Int32) (I : St) : Prop := vp_in t1 100 ∧ (M_worked_p157 Q K4 v1 v2 v3 (sA I 16 t1 t0))
def M_worked_p86 (Q : Int32 → St → Prop) (K4 : Int32 → Int32 → St → Prop) (v1 : Int32) (v2 : Int32) (v3 : Int32) (t0 : Int32) (t1 : Int32) (I : St) : Prop := vp_in t1 100 ∧ (M_worked_p157 Q K4 v1 (v2 + 1) v3 (sA I 16 t1 t0))
def M_worked_L4 (Q : Int32 → St → Prop)  (v1 : Int32) : Nat → Int32 → Int32 → St → Prop
  | 0, _, _, _ => False
  | n + 1, v2, v3, I => M_textAt v1 I (fun r_1 I_2 => vp_in (r_1 + 2) 3040 ∧ (((I_2 1 ((r_1 + 2).toNatClampNeg)) ≤ v3 → Q (I_2 16 0) I_2) ∧ (¬ (I_2 1 ((r_1 + 2).toNatClampNeg)) ≤ v3 → M_textAt v1 I_2 (fun r_5 I_6 => vp_in ((r_5 + 4) + (2 * v3)) 3040 ∧ (∀ x_8 : Int32, x_8 = (I_6 1 (((r_5 + 4) + (2 * v3)).toNatClampNeg)) → M_textAt v1 I_6 (fun r_9 I_10 => vp_in (((r_9 + 4) + (2 * v3)) + 1) 3040 ∧ (∀ x_12 : Int32, x_12 = (I_10 1 ((((r_9 + 4) + (2 * v3)) + 1).toNatClampNeg)) → (x_8 = 2 → (¬ x_12 = 33 → vp_in ((v2 + (-1)) - 1) 100 ∧ (vp_in (v2 + (-1)) 100 ∧ (M_joined x_12 (I_10 16 (((v2 + (-1)) - 1).toNatClampNeg)) (I_10 16 ((v2 + (-1)).toNatClampNeg)) I_10 (fun r_17 I_18 => vp_in ((v2 + (-1)) - 1) 100 ∧ (M_worked_p157 Q (fun v2_ v3_ I_ => M_worked_L4 Q v1 n v2_ v3_ I_) v1 (v2 + (-1)) v3 (sA I_18 16 ((v2 + (-1)) - 1) r_17)))))) ∧ (x_12 = 33 → vp_in (v2 - 1) 100 ∧ ((¬ (I_10 16 ((v2 - 1).toNatClampNeg)) = 0 → M_worked_p123 Q (fun v2_ v3_ I_ => M_worked_L4 Q v1 n v2_ v3_ I_) v1 v2 v3 0 (v2 - 1) I_10) ∧ ((I_10 16 ((v2 - 1).toNatClampNeg)) = 0 → M_worked_p123 Q (fun v2_ v3_ I_ => M_worked_L4 Q v1 n v2_ v3_ I_) v1 v2 v3 1 (v2 - 1) I_10)))) ∧ (¬ x_8 = 2 → (¬ x_8 = 0 → vp_in x_12 128 ∧ (M_worked_p86 Q (fun v2_ v3_ I_ => M_worked_L4 Q v1 n v2_ v3_ I_) v1 v2 v3 (I_10 15 (x_12.toNatClampNeg)) v2 I_10)) ∧ (x_8 = 0 → M_worked_p86 Q (fun v2_ v3_ I_ => M_worked_L4 Q v1 n v2_ v3_ I_) v1 v2 v3 x_12 v2 I_10)))))))))
def M_worked (v1 : Int32) (I : St) (Q : Int32 → St → Prop) : Prop := ∃ k4, M_worked_L4 Q v1 k4 0 0 I
abbrev rmX5_worked : Room := { frames := 1, cells := 0, slots := 0, locals := 22 }
set_option maxHeartbeats 4000000 in
set_option maxRecDepth 100000 in
theorem wM_worked_p157 {p : Program} {l : Launch} {e : Env} {s : State} {m : MethodId} {args : Array Value} {below : List Frame} {meth : Method} {c : Code} {D : va_G} {cl : List vw_C} {a : Nat → Nat} {d : ClassId} {A : Nat → Prop} {Q : Int32 → St → Prop} {K4 : Int32 → Int32 → St → Prop} (F : FM p s m meth c args D cl d A cX5_worked 6 (some .int)) (v1 : Int32) (v2 : Int32) (v3 : Int32) (I : St) (hK4 : ∀ (v2 : Int32) (v3 : Int32) (I : St) (H : Heap) (locs : List Loc) (ls : Array Slot), GM D cl a d A s.heap I H locs → lv_has ls 6 [(0, .ref (a 0)), (1, .int v1), (2, .int v2), (3, .int v3)] → K4 v2 v3 I → wMi p l e rmX5_worked s m args below meth c D cl a d A Q H locs (F0 m 4 ls [])) {H : Heap} {locs : List Loc} {ls : Array Slot} (G : GM D cl a d A s.heap I H locs) (hl : lv_has ls 6 [(0, .ref (a 0)), (1, .int v1), (2, .int v2), (3, .int v3)]) (h : M_worked_p157 Q K4 v1 v2 v3 I) : wMi p l e rmX5_worked s m args below meth c D cl a d A Q H locs (F0 m 157 ls []) := by
  obtain ⟨hx, hb, hr, hml, hown, hts, hlocks, hA, hK, hcl⟩ := id F
  unfold M_worked_p157 at h
  refine lv_iinc (v := (v3 + 1)) (lv' := [(3, .int (v3 + 1)), (0, .ref (a 0)), (1, .int v1), (2, .int v2)]) hx hb dX5_worked_157 hl (k := 3) rfl rfl (by decide) rfl (fun ls hl => ?_)
  refine lv_goto (tgt := 4) hx hb dX5_worked_160 (by decide) ?_
  exact hK4 v2 (v3 + 1) I _ _ _ G (lv_sub hl [1, 2, 3, 0] rfl) h
set_option maxHeartbeats 4000000 in
set_option maxRecDepth 100000 in
theorem wM_worked_p123 {p : Program} {l : Launch} {e : Env} {s : State} {m : MethodId} {args : Array Value} {below : List Frame} {meth : Method} {c : Code} {D : va_G} {cl : List vw_C} {a : Nat → Nat} {d : ClassId} {A : Nat → Prop} {Q : Int32 → St → Prop} {K4 : Int32 → Int32 → St → Prop} (F : FM p s m meth c args D cl d A cX5_worked 6 (some .int)) (v1 : Int32) (v2 : Int32) (v3 : Int32) (t0 : Int32) (t1 : Int32) (I : St) (hK4 : ∀ (v2 : Int32) (v3 : Int32) (I : St) (H : Heap) (locs : List Loc) (ls : Array Slot), GM D cl a d A s.heap I H locs → lv_has ls 6 [(0, .ref (a 0)), (1, .int v1), (2, .int v2), (3, .int v3)] → K4 v2 v3 I → wMi p l e rmX5_worked s m args below meth c D cl a d A Q H locs (F0 m 4 ls [])) {H : Heap} {locs : List Loc} {ls : Array Slot} (G : GM D cl a d A s.heap I H locs) (hl : lv_has ls 6 [(0, .ref (a 0)), (1, .int v1), (2, .int v2), (3, .int v3)]) (h : M_worked_p123 Q K4 v1 v2 v3 t0 t1 I) : wMi p l e rmX5_worked s m args below meth c D cl a d A Q H locs (F0 m 123 ls [.int t0, .int t1, .ref (a 16)]) := by
  obtain ⟨hx, hb, hr, hml, hown, hts, hlocks, hA, hK, hcl⟩ := id F
  unfold M_worked_p123 at h
  obtain ⟨b_24, h⟩ := h
  refine m_st F G mA_16 b_24 dX5_worked_123 (fun H locs G => ?_)
  refine lv_goto (tgt := 157) hx hb dX5_worked_124 (by decide) ?_
  exact wM_worked_p157 F v1 v2 v3 (sA I 16 t1 t0) hK4 G (lv_sub hl [0, 1, 2, 3] rfl) h
set_option maxHeartbeats 4000000 in
set_option maxRecDepth 100000 in
theorem wM_worked_p86 {p : Program} {l : Launch} {e : Env} {s : State} {m : MethodId} {args : Array Value} {below : List Frame} {meth : Method} {c : Code} {D : va_G} {cl : List vw_C} {a : Nat → Nat} {d : ClassId} {A : Nat → Prop} {Q : Int32 → St → Prop} {K4 : Int32 → Int32 → St → Prop} (F : FM p s m meth c args D cl d A cX5_worked 6 (some .int)) (v1 : Int32) (v2 : Int32) (v3 : Int32) (t0 : Int32) (t1 : Int32) (I : St) (hK4 : ∀ (v2 : Int32) (v3 : Int32) (I : St) (H : Heap) (locs : List Loc) (ls : Array Slot), GM D cl a d A s.heap I H locs → lv_has ls 6 [(0, .ref (a 0)), (1, .int v1), (2, .int v2), (3, .int v3)] → K4 v2 v3 I → wMi p l e rmX5_worked s m args below meth c D cl a d A Q H locs (F0 m 4 ls [])) {H : Heap} {locs : List Loc} {ls : Array Slot} (G : GM D cl a d A s.heap I H locs) (hl : lv_has ls 6 [(0, .ref (a 0)), (1, .int v1), (2, .int v2), (3, .int v3)]) (h : M_worked_p86 Q K4 v1 v2 v3 t0 t1 I) : wMi p l e rmX5_worked s m args below meth c D cl a d A Q H locs (F0 m 86 ls [.int t0, .int t1, .ref (a 16)]) := by
  obtain ⟨hx, hb, hr, hml, hown, hts, hlocks, hA, hK, hcl⟩ := id F
  unfold M_worked_p86 at h
  obtain ⟨b_25, h⟩ := h
  refine m_st F G mA_16 b_25 dX5_worked_86 (fun H locs G => ?_)
  refine lv_iinc (v := (v2 + 1)) (lv' := [(2, .int (v2 + 1)), (0, .ref (a 0)), (1, .int v1), (3, .int v3)]) hx hb dX5_worked_87 hl (k := 2) rfl rfl (by decide) rfl (fun ls hl => ?_)
  refine lv_goto (tgt := 157) hx hb dX5_worked_90 (by decide) ?_
  exact wM_worked_p157 F v1 (v2 + 1) v3 (sA I 16 t1 t0) hK4 G (lv_sub hl [1, 2, 0, 3] rfl) h
set_option maxHeartbeats 4000000 in
set_option maxRecDepth 100000 in
theorem wM_worked_L4 {p : Program} {l : Launch} {e : Env} {s : State} {m : MethodId} {args : Array Value} {below : List Frame} {meth : Method} {c : Code} {D : va_G} {cl : List vw_C} {a : Nat → Nat} {d : ClassId} {A : Nat → Prop} {Q : Int32 → St → Prop}  (F : FM p s m meth c args D cl d A cX5_worked 6 (some .int)) (v1 : Int32)  :
    ∀ (n : Nat) (v2 : Int32) (v3 : Int32) (I : St) (H : Heap) (locs : List Loc) (ls : Array Slot), GM D cl a d A s.heap I H locs → lv_has ls 6 [(0, .ref (a 0)), (1, .int v1), (2, .int v2), (3, .int v3)] → M_worked_L4 Q v1 n v2 v3 I → wMi p l e rmX5_worked s m args below meth c D cl a d A Q H locs (F0 m 4 ls []) := by
  obtain ⟨hx, hb, hr, hml, hown, hts, hlocks, hA, hK, hcl⟩ := id F
  intro n
  induction n with
  | zero => intro v2 v3 I H locs ls G hl h; exact absurd h (fun q => q)
  | succ n ih =>
    intro v2 v3 I H locs ls G hl h
    unfold M_worked_L4 at h
    refine lv_iload_n hx hb dX5_worked_4 rfl (lv_at hl 3 rfl) ?_
    refine lv_aload_n hx hb dX5_worked_5 rfl (lv_at hl 0 rfl) ?_
    refine mg_s F G dX5_worked_6 ?_
    refine lv_aload_n hx hb dX5_worked_9 rfl (lv_at hl 0 rfl) ?_
    refine lv_iload_n hx hb dX5_worked_10 rfl (lv_at hl 1 rfl) ?_
    refine kM_textAt F G hl.1 ⟨Nat.le_of_ble_eq_true rfl, Nat.le_of_ble_eq_true rfl⟩ (Nat.le_of_ble_eq_true rfl) dX5_worked_11 h (fun r_1 I_2 H locs G h => ?_)
    refine lv_iconst (v := 2) hx hb dX5_worked_14 (by decide) ?_
    refine lv_iadd hx hb dX5_worked_15 ?_
    obtain ⟨b_3, h⟩ := h
    refine m_ld F G mA_1 b_3 dX5_worked_16 ?_
    refine lv_icmp_ge (tgt := 163) hx hb dX5_worked_17 (by decide) (fun c_4 => ?_) (fun c_4 => ?_)
    · replace h := h.1 c_4
      refine lv_aload_n hx hb dX5_worked_163 rfl (lv_at hl 0 rfl) ?_
      refine mg_pile F G dX5_worked_164 ?_
      refine lv_iconst (v := 0) hx hb dX5_worked_167 (by decide) ?_
      refine m_ld F G mA_16 (by unfold vp_in; decide) dX5_worked_168 ?_
      exact m_iret F G dX5_worked_169 h
    · replace h := h.2 c_4
      refine lv_aload_n hx hb dX5_worked_20 rfl (lv_at hl 0 rfl) ?_
      refine mg_s F G dX5_worked_21 ?_
      refine lv_aload_n hx hb dX5_worked_24 rfl (lv_at hl 0 rfl) ?_
      refine lv_iload_n hx hb dX5_worked_25 rfl (lv_at hl 1 rfl) ?_
      refine kM_textAt F G hl.1 ⟨Nat.le_of_ble_eq_true rfl, Nat.le_of_ble_eq_true rfl⟩ (Nat.le_of_ble_eq_true rfl) dX5_worked_26 h (fun r_5 I_6 H locs G h => ?_)
      refine lv_iconst (v := 4) hx hb dX5_worked_29 (by decide) ?_
      refine lv_iadd hx hb dX5_worked_30 ?_
      refine lv_iconst (v := 2) hx hb dX5_worked_31 (by decide) ?_
      refine lv_iload_n hx hb dX5_worked_32 rfl (lv_at hl 3 rfl) ?_
      refine lv_imul hx hb dX5_worked_33 ?_
      refine lv_iadd hx hb dX5_worked_34 ?_
      obtain ⟨b_7, h⟩ := h
      refine m_ld F G mA_1 b_7 dX5_worked_35 ?_
      refine lv_topi (fun x_8 ex_8 => ?_)
      replace h := h x_8 ex_8
      refine lv_istore (lv' := [(4, .int x_8), (0, .ref (a 0)), (1, .int v1), (2, .int v2), (3, .int v3)]) hx hb dX5_worked_36 hl (by decide) rfl (fun ls hl => ?_)
      refine lv_aload_n hx hb dX5_worked_38 rfl (lv_at hl 1 rfl) ?_
      refine mg_s F G dX5_worked_39 ?_
      refine lv_aload_n hx hb dX5_worked_42 rfl (lv_at hl 1 rfl) ?_
      refine lv_iload_n hx hb dX5_worked_43 rfl (lv_at hl 2 rfl) ?_
      refine kM_textAt F G hl.1 ⟨Nat.le_of_ble_eq_true rfl, Nat.le_of_ble_eq_true rfl⟩ (Nat.le_of_ble_eq_true rfl) dX5_worked_44 h (fun r_9 I_10 H locs G h => ?_)
      refine lv_iconst (v := 4) hx hb dX5_worked_47 (by decide) ?_
      refine lv_iadd hx hb dX5_worked_48 ?_
      refine lv_iconst (v := 2) hx hb dX5_worked_49 (by decide) ?_
      refine lv_iload_n hx hb dX5_worked_50 rfl (lv_at hl 4 rfl) ?_
      refine lv_imul hx hb dX5_worked_51 ?_
      refine lv_iadd hx hb dX5_worked_52 ?_
      refine lv_iconst (v := 1) hx hb dX5_worked_53 (by decide) ?_
      refine lv_iadd hx hb dX5_worked_54 ?_
      obtain ⟨b_11, h⟩ := h
      refine m_ld F G mA_1 b_11 dX5_worked_55 ?_
      refine lv_topi (fun x_12 ex_12 => ?_)
      replace h := h x_12 ex_12
      refine lv_istore (lv' := [(5, .int x_12), (4, .int x_8), (0, .ref (a 0)), (1, .int v1), (2, .int v2), (3, .int v3)]) hx hb dX5_worked_56 hl (by decide) rfl (fun ls hl => ?_)
      refine lv_iload hx hb dX5_worked_58 (lv_at hl 1 rfl) ?_
      refine lv_iconst (v := 2) hx hb dX5_worked_60 (by decide) ?_
      refine lv_icmp_eq (tgt := 93) hx hb dX5_worked_61 (by decide) (fun c_13 => ?_) (fun c_13 => ?_)
      · replace h := h.1 c_13
        refine lv_iload hx hb dX5_worked_93 (lv_at hl 0 rfl) ?_
        refine lv_bipush (v := 33) hx hb dX5_worked_95 (by decide) ?_
        refine lv_icmp_ne (tgt := 127) hx hb dX5_worked_97 (by decide) (fun c_14 => ?_) (fun c_14 => ?_)
        · replace h := h.1 c_14
          refine lv_iinc (v := (v2 + (-1))) (lv' := [(2, .int (v2 + (-1))), (5, .int x_12), (4, .int x_8), (0, .ref (a 0)), (1, .int v1), (3, .int v3)]) hx hb dX5_worked_127 hl (k := 4) rfl rfl (by decide) rfl (fun ls hl => ?_)
          refine lv_aload_n hx hb dX5_worked_130 rfl (lv_at hl 3 rfl) ?_
          refine mg_pile F G dX5_worked_131 ?_
          refine lv_iload_n hx hb dX5_worked_134 rfl (lv_at hl 0 rfl) ?_
          refine lv_iconst (v := 1) hx hb dX5_worked_135 (by decide) ?_
          refine lv_isub hx hb dX5_worked_136 ?_
          refine lv_iload hx hb dX5_worked_137 (lv_at hl 1 rfl) ?_
          refine lv_aload_n hx hb dX5_worked_139 rfl (lv_at hl 3 rfl) ?_
          refine mg_pile F G dX5_worked_140 ?_
          refine lv_iload_n hx hb dX5_worked_143 rfl (lv_at hl 0 rfl) ?_
          refine lv_iconst (v := 1) hx hb dX5_worked_144 (by decide) ?_
          refine lv_isub hx hb dX5_worked_145 ?_
          obtain ⟨b_15, h⟩ := h
          refine m_ld F G mA_16 b_15 dX5_worked_146 ?_
          refine lv_aload_n hx hb dX5_worked_147 rfl (lv_at hl 3 rfl) ?_
          refine mg_pile F G dX5_worked_148 ?_
          refine lv_iload_n hx hb dX5_worked_151 rfl (lv_at hl 0 rfl) ?_
          obtain ⟨b_16, h⟩ := h
          refine m_ld F G mA_16 b_16 dX5_worked_152 ?_
          refine kM_joined F G hl.1 ⟨Nat.le_of_ble_eq_true rfl, Nat.le_of_ble_eq_true rfl⟩ (Nat.le_of_ble_eq_true rfl) dX5_worked_153 h (fun r_17 I_18 H locs G h => ?_)
          obtain ⟨b_19, h⟩ := h
          refine m_st F G mA_16 b_19 dX5_worked_156 (fun H locs G => ?_)
          exact wM_worked_p157 F v1 (v2 + (-1)) v3 (sA I_18 16 ((v2 + (-1)) - 1) r_17) ih G (lv_sub hl [3, 4, 0, 5] rfl) h
        · replace h := h.2 c_14
          refine lv_aload_n hx hb dX5_worked_100 rfl (lv_at hl 2 rfl) ?_
          refine mg_pile F G dX5_worked_101 ?_
          refine lv_iload_n hx hb dX5_worked_104 rfl (lv_at hl 4 rfl) ?_
          refine lv_iconst (v := 1) hx hb dX5_worked_105 (by decide) ?_
          refine lv_isub hx hb dX5_worked_106 ?_
          refine lv_aload_n hx hb dX5_worked_107 rfl (lv_at hl 2 rfl) ?_
          refine mg_pile F G dX5_worked_108 ?_
          refine lv_iload_n hx hb dX5_worked_111 rfl (lv_at hl 4 rfl) ?_
          refine lv_iconst (v := 1) hx hb dX5_worked_112 (by decide) ?_
          refine lv_isub hx hb dX5_worked_113 ?_
          obtain ⟨b_20, h⟩ := h
          refine m_ld F G mA_16 b_20 dX5_worked_114 ?_
          refine lv_if_ne (tgt := 122) hx hb dX5_worked_115 (by decide) (fun c_21 => ?_) (fun c_21 => ?_)
          · replace h := h.1 c_21
            refine lv_iconst (v := 0) hx hb dX5_worked_122 (by decide) ?_
            exact wM_worked_p123 F v1 v2 v3 0 (v2 - 1) I_10 ih G (lv_sub hl [2, 3, 4, 5] rfl) h
          · replace h := h.2 c_21
            refine lv_iconst (v := 1) hx hb dX5_worked_118 (by decide) ?_
            refine lv_goto (tgt := 123) hx hb dX5_worked_119 (by decide) ?_
            exact wM_worked_p123 F v1 v2 v3 1 (v2 - 1) I_10 ih G (lv_sub hl [2, 3, 4, 5] rfl) h
      · replace h := h.2 c_13
        refine lv_aload_n hx hb dX5_worked_64 rfl (lv_at hl 2 rfl) ?_
        refine mg_pile F G dX5_worked_65 ?_
        refine lv_iload_n hx hb dX5_worked_68 rfl (lv_at hl 4 rfl) ?_
        refine lv_iload hx hb dX5_worked_69 (lv_at hl 1 rfl) ?_
        refine lv_if_ne (tgt := 79) hx hb dX5_worked_71 (by decide) (fun c_22 => ?_) (fun c_22 => ?_)
        · replace h := h.1 c_22
          refine lv_aload_n hx hb dX5_worked_79 rfl (lv_at hl 2 rfl) ?_
          refine mg_named F G dX5_worked_80 ?_
          refine lv_iload hx hb dX5_worked_83 (lv_at hl 0 rfl) ?_
          obtain ⟨b_23, h⟩ := h
          refine m_ld F G mA_15 b_23 dX5_worked_85 ?_
          exact wM_worked_p86 F v1 v2 v3 (I_10 15 (x_12.toNatClampNeg)) v2 I_10 ih G (lv_sub hl [2, 3, 4, 5] rfl) h
        · replace h := h.2 c_22
          refine lv_iload hx hb dX5_worked_74 (lv_at hl 0 rfl) ?_
          refine lv_goto (tgt := 86) hx hb dX5_worked_76 (by decide) ?_
          exact wM_worked_p86 F v1 v2 v3 x_12 v2 I_10 ih G (lv_sub hl [2, 3, 4, 5] rfl) h
set_option maxHeartbeats 4000000 in
set_option maxRecDepth 100000 in
theorem wM_worked {l : Launch} {D : va_G} {cl : List vw_C} {a : Nat → Nat} {d : ClassId} (hcl : cl[5]? = some (RX5, TX5, 32)) (sz : Nat) (v1 : Int32) (I : St) (Q : Int32 → St → Prop) (h : M_worked v1 I Q) : MMi l D cl a d yX5_worked cX5_worked 6 .int rmX5_worked [.ref (a 0), .int v1] sz I Q := by
  refine m_enter (Qc := fun A => va_Qi Q (BM D cl a d A) A) hcl (by decide) rfl (Nat.le_of_ble_eq_true rfl) ?_
  intro p e s m below meth c ls A F hG hl
  have G := hG
  have hl : lv_has ls 6 [(0, .ref (a 0)), (1, .int v1)] := hl
  obtain ⟨hx, hb, hr, hml, hown, hts, hlocks, hA, hK, hcl⟩ := id F
  unfold M_worked at h
  refine lv_iconst (v := 0) hx hb dX5_worked_0 (by decide) ?_
  refine lv_istore_n (lv' := [(2, .int 0), (0, .ref (a 0)), (1, .int v1)]) hx hb dX5_worked_1 rfl hl (by decide) rfl (fun ls hl => ?_)
  refine lv_iconst (v := 0) hx hb dX5_worked_2 (by decide) ?_
  refine lv_istore_n (lv' := [(3, .int 0), (2, .int 0), (0, .ref (a 0)), (1, .int v1)]) hx hb dX5_worked_3 rfl hl (by decide) rfl (fun ls hl => ?_)
  obtain ⟨k4, h⟩ := h
  exact wM_worked_L4 F v1  k4 0 0 I _ _ _ G (lv_sub hl [2, 3, 1, 0] rfl) h
set_option maxHeartbeats 4000000 in
set_option maxRecDepth 100000 in
theorem kM_worked {p : Program} {l : Launch} {e : Env} {s : State} {m : MethodId} {R : Room} {args : Array Value} {below : List Frame} {meth : Method} {c : Code} {D : va_G} {cl : List vw_C} {a : Nat → Nat} {d : ClassId} {A : Nat → Prop} {Q : State → Prop} {cc : ByteArray} {nL pc : Nat} {ret : Option FieldType} {ls : Array Slot} {rest : List Value} {v1 : Int32} {I : St} {H : Heap} {locs : List Loc} {Q1 : Int32 → St → Prop} (F : FM p s m meth c args D cl d A cc nL ret) (G : GM D cl a d A s.heap I H locs) (hsz : ls.size = nL) (hR : rmX5_worked.frames + 1 ≤ R.frames ∧ 8 + (6 + 11) + rmX5_worked.locals ≤ R.locals) (hW : (rest.map fun v => v.category).sum ≤ 8) (hd : decode cc pc = .ok (.invokevirtual 96, 3)) (h : M_worked v1 I Q1) (k : ∀ (r : Int32) (I1 : St) (H : Heap) (locs : List Loc), GM D cl a d A s.heap I1 H locs → Q1 r I1 → W p l e R s m args below meth c H locs 0 0 Q (F0 m (pc + 3) ls (.int r :: rest))) : W p l e R s m args below meth c H locs 0 0 Q (F0 m pc ls (.int v1 :: .ref (a 0) :: rest)) := by
  obtain ⟨hx, hb, hr, hml, hown, hts, hlocks, hA, hK, hcl⟩ := id F
  exact m_callVi (As := [.int v1]) F G hsz (wM_worked hcl H.size v1 I Q1 h) (cwV 1 hts (lw_V q1342 q1344 qs48 q90 q1345) rfl rfl rfl (by decide +kernel) hR) rfl rfl hW hd k
/-! again -/
def M_again (v1 : Int32) (v2 : Int32) (I : St) (Q : Int32 → St → Prop) : Prop := M_counts 0 I (fun r_1 I_2 => (0 ≤ r_1 → M_of v1 1 I_2 (fun r_4 I_5 => M_of v1 2 (sA I_5 15 111 r_4) (fun r_6 I_7 => M_worked r_1 (sA (sA I_7 15 116 r_6) 15 104 v2) (fun r_8 I_9 => (1 ≤ r_8 → (r_8 ≤ 14 → Q r_8 I_9) ∧ (¬ r_8 ≤ 14 → Q 14 I_9)) ∧ (¬ 1 ≤ r_8 → Q 1 I_9))))) ∧ (¬ 0 ≤ r_1 → Q 2 I_2))
abbrev rmX5_again : Room := { frames := 2, cells := 0, slots := 0, locals := 47 }
set_option maxHeartbeats 4000000 in
set_option maxRecDepth 100000 in
theorem wM_again {l : Launch} {D : va_G} {cl : List vw_C} {a : Nat → Nat} {d : ClassId} (hcl : cl[5]? = some (RX5, TX5, 32)) (sz : Nat) (v1 : Int32) (v2 : Int32) (I : St) (Q : Int32 → St → Prop) (h : M_again v1 v2 I Q) : MMi l D cl a d yX5_again cX5_again 5 .int rmX5_again [.ref (a 0), .int v1, .int v2] sz I Q := by
  refine m_enter (Qc := fun A => va_Qi Q (BM D cl a d A) A) hcl (by decide) rfl (Nat.le_of_ble_eq_true rfl) ?_
  intro p e s m below meth c ls A F hG hl
  have G := hG
  have hl : lv_has ls 5 [(0, .ref (a 0)), (1, .int v1), (2, .int v2)] := hl
  obtain ⟨hx, hb, hr, hml, hown, hts, hlocks, hA, hK, hcl⟩ := id F
  unfold M_again at h
  refine lv_aload_n hx hb dX5_again_0 rfl (lv_at hl 0 rfl) ?_
  refine lv_iconst (v := 0) hx hb dX5_again_1 (by decide) ?_
  refine kM_counts F G hl.1 ⟨Nat.le_of_ble_eq_true rfl, Nat.le_of_ble_eq_true rfl⟩ (Nat.le_of_ble_eq_true rfl) dX5_again_2 h (fun r_1 I_2 H locs G h => ?_)
  refine lv_istore_n (lv' := [(3, .int r_1), (0, .ref (a 0)), (1, .int v1), (2, .int v2)]) hx hb dX5_again_5 rfl hl (by decide) rfl (fun ls hl => ?_)
  refine lv_iload_n hx hb dX5_again_6 rfl (lv_at hl 0 rfl) ?_
  refine lv_if_ge (tgt := 12) hx hb dX5_again_7 (by decide) (fun c_3 => ?_) (fun c_3 => ?_)
  · replace h := h.1 c_3
    refine lv_aload_n hx hb dX5_again_12 rfl (lv_at hl 1 rfl) ?_
    refine mg_named F G dX5_again_13 ?_
    refine lv_bipush (v := 111) hx hb dX5_again_16 (by decide) ?_
    refine lv_aload_n hx hb dX5_again_18 rfl (lv_at hl 1 rfl) ?_
    refine lv_iload_n hx hb dX5_again_19 rfl (lv_at hl 2 rfl) ?_
    refine lv_iconst (v := 1) hx hb dX5_again_20 (by decide) ?_
    refine kM_of F G hl.1 ⟨Nat.le_of_ble_eq_true rfl, Nat.le_of_ble_eq_true rfl⟩ (Nat.le_of_ble_eq_true rfl) dX5_again_21 h (fun r_4 I_5 H locs G h => ?_)
    refine m_st F G mA_15 (by unfold vp_in; decide) dX5_again_24 (fun H locs G => ?_)
    refine lv_aload_n hx hb dX5_again_25 rfl (lv_at hl 1 rfl) ?_
    refine mg_named F G dX5_again_26 ?_
    refine lv_bipush (v := 116) hx hb dX5_again_29 (by decide) ?_
    refine lv_aload_n hx hb dX5_again_31 rfl (lv_at hl 1 rfl) ?_
    refine lv_iload_n hx hb dX5_again_32 rfl (lv_at hl 2 rfl) ?_
    refine lv_iconst (v := 2) hx hb dX5_again_33 (by decide) ?_
    refine kM_of F G hl.1 ⟨Nat.le_of_ble_eq_true rfl, Nat.le_of_ble_eq_true rfl⟩ (Nat.le_of_ble_eq_true rfl) dX5_again_34 h (fun r_6 I_7 H locs G h => ?_)
    refine m_st F G mA_15 (by unfold vp_in; decide) dX5_again_37 (fun H locs G => ?_)
    refine lv_aload_n hx hb dX5_again_38 rfl (lv_at hl 1 rfl) ?_
    refine mg_named F G dX5_again_39 ?_
    refine lv_bipush (v := 104) hx hb dX5_again_42 (by decide) ?_
    refine lv_iload_n hx hb dX5_again_44 rfl (lv_at hl 3 rfl) ?_
    refine m_st F G mA_15 (by unfold vp_in; decide) dX5_again_45 (fun H locs G => ?_)
    refine lv_aload_n hx hb dX5_again_46 rfl (lv_at hl 1 rfl) ?_
    refine lv_iload_n hx hb dX5_again_47 rfl (lv_at hl 0 rfl) ?_
    refine kM_worked F G hl.1 ⟨Nat.le_of_ble_eq_true rfl, Nat.le_of_ble_eq_true rfl⟩ (Nat.le_of_ble_eq_true rfl) dX5_again_48 h (fun r_8 I_9 H locs G h => ?_)
    refine lv_istore (lv' := [(4, .int r_8), (3, .int r_1), (0, .ref (a 0)), (1, .int v1), (2, .int v2)]) hx hb dX5_again_51 hl (by decide) rfl (fun ls hl => ?_)
    refine lv_iload hx hb dX5_again_53 (lv_at hl 0 rfl) ?_
    refine lv_iconst (v := 1) hx hb dX5_again_55 (by decide) ?_
    refine lv_icmp_ge (tgt := 63) hx hb dX5_again_56 (by decide) (fun c_10 => ?_) (fun c_10 => ?_)
    · replace h := h.1 c_10
      refine lv_iload hx hb dX5_again_63 (lv_at hl 0 rfl) ?_
      refine lv_bipush (v := 14) hx hb dX5_again_65 (by decide) ?_
      refine lv_icmp_le (tgt := 75) hx hb dX5_again_67 (by decide) (fun c_11 => ?_) (fun c_11 => ?_)
      · replace h := h.1 c_11
        refine lv_iload hx hb dX5_again_75 (lv_at hl 0 rfl) ?_
        exact m_iret F G dX5_again_77 h
      · replace h := h.2 c_11
        refine lv_bipush (v := 14) hx hb dX5_again_70 (by decide) ?_
        refine lv_goto (tgt := 77) hx hb dX5_again_72 (by decide) ?_
        exact m_iret F G dX5_again_77 h
    · replace h := h.2 c_10
      refine lv_iconst (v := 1) hx hb dX5_again_59 (by decide) ?_
      refine lv_goto (tgt := 77) hx hb dX5_again_60 (by decide) ?_
      exact m_iret F G dX5_again_77 h
  · replace h := h.2 c_3
    refine lv_iconst (v := 2) hx hb dX5_again_10 (by decide) ?_
    exact m_iret F G dX5_again_11 h
set_option maxHeartbeats 4000000 in
set_option maxRecDepth 100000 in
theorem kM_again {p : Program} {l : Launch} {e : Env} {s : State} {m : MethodId} {R : Room} {args : Array Value} {below : List Frame} {meth : Method} {c : Code} {D : va_G} {cl : List vw_C} {a : Nat → Nat} {d : ClassId} {A : Nat → Prop} {Q : State → Prop} {cc : ByteArray} {nL pc : Nat} {ret : Option FieldType} {ls : Array Slot} {rest : List Value} {v1 : Int32} {v2 : Int32} {I : St} {H : Heap} {locs : List Loc} {Q1 : Int32 → St → Prop} (F : FM p s m meth c args D cl d A cc nL ret) (G : GM D cl a d A s.heap I H locs) (hsz : ls.size = nL) (hR : rmX5_again.frames + 1 ≤ R.frames ∧ 8 + (5 + 11) + rmX5_again.locals ≤ R.locals) (hW : (rest.map fun v => v.category).sum ≤ 8) (hd : decode cc pc = .ok (.invokevirtual 102, 3)) (h : M_again v1 v2 I Q1) (k : ∀ (r : Int32) (I1 : St) (H : Heap) (locs : List Loc), GM D cl a d A s.heap I1 H locs → Q1 r I1 → W p l e R s m args below meth c H locs 0 0 Q (F0 m (pc + 3) ls (.int r :: rest))) : W p l e R s m args below meth c H locs 0 0 Q (F0 m pc ls (.int v2 :: .int v1 :: .ref (a 0) :: rest)) := by
  obtain ⟨hx, hb, hr, hml, hown, hts, hlocks, hA, hK, hcl⟩ := id F
  exact m_callVi (As := [.int v1, .int v2]) F G hsz (wM_again hcl H.size v1 v2 I Q1 h) (cwV 2 hts (lw_V q1330 q1332 qs45 q90 q1333) rfl rfl rfl (by decide +kernel) hR) rfl rfl hW hd k
/-! atHour -/
def M_atHour (v1 : Int32) (v2 : Int32) (I : St) (Q : Int32 → St → Prop) : Prop := M_of v1 0 I (fun r_1 I_2 => (¬ r_1 = 3 → M_of v1 0 I_2 (fun r_4 I_5 => (¬ r_4 = 4 → Q v2 I_5) ∧ (r_4 = 4 → Q ((v2 / 5) + (v2 - v2 / 5 * 5)) I_5))) ∧ (r_1 = 3 → Q (v2 + 4) I_2))
abbrev rmX5_atHour : Room := { frames := 1, cells := 0, slots := 0, locals := 22 }
set_option maxHeartbeats 4000000 in
set_option maxRecDepth 100000 in
theorem wM_atHour {l : Launch} {D : va_G} {cl : List vw_C} {a : Nat → Nat} {d : ClassId} (hcl : cl[5]? = some (RX5, TX5, 32)) (sz : Nat) (v1 : Int32) (v2 : Int32) (I : St) (Q : Int32 → St → Prop) (h : M_atHour v1 v2 I Q) : MMi l D cl a d yX5_atHour cX5_atHour 3 .int rmX5_atHour [.ref (a 0), .int v1, .int v2] sz I Q := by
  refine m_enter (Qc := fun A => va_Qi Q (BM D cl a d A) A) hcl (by decide) rfl (Nat.le_of_ble_eq_true rfl) ?_
  intro p e s m below meth c ls A F hG hl
  have G := hG
  have hl : lv_has ls 3 [(0, .ref (a 0)), (1, .int v1), (2, .int v2)] := hl
  obtain ⟨hx, hb, hr, hml, hown, hts, hlocks, hA, hK, hcl⟩ := id F
  unfold M_atHour at h
  refine lv_aload_n hx hb dX5_atHour_0 rfl (lv_at hl 0 rfl) ?_
  refine lv_iload_n hx hb dX5_atHour_1 rfl (lv_at hl 1 rfl) ?_
  refine lv_iconst (v := 0) hx hb dX5_atHour_2 (by decide) ?_
  refine kM_of F G hl.1 ⟨Nat.le_of_ble_eq_true rfl, Nat.le_of_ble_eq_true rfl⟩ (Nat.le_of_ble_eq_true rfl) dX5_atHour_3 h (fun r_1 I_2 H locs G h => ?_)
  refine lv_iconst (v := 3) hx hb dX5_atHour_6 (by decide) ?_
  refine lv_icmp_ne (tgt := 16) hx hb dX5_atHour_7 (by decide) (fun c_3 => ?_) (fun c_3 => ?_)
  · replace h := h.1 c_3
    refine lv_aload_n hx hb dX5_atHour_16 rfl (lv_at hl 0 rfl) ?_
    refine lv_iload_n hx hb dX5_atHour_17 rfl (lv_at hl 1 rfl) ?_
    refine lv_iconst (v := 0) hx hb dX5_atHour_18 (by decide) ?_
    refine kM_of F G hl.1 ⟨Nat.le_of_ble_eq_true rfl, Nat.le_of_ble_eq_true rfl⟩ (Nat.le_of_ble_eq_true rfl) dX5_atHour_19 h (fun r_4 I_5 H locs G h => ?_)
    refine lv_iconst (v := 4) hx hb dX5_atHour_22 (by decide) ?_
    refine lv_icmp_ne (tgt := 36) hx hb dX5_atHour_23 (by decide) (fun c_6 => ?_) (fun c_6 => ?_)
    · replace h := h.1 c_6
      refine lv_iload_n hx hb dX5_atHour_36 rfl (lv_at hl 2 rfl) ?_
      exact m_iret F G dX5_atHour_37 h
    · replace h := h.2 c_6
      refine lv_iload_n hx hb dX5_atHour_26 rfl (lv_at hl 2 rfl) ?_
      refine lv_iconst (v := 5) hx hb dX5_atHour_27 (by decide) ?_
      refine lv_idiv hx hb dX5_atHour_28 (by decide) ?_
      refine lv_iload_n hx hb dX5_atHour_29 rfl (lv_at hl 2 rfl) ?_
      refine lv_iconst (v := 5) hx hb dX5_atHour_30 (by decide) ?_
      refine lv_irem hx hb dX5_atHour_31 (by decide) ?_
      refine lv_iadd hx hb dX5_atHour_32 ?_
      refine lv_goto (tgt := 37) hx hb dX5_atHour_33 (by decide) ?_
      exact m_iret F G dX5_atHour_37 h
  · replace h := h.2 c_3
    refine lv_iload_n hx hb dX5_atHour_10 rfl (lv_at hl 2 rfl) ?_
    refine lv_iconst (v := 4) hx hb dX5_atHour_11 (by decide) ?_
    refine lv_iadd hx hb dX5_atHour_12 ?_
    refine lv_goto (tgt := 37) hx hb dX5_atHour_13 (by decide) ?_
    exact m_iret F G dX5_atHour_37 h
set_option maxHeartbeats 4000000 in
set_option maxRecDepth 100000 in
theorem kM_atHour {p : Program} {l : Launch} {e : Env} {s : State} {m : MethodId} {R : Room} {args : Array Value} {below : List Frame} {meth : Method} {c : Code} {D : va_G} {cl : List vw_C} {a : Nat → Nat} {d : ClassId} {A : Nat → Prop} {Q : State → Prop} {cc : ByteArray} {nL pc : Nat} {ret : Option FieldType} {ls : Array Slot} {rest : List Value} {v1 : Int32} {v2 : Int32} {I : St} {H : Heap} {locs : List Loc} {Q1 : Int32 → St → Prop} (F : FM p s m meth c args D cl d A cc nL ret) (G : GM D cl a d A s.heap I H locs) (hsz : ls.size = nL) (hR : rmX5_atHour.frames + 1 ≤ R.frames ∧ 8 + (3 + 11) + rmX5_atHour.locals ≤ R.locals) (hW : (rest.map fun v => v.category).sum ≤ 8) (hd : decode cc pc = .ok (.invokevirtual 99, 3)) (h : M_atHour v1 v2 I Q1) (k : ∀ (r : Int32) (I1 : St) (H : Heap) (locs : List Loc), GM D cl a d A s.heap I1 H locs → Q1 r I1 → W p l e R s m args below meth c H locs 0 0 Q (F0 m (pc + 3) ls (.int r :: rest))) : W p l e R s m args below meth c H locs 0 0 Q (F0 m pc ls (.int v2 :: .int v1 :: .ref (a 0) :: rest)) := by
  obtain ⟨hx, hb, hr, hml, hown, hts, hlocks, hA, hK, hcl⟩ := id F
  exact m_callVi (As := [.int v1, .int v2]) F G hsz (wM_atHour hcl H.size v1 v2 I Q1 h) (cwV 2 hts (lw_V q1326 q1328 qs44 q90 q1329) rfl rfl rfl (by decide +kernel) hR) rfl rfl hW hd k
/-! strikes -/
def M_strikes_p32 (Q : Int32 → St → Prop)  (v1 : Int32) (v3 : Int32) (t0 : Int32) (I : St) : Prop := ∀ x_5 : Int32, x_5 = (v3 - v3 / 60 * 60) → (¬ x_5 = 0 → M_of v1 0 I (fun r_7 I_8 => (r_7 = 1 → (¬ (x_5 - x_5 / 15 * 15) = 0 → Q 0 I_8) ∧ ((x_5 - x_5 / 15 * 15) = 0 → Q (x_5 / 15) I_8)) ∧ (r_7 = 2 → (15 ≤ x_5 → Q 0 I_8) ∧ (¬ 15 ≤ x_5 → M_again v1 t0 I_8 (fun r_13 I_14 => (¬ x_5 = r_13 → Q 0 I_14) ∧ (x_5 = r_13 → M_atHour v1 t0 I_14 (fun r_16 I_17 => Q r_16 I_17))))) ∧ (r_7 = 3 → (¬ (x_5 - x_5 / 15 * 15) = 0 → Q 0 I_8) ∧ ((x_5 - x_5 / 15 * 15) = 0 → Q (x_5 / 15) I_8)) ∧ (r_7 = 4 → (15 ≤ x_5 → Q 0 I_8) ∧ (¬ 15 ≤ x_5 → M_again v1 t0 I_8 (fun r_22 I_23 => (¬ x_5 = r_22 → Q 0 I_23) ∧ (x_5 = r_22 → M_atHour v1 t0 I_23 (fun r_25 I_26 => Q r_25 I_26))))) ∧ (r_7 = 5 → (¬ x_5 = 30 → Q 0 I_8) ∧ (x_5 = 30 → Q 1 I_8)) ∧ (¬ r_7 = 1 → ¬ r_7 = 2 → ¬ r_7 = 3 → ¬ r_7 = 4 → ¬ r_7 = 5 → Q 0 I_8))) ∧ (x_5 = 0 → M_atHour v1 t0 I (fun r_29 I_30 => Q r_29 I_30))
def M_strikes (v1 : Int32) (v2 : Int32) (I : St) (Q : Int32 → St → Prop) : Prop := M_of v1 1 I (fun r_1 I_2 => ∀ x_3 : Int32, x_3 = (((v2 + 720) - r_1) - ((v2 + 720) - r_1) / 720 * 720) → (60 ≤ x_3 → M_strikes_p32 Q v1 x_3 (x_3 / 60) I_2) ∧ (¬ 60 ≤ x_3 → M_strikes_p32 Q v1 x_3 12 I_2))
abbrev rmX5_strikes : Room := { frames := 3, cells := 0, slots := 0, locals := 71 }
set_option maxHeartbeats 4000000 in
set_option maxRecDepth 100000 in
theorem wM_strikes_p32 {p : Program} {l : Launch} {e : Env} {s : State} {m : MethodId} {args : Array Value} {below : List Frame} {meth : Method} {c : Code} {D : va_G} {cl : List vw_C} {a : Nat → Nat} {d : ClassId} {A : Nat → Prop} {Q : Int32 → St → Prop}  (F : FM p s m meth c args D cl d A cX5_strikes 6 (some .int)) (v1 : Int32) (v3 : Int32) (t0 : Int32) (I : St)  {H : Heap} {locs : List Loc} {ls : Array Slot} (G : GM D cl a d A s.heap I H locs) (hl : lv_has ls 6 [(0, .ref (a 0)), (1, .int v1), (3, .int v3)]) (h : M_strikes_p32 Q v1 v3 t0 I) : wMi p l e rmX5_strikes s m args below meth c D cl a d A Q H locs (F0 m 32 ls [.int t0]) := by
  obtain ⟨hx, hb, hr, hml, hown, hts, hlocks, hA, hK, hcl⟩ := id F
  unfold M_strikes_p32 at h
  refine lv_istore (lv' := [(4, .int t0), (0, .ref (a 0)), (1, .int v1), (3, .int v3)]) hx hb dX5_strikes_32 hl (by decide) rfl (fun ls hl => ?_)
  refine lv_iload_n hx hb dX5_strikes_34 rfl (lv_at hl 3 rfl) ?_
  refine lv_bipush (v := 60) hx hb dX5_strikes_35 (by decide) ?_
  refine lv_irem hx hb dX5_strikes_37 (by decide) ?_
  refine lv_topi (fun x_5 ex_5 => ?_)
  replace h := h x_5 ex_5
  refine lv_istore (lv' := [(5, .int x_5), (4, .int t0), (0, .ref (a 0)), (1, .int v1), (3, .int v3)]) hx hb dX5_strikes_38 hl (by decide) rfl (fun ls hl => ?_)
  refine lv_iload hx hb dX5_strikes_40 (lv_at hl 0 rfl) ?_
  refine lv_if_ne (tgt := 53) hx hb dX5_strikes_42 (by decide) (fun c_6 => ?_) (fun c_6 => ?_)
  · replace h := h.1 c_6
    refine lv_aload_n hx hb dX5_strikes_53 rfl (lv_at hl 2 rfl) ?_
    refine lv_iload_n hx hb dX5_strikes_54 rfl (lv_at hl 3 rfl) ?_
    refine lv_iconst (v := 0) hx hb dX5_strikes_55 (by decide) ?_
    refine kM_of F G hl.1 ⟨Nat.le_of_ble_eq_true rfl, Nat.le_of_ble_eq_true rfl⟩ (Nat.le_of_ble_eq_true rfl) dX5_strikes_56 h (fun r_7 I_8 H locs G h => ?_)
    by_cases c_9 : r_7 = 1
    · replace h := h.1 c_9
      refine m_tsIn (k := 1) (off := 33) (tgt := 92) hx hb dX5_strikes_59 c_9 (by decide) (by decide) (by decide) (by decide) ?_
      refine lv_iload hx hb dX5_strikes_92 (lv_at hl 0 rfl) ?_
      refine lv_bipush (v := 15) hx hb dX5_strikes_94 (by decide) ?_
      refine lv_irem hx hb dX5_strikes_96 (by decide) ?_
      refine lv_if_ne (tgt := 108) hx hb dX5_strikes_97 (by decide) (fun c_10 => ?_) (fun c_10 => ?_)
      · replace h := h.1 c_10
        refine lv_iconst (v := 0) hx hb dX5_strikes_108 (by decide) ?_
        exact m_iret F G dX5_strikes_109 h
      · replace h := h.2 c_10
        refine lv_iload hx hb dX5_strikes_100 (lv_at hl 0 rfl) ?_
        refine lv_bipush (v := 15) hx hb dX5_strikes_102 (by decide) ?_
        refine lv_idiv hx hb dX5_strikes_104 (by decide) ?_
        refine lv_goto (tgt := 109) hx hb dX5_strikes_105 (by decide) ?_
        exact m_iret F G dX5_strikes_109 h
    by_cases c_11 : r_7 = 2
    · replace h := h.2.1 c_11
      refine m_tsIn (k := 2) (off := 64) (tgt := 123) hx hb dX5_strikes_59 c_11 (by decide) (by decide) (by decide) (by decide) ?_
      refine lv_iload hx hb dX5_strikes_123 (lv_at hl 0 rfl) ?_
      refine lv_bipush (v := 15) hx hb dX5_strikes_125 (by decide) ?_
      refine lv_icmp_ge (tgt := 152) hx hb dX5_strikes_127 (by decide) (fun c_12 => ?_) (fun c_12 => ?_)
      · replace h := h.1 c_12
        refine lv_iconst (v := 0) hx hb dX5_strikes_152 (by decide) ?_
        exact m_iret F G dX5_strikes_153 h
      · replace h := h.2 c_12
        refine lv_iload hx hb dX5_strikes_130 (lv_at hl 0 rfl) ?_
        refine lv_aload_n hx hb dX5_strikes_132 rfl (lv_at hl 2 rfl) ?_
        refine lv_iload_n hx hb dX5_strikes_133 rfl (lv_at hl 3 rfl) ?_
        refine lv_iload hx hb dX5_strikes_134 (lv_at hl 1 rfl) ?_
        refine kM_again F G hl.1 ⟨Nat.le_of_ble_eq_true rfl, Nat.le_of_ble_eq_true rfl⟩ (Nat.le_of_ble_eq_true rfl) dX5_strikes_136 h (fun r_13 I_14 H locs G h => ?_)
        refine lv_icmp_ne (tgt := 152) hx hb dX5_strikes_139 (by decide) (fun c_15 => ?_) (fun c_15 => ?_)
        · replace h := h.1 c_15
          refine lv_iconst (v := 0) hx hb dX5_strikes_152 (by decide) ?_
          exact m_iret F G dX5_strikes_153 h
        · replace h := h.2 c_15
          refine lv_aload_n hx hb dX5_strikes_142 rfl (lv_at hl 2 rfl) ?_
          refine lv_iload_n hx hb dX5_strikes_143 rfl (lv_at hl 3 rfl) ?_
          refine lv_iload hx hb dX5_strikes_144 (lv_at hl 1 rfl) ?_
          refine kM_atHour F G hl.1 ⟨Nat.le_of_ble_eq_true rfl, Nat.le_of_ble_eq_true rfl⟩ (Nat.le_of_ble_eq_true rfl) dX5_strikes_146 h (fun r_16 I_17 H locs G h => ?_)
          refine lv_goto (tgt := 153) hx hb dX5_strikes_149 (by decide) ?_
          exact m_iret F G dX5_strikes_153 h
    by_cases c_18 : r_7 = 3
    · replace h := h.2.2.1 c_18
      refine m_tsIn (k := 3) (off := 33) (tgt := 92) hx hb dX5_strikes_59 c_18 (by decide) (by decide) (by decide) (by decide) ?_
      refine lv_iload hx hb dX5_strikes_92 (lv_at hl 0 rfl) ?_
      refine lv_bipush (v := 15) hx hb dX5_strikes_94 (by decide) ?_
      refine lv_irem hx hb dX5_strikes_96 (by decide) ?_
      refine lv_if_ne (tgt := 108) hx hb dX5_strikes_97 (by decide) (fun c_19 => ?_) (fun c_19 => ?_)
      · replace h := h.1 c_19
        refine lv_iconst (v := 0) hx hb dX5_strikes_108 (by decide) ?_
        exact m_iret F G dX5_strikes_109 h
      · replace h := h.2 c_19
        refine lv_iload hx hb dX5_strikes_100 (lv_at hl 0 rfl) ?_
        refine lv_bipush (v := 15) hx hb dX5_strikes_102 (by decide) ?_
        refine lv_idiv hx hb dX5_strikes_104 (by decide) ?_
        refine lv_goto (tgt := 109) hx hb dX5_strikes_105 (by decide) ?_
        exact m_iret F G dX5_strikes_109 h
    by_cases c_20 : r_7 = 4
    · replace h := h.2.2.2.1 c_20
      refine m_tsIn (k := 4) (off := 64) (tgt := 123) hx hb dX5_strikes_59 c_20 (by decide) (by decide) (by decide) (by decide) ?_
      refine lv_iload hx hb dX5_strikes_123 (lv_at hl 0 rfl) ?_
      refine lv_bipush (v := 15) hx hb dX5_strikes_125 (by decide) ?_
      refine lv_icmp_ge (tgt := 152) hx hb dX5_strikes_127 (by decide) (fun c_21 => ?_) (fun c_21 => ?_)
      · replace h := h.1 c_21
        refine lv_iconst (v := 0) hx hb dX5_strikes_152 (by decide) ?_
        exact m_iret F G dX5_strikes_153 h
      · replace h := h.2 c_21
        refine lv_iload hx hb dX5_strikes_130 (lv_at hl 0 rfl) ?_
        refine lv_aload_n hx hb dX5_strikes_132 rfl (lv_at hl 2 rfl) ?_
        refine lv_iload_n hx hb dX5_strikes_133 rfl (lv_at hl 3 rfl) ?_
        refine lv_iload hx hb dX5_strikes_134 (lv_at hl 1 rfl) ?_
        refine kM_again F G hl.1 ⟨Nat.le_of_ble_eq_true rfl, Nat.le_of_ble_eq_true rfl⟩ (Nat.le_of_ble_eq_true rfl) dX5_strikes_136 h (fun r_22 I_23 H locs G h => ?_)
        refine lv_icmp_ne (tgt := 152) hx hb dX5_strikes_139 (by decide) (fun c_24 => ?_) (fun c_24 => ?_)
        · replace h := h.1 c_24
          refine lv_iconst (v := 0) hx hb dX5_strikes_152 (by decide) ?_
          exact m_iret F G dX5_strikes_153 h
        · replace h := h.2 c_24
          refine lv_aload_n hx hb dX5_strikes_142 rfl (lv_at hl 2 rfl) ?_
          refine lv_iload_n hx hb dX5_strikes_143 rfl (lv_at hl 3 rfl) ?_
          refine lv_iload hx hb dX5_strikes_144 (lv_at hl 1 rfl) ?_
          refine kM_atHour F G hl.1 ⟨Nat.le_of_ble_eq_true rfl, Nat.le_of_ble_eq_true rfl⟩ (Nat.le_of_ble_eq_true rfl) dX5_strikes_146 h (fun r_25 I_26 H locs G h => ?_)
          refine lv_goto (tgt := 153) hx hb dX5_strikes_149 (by decide) ?_
          exact m_iret F G dX5_strikes_153 h
    by_cases c_27 : r_7 = 5
    · replace h := h.2.2.2.2.1 c_27
      refine m_tsIn (k := 5) (off := 51) (tgt := 110) hx hb dX5_strikes_59 c_27 (by decide) (by decide) (by decide) (by decide) ?_
      refine lv_iload hx hb dX5_strikes_110 (lv_at hl 0 rfl) ?_
      refine lv_bipush (v := 30) hx hb dX5_strikes_112 (by decide) ?_
      refine lv_icmp_ne (tgt := 121) hx hb dX5_strikes_114 (by decide) (fun c_28 => ?_) (fun c_28 => ?_)
      · replace h := h.1 c_28
        refine lv_iconst (v := 0) hx hb dX5_strikes_121 (by decide) ?_
        exact m_iret F G dX5_strikes_122 h
      · replace h := h.2 c_28
        refine lv_iconst (v := 1) hx hb dX5_strikes_117 (by decide) ?_
        refine lv_goto (tgt := 122) hx hb dX5_strikes_118 (by decide) ?_
        exact m_iret F G dX5_strikes_122 h
    replace h := h.2.2.2.2.2 c_9 c_11 c_18 c_20 c_27
    refine m_tsD (ks := [1, 2, 3, 4, 5]) (tgt := 154) hx hb dX5_strikes_59 (tk_cons c_9 (by decide) (tk_cons c_11 (by decide) (tk_cons c_18 (by decide) (tk_cons c_20 (by decide) (tk_cons c_27 (by decide) tk_nil))))) (by decide) (by decide) ?_
    refine lv_iconst (v := 0) hx hb dX5_strikes_154 (by decide) ?_
    exact m_iret F G dX5_strikes_155 h
  · replace h := h.2 c_6
    refine lv_aload_n hx hb dX5_strikes_45 rfl (lv_at hl 2 rfl) ?_
    refine lv_iload_n hx hb dX5_strikes_46 rfl (lv_at hl 3 rfl) ?_
    refine lv_iload hx hb dX5_strikes_47 (lv_at hl 1 rfl) ?_
    refine kM_atHour F G hl.1 ⟨Nat.le_of_ble_eq_true rfl, Nat.le_of_ble_eq_true rfl⟩ (Nat.le_of_ble_eq_true rfl) dX5_strikes_49 h (fun r_29 I_30 H locs G h => ?_)
    exact m_iret F G dX5_strikes_52 h
set_option maxHeartbeats 4000000 in
set_option maxRecDepth 100000 in
theorem wM_strikes {l : Launch} {D : va_G} {cl : List vw_C} {a : Nat → Nat} {d : ClassId} (hcl : cl[5]? = some (RX5, TX5, 32)) (sz : Nat) (v1 : Int32) (v2 : Int32) (I : St) (Q : Int32 → St → Prop) (h : M_strikes v1 v2 I Q) : MMi l D cl a d yX5_strikes cX5_strikes 6 .int rmX5_strikes [.ref (a 0), .int v1, .int v2] sz I Q := by
  refine m_enter (Qc := fun A => va_Qi Q (BM D cl a d A) A) hcl (by decide) rfl (Nat.le_of_ble_eq_true rfl) ?_
  intro p e s m below meth c ls A F hG hl
  have G := hG
  have hl : lv_has ls 6 [(0, .ref (a 0)), (1, .int v1), (2, .int v2)] := hl
  obtain ⟨hx, hb, hr, hml, hown, hts, hlocks, hA, hK, hcl⟩ := id F
  unfold M_strikes at h
  refine lv_iload_n hx hb dX5_strikes_0 rfl (lv_at hl 2 rfl) ?_
  refine lv_sipush (v := 720) hx hb dX5_strikes_1 (by decide) ?_
  refine lv_iadd hx hb dX5_strikes_4 ?_
  refine lv_aload_n hx hb dX5_strikes_5 rfl (lv_at hl 0 rfl) ?_
  refine lv_iload_n hx hb dX5_strikes_6 rfl (lv_at hl 1 rfl) ?_
  refine lv_iconst (v := 1) hx hb dX5_strikes_7 (by decide) ?_
  refine kM_of F G hl.1 ⟨Nat.le_of_ble_eq_true rfl, Nat.le_of_ble_eq_true rfl⟩ (Nat.le_of_ble_eq_true rfl) dX5_strikes_8 h (fun r_1 I_2 H locs G h => ?_)
  refine lv_isub hx hb dX5_strikes_11 ?_
  refine lv_sipush (v := 720) hx hb dX5_strikes_12 (by decide) ?_
  refine lv_irem hx hb dX5_strikes_15 (by decide) ?_
  refine lv_topi (fun x_3 ex_3 => ?_)
  replace h := h x_3 ex_3
  refine lv_istore_n (lv' := [(3, .int x_3), (0, .ref (a 0)), (1, .int v1), (2, .int v2)]) hx hb dX5_strikes_16 rfl hl (by decide) rfl (fun ls hl => ?_)
  refine lv_iload_n hx hb dX5_strikes_17 rfl (lv_at hl 0 rfl) ?_
  refine lv_bipush (v := 60) hx hb dX5_strikes_18 (by decide) ?_
  refine lv_icmp_ge (tgt := 28) hx hb dX5_strikes_20 (by decide) (fun c_4 => ?_) (fun c_4 => ?_)
  · replace h := h.1 c_4
    refine lv_iload_n hx hb dX5_strikes_28 rfl (lv_at hl 0 rfl) ?_
    refine lv_bipush (v := 60) hx hb dX5_strikes_29 (by decide) ?_
    refine lv_idiv hx hb dX5_strikes_31 (by decide) ?_
    exact wM_strikes_p32 F v1 x_3 (x_3 / 60) I_2  G (lv_sub hl [1, 2, 0] rfl) h
  · replace h := h.2 c_4
    refine lv_bipush (v := 12) hx hb dX5_strikes_23 (by decide) ?_
    refine lv_goto (tgt := 32) hx hb dX5_strikes_25 (by decide) ?_
    exact wM_strikes_p32 F v1 x_3 12 I_2  G (lv_sub hl [1, 2, 0] rfl) h
set_option maxHeartbeats 4000000 in
set_option maxRecDepth 100000 in
theorem kM_strikes {p : Program} {l : Launch} {e : Env} {s : State} {m : MethodId} {R : Room} {args : Array Value} {below : List Frame} {meth : Method} {c : Code} {D : va_G} {cl : List vw_C} {a : Nat → Nat} {d : ClassId} {A : Nat → Prop} {Q : State → Prop} {cc : ByteArray} {nL pc : Nat} {ret : Option FieldType} {ls : Array Slot} {rest : List Value} {v1 : Int32} {v2 : Int32} {I : St} {H : Heap} {locs : List Loc} {Q1 : Int32 → St → Prop} (F : FM p s m meth c args D cl d A cc nL ret) (G : GM D cl a d A s.heap I H locs) (hsz : ls.size = nL) (hR : rmX5_strikes.frames + 1 ≤ R.frames ∧ 8 + (6 + 11) + rmX5_strikes.locals ≤ R.locals) (hW : (rest.map fun v => v.category).sum ≤ 8) (hd : decode cc pc = .ok (.invokevirtual 115, 3)) (h : M_strikes v1 v2 I Q1) (k : ∀ (r : Int32) (I1 : St) (H : Heap) (locs : List Loc), GM D cl a d A s.heap I1 H locs → Q1 r I1 → W p l e R s m args below meth c H locs 0 0 Q (F0 m (pc + 3) ls (.int r :: rest))) : W p l e R s m args below meth c H locs 0 0 Q (F0 m pc ls (.int v2 :: .int v1 :: .ref (a 0) :: rest)) := by
  obtain ⟨hx, hb, hr, hml, hown, hts, hlocks, hA, hK, hcl⟩ := id F
  exact m_callVi (As := [.int v1, .int v2]) F G hsz (wM_strikes hcl H.size v1 v2 I Q1 h) (cwV 2 hts (lw_V q1322 q1324 qs43 q90 q1325) rfl rfl rfl (by decide +kernel) hR) rfl rfl hW hd k
/-! timeNow -/
def M_timeNow  (I : St) (Q : Int32 → St → Prop) : Prop := Q ((I 1 2) - (I 1 2) / 720 * 720) I
abbrev rmX5_timeNow : Room := { frames := 0, cells := 0, slots := 0, locals := 0 }
set_option maxHeartbeats 4000000 in
set_option maxRecDepth 100000 in
theorem wM_timeNow {l : Launch} {D : va_G} {cl : List vw_C} {a : Nat → Nat} {d : ClassId} (hcl : cl[5]? = some (RX5, TX5, 32)) (sz : Nat)  (I : St) (Q : Int32 → St → Prop) (h : M_timeNow  I Q) : MMi l D cl a d yX5_timeNow cX5_timeNow 1 .int rmX5_timeNow [.ref (a 0)] sz I Q := by
  refine m_enter (Qc := fun A => va_Qi Q (BM D cl a d A) A) hcl (by decide) rfl (Nat.le_of_ble_eq_true rfl) ?_
  intro p e s m below meth c ls A F hG hl
  have G := hG
  have hl : lv_has ls 1 [(0, .ref (a 0))] := hl
  obtain ⟨hx, hb, hr, hml, hown, hts, hlocks, hA, hK, hcl⟩ := id F
  unfold M_timeNow at h
  refine lv_aload_n hx hb dX5_timeNow_0 rfl (lv_at hl 0 rfl) ?_
  refine mg_s F G dX5_timeNow_1 ?_
  refine lv_iconst (v := 2) hx hb dX5_timeNow_4 (by decide) ?_
  refine m_ld F G mA_1 (by unfold vp_in; decide) dX5_timeNow_5 ?_
  refine lv_sipush (v := 720) hx hb dX5_timeNow_6 (by decide) ?_
  refine lv_irem hx hb dX5_timeNow_9 (by decide) ?_
  exact m_iret F G dX5_timeNow_10 h
set_option maxHeartbeats 4000000 in
set_option maxRecDepth 100000 in
theorem kM_timeNow {p : Program} {l : Launch} {e : Env} {s : State} {m : MethodId} {R : Room} {args : Array Value} {below : List Frame} {meth : Method} {c : Code} {D : va_G} {cl : List vw_C} {a : Nat → Nat} {d : ClassId} {A : Nat → Prop} {Q : State → Prop} {cc : ByteArray} {nL pc : Nat} {ret : Option FieldType} {ls : Array Slot} {rest : List Value}  {I : St} {H : Heap} {locs : List Loc} {Q1 : Int32 → St → Prop} (F : FM p s m meth c args D cl d A cc nL ret) (G : GM D cl a d A s.heap I H locs) (hsz : ls.size = nL) (hR : rmX5_timeNow.frames + 1 ≤ R.frames ∧ 8 + (1 + 11) + rmX5_timeNow.locals ≤ R.locals) (hW : (rest.map fun v => v.category).sum ≤ 8) (hd : decode cc pc = .ok (.invokevirtual 111, 3)) (h : M_timeNow  I Q1) (k : ∀ (r : Int32) (I1 : St) (H : Heap) (locs : List Loc), GM D cl a d A s.heap I1 H locs → Q1 r I1 → W p l e R s m args below meth c H locs 0 0 Q (F0 m (pc + 3) ls (.int r :: rest))) : W p l e R s m args below meth c H locs 0 0 Q (F0 m pc ls (.ref (a 0) :: rest)) := by
  obtain ⟨hx, hb, hr, hml, hown, hts, hlocks, hA, hK, hcl⟩ := id F
  exact m_callVi (As := []) F G hsz (wM_timeNow hcl H.size  I Q1 h) (cwV 0 hts (lw_V q1318 q1320 qs42 q90 q1321) rfl rfl rfl (by decide +kernel) hR) rfl rfl hW hd k
/-! worth -/
def M_worth (v1 : Int32) (I : St) (Q : Int32 → St → Prop) : Prop := M_of v1 1 I (fun r_1 I_2 => M_of v1 0 I_2 (fun r_3 I_4 => (r_3 = 1 → Q (r_1 + 4) I_4) ∧ (r_3 = 2 → Q (60 - r_1) I_4) ∧ (r_3 = 3 → Q (2 * (r_1 + 4)) I_4) ∧ (r_3 = 4 → Q (55 - r_1) I_4) ∧ (r_3 = 5 → Q 2 I_4) ∧ (¬ r_3 = 1 → ¬ r_3 = 2 → ¬ r_3 = 3 → ¬ r_3 = 4 → ¬ r_3 = 5 → Q r_1 I_4)))
abbrev rmX5_worth : Room := { frames := 1, cells := 0, slots := 0, locals := 22 }
set_option maxHeartbeats 4000000 in
set_option maxRecDepth 100000 in
theorem wM_worth {l : Launch} {D : va_G} {cl : List vw_C} {a : Nat → Nat} {d : ClassId} (hcl : cl[5]? = some (RX5, TX5, 32)) (sz : Nat) (v1 : Int32) (I : St) (Q : Int32 → St → Prop) (h : M_worth v1 I Q) : MMi l D cl a d yX5_worth cX5_worth 3 .int rmX5_worth [.ref (a 0), .int v1] sz I Q := by
  refine m_enter (Qc := fun A => va_Qi Q (BM D cl a d A) A) hcl (by decide) rfl (Nat.le_of_ble_eq_true rfl) ?_
  intro p e s m below meth c ls A F hG hl
  have G := hG
  have hl : lv_has ls 3 [(0, .ref (a 0)), (1, .int v1)] := hl
  obtain ⟨hx, hb, hr, hml, hown, hts, hlocks, hA, hK, hcl⟩ := id F
  unfold M_worth at h
  refine lv_aload_n hx hb dX5_worth_0 rfl (lv_at hl 0 rfl) ?_
  refine lv_iload_n hx hb dX5_worth_1 rfl (lv_at hl 1 rfl) ?_
  refine lv_iconst (v := 1) hx hb dX5_worth_2 (by decide) ?_
  refine kM_of F G hl.1 ⟨Nat.le_of_ble_eq_true rfl, Nat.le_of_ble_eq_true rfl⟩ (Nat.le_of_ble_eq_true rfl) dX5_worth_3 h (fun r_1 I_2 H locs G h => ?_)
  refine lv_istore_n (lv' := [(2, .int r_1), (0, .ref (a 0)), (1, .int v1)]) hx hb dX5_worth_6 rfl hl (by decide) rfl (fun ls hl => ?_)
  refine lv_aload_n hx hb dX5_worth_7 rfl (lv_at hl 1 rfl) ?_
  refine lv_iload_n hx hb dX5_worth_8 rfl (lv_at hl 2 rfl) ?_
  refine lv_iconst (v := 0) hx hb dX5_worth_9 (by decide) ?_
  refine kM_of F G hl.1 ⟨Nat.le_of_ble_eq_true rfl, Nat.le_of_ble_eq_true rfl⟩ (Nat.le_of_ble_eq_true rfl) dX5_worth_10 h (fun r_3 I_4 H locs G h => ?_)
  by_cases c_5 : r_3 = 1
  · replace h := h.1 c_5
    refine m_tsIn (k := 1) (off := 35) (tgt := 48) hx hb dX5_worth_13 c_5 (by decide) (by decide) (by decide) (by decide) ?_
    refine lv_iload_n hx hb dX5_worth_48 rfl (lv_at hl 0 rfl) ?_
    refine lv_iconst (v := 4) hx hb dX5_worth_49 (by decide) ?_
    refine lv_iadd hx hb dX5_worth_50 ?_
    exact m_iret F G dX5_worth_51 h
  by_cases c_6 : r_3 = 2
  · replace h := h.2.1 c_6
    refine m_tsIn (k := 2) (off := 45) (tgt := 58) hx hb dX5_worth_13 c_6 (by decide) (by decide) (by decide) (by decide) ?_
    refine lv_bipush (v := 60) hx hb dX5_worth_58 (by decide) ?_
    refine lv_iload_n hx hb dX5_worth_60 rfl (lv_at hl 0 rfl) ?_
    refine lv_isub hx hb dX5_worth_61 ?_
    exact m_iret F G dX5_worth_62 h
  by_cases c_7 : r_3 = 3
  · replace h := h.2.2.1 c_7
    refine m_tsIn (k := 3) (off := 39) (tgt := 52) hx hb dX5_worth_13 c_7 (by decide) (by decide) (by decide) (by decide) ?_
    refine lv_iconst (v := 2) hx hb dX5_worth_52 (by decide) ?_
    refine lv_iload_n hx hb dX5_worth_53 rfl (lv_at hl 0 rfl) ?_
    refine lv_iconst (v := 4) hx hb dX5_worth_54 (by decide) ?_
    refine lv_iadd hx hb dX5_worth_55 ?_
    refine lv_imul hx hb dX5_worth_56 ?_
    exact m_iret F G dX5_worth_57 h
  by_cases c_8 : r_3 = 4
  · replace h := h.2.2.2.1 c_8
    refine m_tsIn (k := 4) (off := 50) (tgt := 63) hx hb dX5_worth_13 c_8 (by decide) (by decide) (by decide) (by decide) ?_
    refine lv_bipush (v := 55) hx hb dX5_worth_63 (by decide) ?_
    refine lv_iload_n hx hb dX5_worth_65 rfl (lv_at hl 0 rfl) ?_
    refine lv_isub hx hb dX5_worth_66 ?_
    exact m_iret F G dX5_worth_67 h
  by_cases c_9 : r_3 = 5
  · replace h := h.2.2.2.2.1 c_9
    refine m_tsIn (k := 5) (off := 55) (tgt := 68) hx hb dX5_worth_13 c_9 (by decide) (by decide) (by decide) (by decide) ?_
    refine lv_iconst (v := 2) hx hb dX5_worth_68 (by decide) ?_
    exact m_iret F G dX5_worth_69 h
  replace h := h.2.2.2.2.2 c_5 c_6 c_7 c_8 c_9
  refine m_tsD (ks := [1, 2, 3, 4, 5]) (tgt := 70) hx hb dX5_worth_13 (tk_cons c_5 (by decide) (tk_cons c_6 (by decide) (tk_cons c_7 (by decide) (tk_cons c_8 (by decide) (tk_cons c_9 (by decide) tk_nil))))) (by decide) (by decide) ?_
  refine lv_iload_n hx hb dX5_worth_70 rfl (lv_at hl 0 rfl) ?_
  exact m_iret F G dX5_worth_71 h
set_option maxHeartbeats 4000000 in
set_option maxRecDepth 100000 in
theorem kM_worth {p : Program} {l : Launch} {e : Env} {s : State} {m : MethodId} {R : Room} {args : Array Value} {below : List Frame} {meth : Method} {c : Code} {D : va_G} {cl : List vw_C} {a : Nat → Nat} {d : ClassId} {A : Nat → Prop} {Q : State → Prop} {cc : ByteArray} {nL pc : Nat} {ret : Option FieldType} {ls : Array Slot} {rest : List Value} {v1 : Int32} {I : St} {H : Heap} {locs : List Loc} {Q1 : Int32 → St → Prop} (F : FM p s m meth c args D cl d A cc nL ret) (G : GM D cl a d A s.heap I H locs) (hsz : ls.size = nL) (hR : rmX5_worth.frames + 1 ≤ R.frames ∧ 8 + (3 + 11) + rmX5_worth.locals ≤ R.locals) (hW : (rest.map fun v => v.category).sum ≤ 8) (hd : decode cc pc = .ok (.invokevirtual 118, 3)) (h : M_worth v1 I Q1) (k : ∀ (r : Int32) (I1 : St) (H : Heap) (locs : List Loc), GM D cl a d A s.heap I1 H locs → Q1 r I1 → W p l e R s m args below meth c H locs 0 0 Q (F0 m (pc + 3) ls (.int r :: rest))) : W p l e R s m args below meth c H locs 0 0 Q (F0 m pc ls (.int v1 :: .ref (a 0) :: rest)) := by
  obtain ⟨hx, hb, hr, hml, hown, hts, hlocks, hA, hK, hcl⟩ := id F
  exact m_callVi (As := [.int v1]) F G hsz (wM_worth hcl H.size v1 I Q1 h) (cwV 1 hts (lw_V q1349 q1351 qs49 q90 q1352) rfl rfl rfl (by decide +kernel) hR) rfl rfl hW hd k
/-! told -/
def M_told_p84 (Q : Int32 → St → Prop)  (v1 : Int32) (v2 : Int32) (v3 : Int32) (I : St) : Prop := (¬ v2 = 4 → M_worth v1 I (fun r_21 I_22 => Q r_21 I_22)) ∧ (v2 = 4 → Q v3 I)
def M_told_L55 (Q : Int32 → St → Prop)  (v1 : Int32) (v2 : Int32) : Nat → Int32 → Int32 → St → Prop
  | 0, _, _, _ => False
  | n + 1, v3, v4, I => (720 ≤ v4 → M_told_p84 Q v1 v2 v3 I) ∧ (¬ 720 ≤ v4 → (¬ v2 = 4 → M_told_p84 Q v1 v2 v3 I) ∧ (v2 = 4 → M_strikes v1 v4 I (fun r_17 I_18 => ∀ x_19 : Int32, x_19 = (v3 + r_17) → M_told_L55 Q v1 v2 n x_19 (v4 + 1) I_18)))
def M_told (v1 : Int32) (v2 : Int32) (I : St) (Q : Int32 → St → Prop) : Prop := M_isClock v1 I (fun r_1 I_2 => (r_1 = 0 → Q (-1000000001) I_2) ∧ (¬ r_1 = 0 → M_isIn v2.toInt64 0 5 I_2 (fun r_4 I_5 => (¬ r_4 = 0 → (3 ≤ v2 → (¬ v2 = 3 → ∃ k55, M_told_L55 Q v1 v2 k55 0 0 I_5) ∧ (v2 = 3 → M_timeNow  I_5 (fun r_9 I_10 => M_strikes v1 r_9 I_10 (fun r_11 I_12 => Q r_11 I_12)))) ∧ (¬ 3 ≤ v2 → M_of v1 v2 I_5 (fun r_13 I_14 => Q r_13 I_14))) ∧ (r_4 = 0 → Q (-1000000001) I_5))))
abbrev rmX5_told : Room := { frames := 4, cells := 0, slots := 0, locals := 96 }
set_option maxHeartbeats 4000000 in
set_option maxRecDepth 100000 in
theorem wM_told_p84 {p : Program} {l : Launch} {e : Env} {s : State} {m : MethodId} {args : Array Value} {below : List Frame} {meth : Method} {c : Code} {D : va_G} {cl : List vw_C} {a : Nat → Nat} {d : ClassId} {A : Nat → Prop} {Q : Int32 → St → Prop}  (F : FM p s m meth c args D cl d A cX5_told 5 (some .int)) (v1 : Int32) (v2 : Int32) (v3 : Int32) (I : St)  {H : Heap} {locs : List Loc} {ls : Array Slot} (G : GM D cl a d A s.heap I H locs) (hl : lv_has ls 5 [(0, .ref (a 0)), (1, .int v1), (2, .int v2), (3, .int v3)]) (h : M_told_p84 Q v1 v2 v3 I) : wMi p l e rmX5_told s m args below meth c D cl a d A Q H locs (F0 m 84 ls []) := by
  obtain ⟨hx, hb, hr, hml, hown, hts, hlocks, hA, hK, hcl⟩ := id F
  unfold M_told_p84 at h
  refine lv_iload_n hx hb dX5_told_84 rfl (lv_at hl 2 rfl) ?_
  refine lv_iconst (v := 4) hx hb dX5_told_85 (by decide) ?_
  refine lv_icmp_ne (tgt := 93) hx hb dX5_told_86 (by decide) (fun c_20 => ?_) (fun c_20 => ?_)
  · replace h := h.1 c_20
    refine lv_aload_n hx hb dX5_told_93 rfl (lv_at hl 0 rfl) ?_
    refine lv_iload_n hx hb dX5_told_94 rfl (lv_at hl 1 rfl) ?_
    refine kM_worth F G hl.1 ⟨Nat.le_of_ble_eq_true rfl, Nat.le_of_ble_eq_true rfl⟩ (Nat.le_of_ble_eq_true rfl) dX5_told_95 h (fun r_21 I_22 H locs G h => ?_)
    exact m_iret F G dX5_told_98 h
  · replace h := h.2 c_20
    refine lv_iload_n hx hb dX5_told_89 rfl (lv_at hl 3 rfl) ?_
    refine lv_goto (tgt := 98) hx hb dX5_told_90 (by decide) ?_
    exact m_iret F G dX5_told_98 h
set_option maxHeartbeats 4000000 in
set_option maxRecDepth 100000 in
theorem wM_told_L55 {p : Program} {l : Launch} {e : Env} {s : State} {m : MethodId} {args : Array Value} {below : List Frame} {meth : Method} {c : Code} {D : va_G} {cl : List vw_C} {a : Nat → Nat} {d : ClassId} {A : Nat → Prop} {Q : Int32 → St → Prop}  (F : FM p s m meth c args D cl d A cX5_told 5 (some .int)) (v1 : Int32) (v2 : Int32)  :
    ∀ (n : Nat) (v3 : Int32) (v4 : Int32) (I : St) (H : Heap) (locs : List Loc) (ls : Array Slot), GM D cl a d A s.heap I H locs → lv_has ls 5 [(0, .ref (a 0)), (1, .int v1), (2, .int v2), (3, .int v3), (4, .int v4)] → M_told_L55 Q v1 v2 n v3 v4 I → wMi p l e rmX5_told s m args below meth c D cl a d A Q H locs (F0 m 55 ls []) := by
  obtain ⟨hx, hb, hr, hml, hown, hts, hlocks, hA, hK, hcl⟩ := id F
  intro n
  induction n with
  | zero => intro v3 v4 I H locs ls G hl h; exact absurd h (fun q => q)
  | succ n ih =>
    intro v3 v4 I H locs ls G hl h
    unfold M_told_L55 at h
    refine lv_iload hx hb dX5_told_55 (lv_at hl 4 rfl) ?_
    refine lv_sipush (v := 720) hx hb dX5_told_57 (by decide) ?_
    refine lv_icmp_ge (tgt := 84) hx hb dX5_told_60 (by decide) (fun c_15 => ?_) (fun c_15 => ?_)
    · replace h := h.1 c_15
      exact wM_told_p84 F v1 v2 v3 I  G (lv_sub hl [0, 1, 2, 3] rfl) h
    · replace h := h.2 c_15
      refine lv_iload_n hx hb dX5_told_63 rfl (lv_at hl 2 rfl) ?_
      refine lv_iconst (v := 4) hx hb dX5_told_64 (by decide) ?_
      refine lv_icmp_ne (tgt := 84) hx hb dX5_told_65 (by decide) (fun c_16 => ?_) (fun c_16 => ?_)
      · replace h := h.1 c_16
        exact wM_told_p84 F v1 v2 v3 I  G (lv_sub hl [0, 1, 2, 3] rfl) h
      · replace h := h.2 c_16
        refine lv_iload_n hx hb dX5_told_68 rfl (lv_at hl 3 rfl) ?_
        refine lv_aload_n hx hb dX5_told_69 rfl (lv_at hl 0 rfl) ?_
        refine lv_iload_n hx hb dX5_told_70 rfl (lv_at hl 1 rfl) ?_
        refine lv_iload hx hb dX5_told_71 (lv_at hl 4 rfl) ?_
        refine kM_strikes F G hl.1 ⟨Nat.le_of_ble_eq_true rfl, Nat.le_of_ble_eq_true rfl⟩ (Nat.le_of_ble_eq_true rfl) dX5_told_73 h (fun r_17 I_18 H locs G h => ?_)
        refine lv_iadd hx hb dX5_told_76 ?_
        refine lv_topi (fun x_19 ex_19 => ?_)
        replace h := h x_19 ex_19
        refine lv_istore_n (lv' := [(3, .int x_19), (0, .ref (a 0)), (1, .int v1), (2, .int v2), (4, .int v4)]) hx hb dX5_told_77 rfl hl (by decide) rfl (fun ls hl => ?_)
        refine lv_iinc (v := (v4 + 1)) (lv' := [(4, .int (v4 + 1)), (3, .int x_19), (0, .ref (a 0)), (1, .int v1), (2, .int v2)]) hx hb dX5_told_78 hl (k := 4) rfl rfl (by decide) rfl (fun ls hl => ?_)
        refine lv_goto (tgt := 55) hx hb dX5_told_81 (by decide) ?_
        exact ih x_19 (v4 + 1) I_18 _ _ _ G (lv_sub hl [2, 3, 4, 1, 0] rfl) h
set_option maxHeartbeats 4000000 in
set_option maxRecDepth 100000 in
theorem wM_told {l : Launch} {D : va_G} {cl : List vw_C} {a : Nat → Nat} {d : ClassId} (hcl : cl[5]? = some (RX5, TX5, 32)) (sz : Nat) (v1 : Int32) (v2 : Int32) (I : St) (Q : Int32 → St → Prop) (h : M_told v1 v2 I Q) : MMi l D cl a d yX5_told cX5_told 5 .int rmX5_told [.ref (a 0), .int v1, .int v2] sz I Q := by
  refine m_enter (Qc := fun A => va_Qi Q (BM D cl a d A) A) hcl (by decide) rfl (Nat.le_of_ble_eq_true rfl) ?_
  intro p e s m below meth c ls A F hG hl
  have G := hG
  have hl : lv_has ls 5 [(0, .ref (a 0)), (1, .int v1), (2, .int v2)] := hl
  obtain ⟨hx, hb, hr, hml, hown, hts, hlocks, hA, hK, hcl⟩ := id F
  unfold M_told at h
  refine lv_aload_n hx hb dX5_told_0 rfl (lv_at hl 0 rfl) ?_
  refine lv_iload_n hx hb dX5_told_1 rfl (lv_at hl 1 rfl) ?_
  refine kM_isClock F G hl.1 ⟨Nat.le_of_ble_eq_true rfl, Nat.le_of_ble_eq_true rfl⟩ (Nat.le_of_ble_eq_true rfl) dX5_told_2 h (fun r_1 I_2 H locs G h => ?_)
  refine lv_if_eq (tgt := 20) hx hb dX5_told_5 (by decide) (fun c_3 => ?_) (fun c_3 => ?_)
  · replace h := h.1 c_3
    refine lv_ldc hx hb hown (hts _ q1296) dX5_told_20 ?_
    exact m_iret F G dX5_told_22 h
  · replace h := h.2 c_3
    refine lv_iload_n hx hb dX5_told_8 rfl (lv_at hl 2 rfl) ?_
    refine lv_i2l (v := v2.toInt64) hx hb dX5_told_9 rfl ?_
    refine lv_lconst (v := 0) hx hb dX5_told_10 (by decide) ?_
    refine lv_ldc2 hx hb hown (hts _ q1290) dX5_told_11 ?_
    refine kM_isIn F G hl.1 ⟨Nat.le_of_ble_eq_true rfl, Nat.le_of_ble_eq_true rfl⟩ (Nat.le_of_ble_eq_true rfl) dX5_told_14 h (fun r_4 I_5 H locs G h => ?_)
    refine lv_if_ne (tgt := 23) hx hb dX5_told_17 (by decide) (fun c_6 => ?_) (fun c_6 => ?_)
    · replace h := h.1 c_6
      refine lv_iload_n hx hb dX5_told_23 rfl (lv_at hl 2 rfl) ?_
      refine lv_iconst (v := 3) hx hb dX5_told_24 (by decide) ?_
      refine lv_icmp_ge (tgt := 35) hx hb dX5_told_25 (by decide) (fun c_7 => ?_) (fun c_7 => ?_)
      · replace h := h.1 c_7
        refine lv_iload_n hx hb dX5_told_35 rfl (lv_at hl 2 rfl) ?_
        refine lv_iconst (v := 3) hx hb dX5_told_36 (by decide) ?_
        refine lv_icmp_ne (tgt := 50) hx hb dX5_told_37 (by decide) (fun c_8 => ?_) (fun c_8 => ?_)
        · replace h := h.1 c_8
          refine lv_iconst (v := 0) hx hb dX5_told_50 (by decide) ?_
          refine lv_istore_n (lv' := [(3, .int 0), (0, .ref (a 0)), (1, .int v1), (2, .int v2)]) hx hb dX5_told_51 rfl hl (by decide) rfl (fun ls hl => ?_)
          refine lv_iconst (v := 0) hx hb dX5_told_52 (by decide) ?_
          refine lv_istore (lv' := [(4, .int 0), (3, .int 0), (0, .ref (a 0)), (1, .int v1), (2, .int v2)]) hx hb dX5_told_53 hl (by decide) rfl (fun ls hl => ?_)
          obtain ⟨k55, h⟩ := h
          exact wM_told_L55 F v1 v2  k55 0 0 I_5 _ _ _ G (lv_sub hl [2, 3, 4, 1, 0] rfl) h
        · replace h := h.2 c_8
          refine lv_aload_n hx hb dX5_told_40 rfl (lv_at hl 0 rfl) ?_
          refine lv_iload_n hx hb dX5_told_41 rfl (lv_at hl 1 rfl) ?_
          refine lv_aload_n hx hb dX5_told_42 rfl (lv_at hl 0 rfl) ?_
          refine kM_timeNow F G hl.1 ⟨Nat.le_of_ble_eq_true rfl, Nat.le_of_ble_eq_true rfl⟩ (Nat.le_of_ble_eq_true rfl) dX5_told_43 h (fun r_9 I_10 H locs G h => ?_)
          refine kM_strikes F G hl.1 ⟨Nat.le_of_ble_eq_true rfl, Nat.le_of_ble_eq_true rfl⟩ (Nat.le_of_ble_eq_true rfl) dX5_told_46 h (fun r_11 I_12 H locs G h => ?_)
          exact m_iret F G dX5_told_49 h
      · replace h := h.2 c_7
        refine lv_aload_n hx hb dX5_told_28 rfl (lv_at hl 0 rfl) ?_
        refine lv_iload_n hx hb dX5_told_29 rfl (lv_at hl 1 rfl) ?_
        refine lv_iload_n hx hb dX5_told_30 rfl (lv_at hl 2 rfl) ?_
        refine kM_of F G hl.1 ⟨Nat.le_of_ble_eq_true rfl, Nat.le_of_ble_eq_true rfl⟩ (Nat.le_of_ble_eq_true rfl) dX5_told_31 h (fun r_13 I_14 H locs G h => ?_)
        exact m_iret F G dX5_told_34 h
    · replace h := h.2 c_6
      refine lv_ldc hx hb hown (hts _ q1296) dX5_told_20 ?_
      exact m_iret F G dX5_told_22 h

/-! isOf -/
def M_isOf_p29 (Q : Int32 → St → Prop)   (I : St) : Prop := Q 1 I
def M_isOf_p19 (Q : Int32 → St → Prop)  (v0 : Int32) (v1 : Int32) (I : St) : Prop := (¬ v1 = 2 → Q 0 I) ∧ (v1 = 2 → (¬ v0 = 4 → Q 0 I) ∧ (v0 = 4 → M_isOf_p29 Q  I))
def M_isOf (v0 : Int32) (v1 : Int32) (I : St) (Q : Int32 → St → Prop) : Prop := (v0 = v1 → M_isOf_p29 Q  I) ∧ (¬ v0 = v1 → (v1 = 0 → M_isOf_p29 Q  I) ∧ (¬ v1 = 0 → (¬ v1 = 1 → M_isOf_p19 Q v0 v1 I) ∧ (v1 = 1 → (v0 = 3 → M_isOf_p29 Q  I) ∧ (¬ v0 = 3 → M_isOf_p19 Q v0 v1 I))))
abbrev rmX5_isOf : Room := { frames := 0, cells := 0, slots := 0, locals := 0 }
set_option maxHeartbeats 4000000 in
set_option maxRecDepth 100000 in
theorem wM_isOf_p29 {p : Program} {l : Launch} {e : Env} {s : State} {m : MethodId} {args : Array Value} {below : List Frame} {meth : Method} {c : Code} {D : va_G} {cl : List vw_C} {a : Nat → Nat} {d : ClassId} {A : Nat → Prop} {Q : Int32 → St → Prop}  (F : FM p s m meth c args D cl d A cX5_isOf 2 (some .boolean))  (I : St)  {H : Heap} {locs : List Loc} {ls : Array Slot} (G : GM D cl a d A s.heap I H locs) (hl : lv_has ls 2 []) (h : M_isOf_p29 Q I) : wMi p l e rmX5_isOf s m args below meth c D cl a d A Q H locs (F0 m 29 ls []) := by
  obtain ⟨hx, hb, hr, hml, hown, hts, hlocks, hA, hK, hcl⟩ := id F
  unfold M_isOf_p29 at h
  refine lv_iconst (v := 1) hx hb dX5_isOf_29 (by decide) ?_
  refine lv_goto (tgt := 34) hx hb dX5_isOf_30 (by decide) ?_
  exact m_zret F G rfl dX5_isOf_34 h
set_option maxHeartbeats 4000000 in
set_option maxRecDepth 100000 in
theorem wM_isOf_p19 {p : Program} {l : Launch} {e : Env} {s : State} {m : MethodId} {args : Array Value} {below : List Frame} {meth : Method} {c : Code} {D : va_G} {cl : List vw_C} {a : Nat → Nat} {d : ClassId} {A : Nat → Prop} {Q : Int32 → St → Prop}  (F : FM p s m meth c args D cl d A cX5_isOf 2 (some .boolean)) (v0 : Int32) (v1 : Int32) (I : St)  {H : Heap} {locs : List Loc} {ls : Array Slot} (G : GM D cl a d A s.heap I H locs) (hl : lv_has ls 2 [(0, .int v0), (1, .int v1)]) (h : M_isOf_p19 Q v0 v1 I) : wMi p l e rmX5_isOf s m args below meth c D cl a d A Q H locs (F0 m 19 ls []) := by
  obtain ⟨hx, hb, hr, hml, hown, hts, hlocks, hA, hK, hcl⟩ := id F
  unfold M_isOf_p19 at h
  refine lv_iload_n hx hb dX5_isOf_19 rfl (lv_at hl 1 rfl) ?_
  refine lv_iconst (v := 2) hx hb dX5_isOf_20 (by decide) ?_
  refine lv_icmp_ne (tgt := 33) hx hb dX5_isOf_21 (by decide) (fun c_5 => ?_) (fun c_5 => ?_)
  · replace h := h.1 c_5
    refine lv_iconst (v := 0) hx hb dX5_isOf_33 (by decide) ?_
    exact m_zret F G rfl dX5_isOf_34 h
  · replace h := h.2 c_5
    refine lv_iload_n hx hb dX5_isOf_24 rfl (lv_at hl 0 rfl) ?_
    refine lv_iconst (v := 4) hx hb dX5_isOf_25 (by decide) ?_
    refine lv_icmp_ne (tgt := 33) hx hb dX5_isOf_26 (by decide) (fun c_6 => ?_) (fun c_6 => ?_)
    · replace h := h.1 c_6
      refine lv_iconst (v := 0) hx hb dX5_isOf_33 (by decide) ?_
      exact m_zret F G rfl dX5_isOf_34 h
    · replace h := h.2 c_6
      exact wM_isOf_p29 F  I  G (lv_sub hl [] rfl) h
set_option maxHeartbeats 4000000 in
set_option maxRecDepth 100000 in
theorem wM_isOf {l : Launch} {D : va_G} {cl : List vw_C} {a : Nat → Nat} {d : ClassId} (hcl : cl[5]? = some (RX5, TX5, 32)) (sz : Nat) (v0 : Int32) (v1 : Int32) (I : St) (Q : Int32 → St → Prop) (h : M_isOf v0 v1 I Q) : MMi l D cl a d yX5_isOf cX5_isOf 2 .boolean rmX5_isOf [.int v0, .int v1] sz I Q := by
  refine m_enter (Qc := fun A => va_Qi Q (BM D cl a d A) A) hcl (by decide) rfl (Nat.le_of_ble_eq_true rfl) ?_
  intro p e s m below meth c ls A F hG hl
  have G := hG
  have hl : lv_has ls 2 [(0, .int v0), (1, .int v1)] := hl
  obtain ⟨hx, hb, hr, hml, hown, hts, hlocks, hA, hK, hcl⟩ := id F
  unfold M_isOf at h
  refine lv_iload_n hx hb dX5_isOf_0 rfl (lv_at hl 0 rfl) ?_
  refine lv_iload_n hx hb dX5_isOf_1 rfl (lv_at hl 1 rfl) ?_
  refine lv_icmp_eq (tgt := 29) hx hb dX5_isOf_2 (by decide) (fun c_1 => ?_) (fun c_1 => ?_)
  · replace h := h.1 c_1
    exact wM_isOf_p29 F  I  G (lv_sub hl [] rfl) h
  · replace h := h.2 c_1
    refine lv_iload_n hx hb dX5_isOf_5 rfl (lv_at hl 1 rfl) ?_
    refine lv_if_eq (tgt := 29) hx hb dX5_isOf_6 (by decide) (fun c_2 => ?_) (fun c_2 => ?_)
    · replace h := h.1 c_2
      exact wM_isOf_p29 F  I  G (lv_sub hl [] rfl) h
    · replace h := h.2 c_2
      refine lv_iload_n hx hb dX5_isOf_9 rfl (lv_at hl 1 rfl) ?_
      refine lv_iconst (v := 1) hx hb dX5_isOf_10 (by decide) ?_
      refine lv_icmp_ne (tgt := 19) hx hb dX5_isOf_11 (by decide) (fun c_3 => ?_) (fun c_3 => ?_)
      · replace h := h.1 c_3
        exact wM_isOf_p19 F v0 v1 I  G (lv_sub hl [0, 1] rfl) h
      · replace h := h.2 c_3
        refine lv_iload_n hx hb dX5_isOf_14 rfl (lv_at hl 0 rfl) ?_
        refine lv_iconst (v := 3) hx hb dX5_isOf_15 (by decide) ?_
        refine lv_icmp_eq (tgt := 29) hx hb dX5_isOf_16 (by decide) (fun c_4 => ?_) (fun c_4 => ?_)
        · replace h := h.1 c_4
          exact wM_isOf_p29 F  I  G (lv_sub hl [] rfl) h
        · replace h := h.2 c_4
          exact wM_isOf_p19 F v0 v1 I  G (lv_sub hl [0, 1] rfl) h
set_option maxHeartbeats 4000000 in
set_option maxRecDepth 100000 in
theorem kM_isOf {p : Program} {l : Launch} {e : Env} {s : State} {m : MethodId} {R : Room} {args : Array Value} {below : List Frame} {meth : Method} {c : Code} {D : va_G} {cl : List vw_C} {a : Nat → Nat} {d : ClassId} {A : Nat → Prop} {Q : State → Prop} {cc : ByteArray} {nL pc : Nat} {ret : Option FieldType} {ls : Array Slot} {rest : List Value} {v0 : Int32} {v1 : Int32} {I : St} {H : Heap} {locs : List Loc} {Q1 : Int32 → St → Prop} (F : FM p s m meth c args D cl d A cc nL ret) (G : GM D cl a d A s.heap I H locs) (hsz : ls.size = nL) (hR : rmX5_isOf.frames + 1 ≤ R.frames ∧ 8 + (2 + 11) + rmX5_isOf.locals ≤ R.locals) (hW : (rest.map fun v => v.category).sum ≤ 8) (hd : decode cc pc = .ok (.invokestatic 121, 3)) (h : M_isOf v0 v1 I Q1) (k : ∀ (r : Int32) (I1 : St) (H : Heap) (locs : List Loc), GM D cl a d A s.heap I1 H locs → Q1 r I1 → W p l e R s m args below meth c H locs 0 0 Q (F0 m (pc + 3) ls (.int r :: rest))) : W p l e R s m args below meth c H locs 0 0 Q (F0 m pc ls (.int v1 :: .int v0 :: rest)) := by
  obtain ⟨hx, hb, hr, hml, hown, hts, hlocks, hA, hK, hcl⟩ := id F
  exact m_callSi (As := [.int v0, .int v1]) F G hsz (wM_isOf hcl H.size v0 v1 I Q1 h) (va_cwS 2 hts (lw_S q1357 q1358 q90 q1359) rfl rfl rfl (by decide +kernel) hR) rfl rfl hW hd k
/-! as -/
def M_as (v1 : Int32) (v2 : Int32) (I : St) (Q : Int32 → St → Prop) : Prop := M_isClock v1 I (fun r_1 I_2 => (r_1 = 0 → Q (-1000000001) I_2) ∧ (¬ r_1 = 0 → M_isIn v2.toInt64 0 5 I_2 (fun r_4 I_5 => (¬ r_4 = 0 → M_of v1 0 I_5 (fun r_7 I_8 => M_isOf r_7 v2 I_8 (fun r_9 I_10 => (r_9 = 0 → Q (-1000000012) I_10) ∧ (¬ r_9 = 0 → M_of v1 2 I_10 (fun r_12 I_13 => Q r_12 I_13))))) ∧ (r_4 = 0 → Q (-1000000001) I_5))))
abbrev rmX5_as : Room := { frames := 2, cells := 0, slots := 0, locals := 46 }
set_option maxHeartbeats 4000000 in
set_option maxRecDepth 100000 in
theorem wM_as {l : Launch} {D : va_G} {cl : List vw_C} {a : Nat → Nat} {d : ClassId} (hcl : cl[5]? = some (RX5, TX5, 32)) (sz : Nat) (v1 : Int32) (v2 : Int32) (I : St) (Q : Int32 → St → Prop) (h : M_as v1 v2 I Q) : MMi l D cl a d yX5_as cX5_as 3 .int rmX5_as [.ref (a 0), .int v1, .int v2] sz I Q := by
  refine m_enter (Qc := fun A => va_Qi Q (BM D cl a d A) A) hcl (by decide) rfl (Nat.le_of_ble_eq_true rfl) ?_
  intro p e s m below meth c ls A F hG hl
  have G := hG
  have hl : lv_has ls 3 [(0, .ref (a 0)), (1, .int v1), (2, .int v2)] := hl
  obtain ⟨hx, hb, hr, hml, hown, hts, hlocks, hA, hK, hcl⟩ := id F
  unfold M_as at h
  refine lv_aload_n hx hb dX5_as_0 rfl (lv_at hl 0 rfl) ?_
  refine lv_iload_n hx hb dX5_as_1 rfl (lv_at hl 1 rfl) ?_
  refine kM_isClock F G hl.1 ⟨Nat.le_of_ble_eq_true rfl, Nat.le_of_ble_eq_true rfl⟩ (Nat.le_of_ble_eq_true rfl) dX5_as_2 h (fun r_1 I_2 H locs G h => ?_)
  refine lv_if_eq (tgt := 20) hx hb dX5_as_5 (by decide) (fun c_3 => ?_) (fun c_3 => ?_)
  · replace h := h.1 c_3
    refine lv_ldc hx hb hown (hts _ q1296) dX5_as_20 ?_
    exact m_iret F G dX5_as_22 h
  · replace h := h.2 c_3
    refine lv_iload_n hx hb dX5_as_8 rfl (lv_at hl 2 rfl) ?_
    refine lv_i2l (v := v2.toInt64) hx hb dX5_as_9 rfl ?_
    refine lv_lconst (v := 0) hx hb dX5_as_10 (by decide) ?_
    refine lv_ldc2 hx hb hown (hts _ q1290) dX5_as_11 ?_
    refine kM_isIn F G hl.1 ⟨Nat.le_of_ble_eq_true rfl, Nat.le_of_ble_eq_true rfl⟩ (Nat.le_of_ble_eq_true rfl) dX5_as_14 h (fun r_4 I_5 H locs G h => ?_)
    refine lv_if_ne (tgt := 23) hx hb dX5_as_17 (by decide) (fun c_6 => ?_) (fun c_6 => ?_)
    · replace h := h.1 c_6
      refine lv_aload_n hx hb dX5_as_23 rfl (lv_at hl 0 rfl) ?_
      refine lv_iload_n hx hb dX5_as_24 rfl (lv_at hl 1 rfl) ?_
      refine lv_iconst (v := 0) hx hb dX5_as_25 (by decide) ?_
      refine kM_of F G hl.1 ⟨Nat.le_of_ble_eq_true rfl, Nat.le_of_ble_eq_true rfl⟩ (Nat.le_of_ble_eq_true rfl) dX5_as_26 h (fun r_7 I_8 H locs G h => ?_)
      refine lv_iload_n hx hb dX5_as_29 rfl (lv_at hl 2 rfl) ?_
      refine kM_isOf F G hl.1 ⟨Nat.le_of_ble_eq_true rfl, Nat.le_of_ble_eq_true rfl⟩ (Nat.le_of_ble_eq_true rfl) dX5_as_30 h (fun r_9 I_10 H locs G h => ?_)
      refine lv_if_eq (tgt := 45) hx hb dX5_as_33 (by decide) (fun c_11 => ?_) (fun c_11 => ?_)
      · replace h := h.1 c_11
        refine lv_ldc hx hb hown (hts _ q1360) dX5_as_45 ?_
        exact m_iret F G dX5_as_47 h
      · replace h := h.2 c_11
        refine lv_aload_n hx hb dX5_as_36 rfl (lv_at hl 0 rfl) ?_
        refine lv_iload_n hx hb dX5_as_37 rfl (lv_at hl 1 rfl) ?_
        refine lv_iconst (v := 2) hx hb dX5_as_38 (by decide) ?_
        refine kM_of F G hl.1 ⟨Nat.le_of_ble_eq_true rfl, Nat.le_of_ble_eq_true rfl⟩ (Nat.le_of_ble_eq_true rfl) dX5_as_39 h (fun r_12 I_13 H locs G h => ?_)
        refine lv_goto (tgt := 47) hx hb dX5_as_42 (by decide) ?_
        exact m_iret F G dX5_as_47 h
    · replace h := h.2 c_6
      refine lv_ldc hx hb hown (hts _ q1296) dX5_as_20 ?_
      exact m_iret F G dX5_as_22 h

/-! becomes -/
def M_becomes (v1 : Int32) (v2 : Int32) (I : St) (Q : Int32 → St → Prop) : Prop := vp_in v1 3040 ∧ (∀ x_2 : Int32, x_2 = (I 1 (v1.toNatClampNeg)) → vp_in v1 3040 ∧ (Q x_2 (sA I 1 v1 v2)))
abbrev rmX5_becomes : Room := { frames := 0, cells := 0, slots := 0, locals := 0 }
set_option maxHeartbeats 4000000 in
set_option maxRecDepth 100000 in
theorem wM_becomes {l : Launch} {D : va_G} {cl : List vw_C} {a : Nat → Nat} {d : ClassId} (hcl : cl[5]? = some (RX5, TX5, 32)) (sz : Nat) (v1 : Int32) (v2 : Int32) (I : St) (Q : Int32 → St → Prop) (h : M_becomes v1 v2 I Q) : MMi l D cl a d yX5_becomes cX5_becomes 4 .int rmX5_becomes [.ref (a 0), .int v1, .int v2] sz I Q := by
  refine m_enter (Qc := fun A => va_Qi Q (BM D cl a d A) A) hcl (by decide) rfl (Nat.le_of_ble_eq_true rfl) ?_
  intro p e s m below meth c ls A F hG hl
  have G := hG
  have hl : lv_has ls 4 [(0, .ref (a 0)), (1, .int v1), (2, .int v2)] := hl
  obtain ⟨hx, hb, hr, hml, hown, hts, hlocks, hA, hK, hcl⟩ := id F
  unfold M_becomes at h
  refine lv_aload_n hx hb dX5_becomes_0 rfl (lv_at hl 0 rfl) ?_
  refine mg_s F G dX5_becomes_1 ?_
  refine lv_iload_n hx hb dX5_becomes_4 rfl (lv_at hl 1 rfl) ?_
  obtain ⟨b_1, h⟩ := h
  refine m_ld F G mA_1 b_1 dX5_becomes_5 ?_
  refine lv_topi (fun x_2 ex_2 => ?_)
  replace h := h x_2 ex_2
  refine lv_istore_n (lv' := [(3, .int x_2), (0, .ref (a 0)), (1, .int v1), (2, .int v2)]) hx hb dX5_becomes_6 rfl hl (by decide) rfl (fun ls hl => ?_)
  refine lv_aload_n hx hb dX5_becomes_7 rfl (lv_at hl 1 rfl) ?_
  refine mg_s F G dX5_becomes_8 ?_
  refine lv_iload_n hx hb dX5_becomes_11 rfl (lv_at hl 2 rfl) ?_
  refine lv_iload_n hx hb dX5_becomes_12 rfl (lv_at hl 3 rfl) ?_
  obtain ⟨b_3, h⟩ := h
  refine m_st F G mA_1 b_3 dX5_becomes_13 (fun H locs G => ?_)
  refine lv_iload_n hx hb dX5_becomes_14 rfl (lv_at hl 0 rfl) ?_
  exact m_iret F G dX5_becomes_15 h
set_option maxHeartbeats 4000000 in
set_option maxRecDepth 100000 in
theorem kM_becomes {p : Program} {l : Launch} {e : Env} {s : State} {m : MethodId} {R : Room} {args : Array Value} {below : List Frame} {meth : Method} {c : Code} {D : va_G} {cl : List vw_C} {a : Nat → Nat} {d : ClassId} {A : Nat → Prop} {Q : State → Prop} {cc : ByteArray} {nL pc : Nat} {ret : Option FieldType} {ls : Array Slot} {rest : List Value} {v1 : Int32} {v2 : Int32} {I : St} {H : Heap} {locs : List Loc} {Q1 : Int32 → St → Prop} (F : FM p s m meth c args D cl d A cc nL ret) (G : GM D cl a d A s.heap I H locs) (hsz : ls.size = nL) (hR : rmX5_becomes.frames + 1 ≤ R.frames ∧ 8 + (4 + 11) + rmX5_becomes.locals ≤ R.locals) (hW : (rest.map fun v => v.category).sum ≤ 8) (hd : decode cc pc = .ok (.invokevirtual 126, 3)) (h : M_becomes v1 v2 I Q1) (k : ∀ (r : Int32) (I1 : St) (H : Heap) (locs : List Loc), GM D cl a d A s.heap I1 H locs → Q1 r I1 → W p l e R s m args below meth c H locs 0 0 Q (F0 m (pc + 3) ls (.int r :: rest))) : W p l e R s m args below meth c H locs 0 0 Q (F0 m pc ls (.int v2 :: .int v1 :: .ref (a 0) :: rest)) := by
  obtain ⟨hx, hb, hr, hml, hown, hts, hlocks, hA, hK, hcl⟩ := id F
  exact m_callVi (As := [.int v1, .int v2]) F G hsz (wM_becomes hcl H.size v1 v2 I Q1 h) (cwV 2 hts (lw_V q1365 q1367 qs50 q90 q1368) rfl rfl rfl (by decide +kernel) hR) rfl rfl hW hd k
/-! turns -/
def M_turns (v1 : Int32) (v2 : Int32) (I : St) (Q : Int32 → St → Prop) : Prop := M_isClock v1 I (fun r_1 I_2 => (r_1 = 0 → Q (-1000000001) I_2) ∧ (¬ r_1 = 0 → M_isIn v2.toInt64 0 5 I_2 (fun r_4 I_5 => (r_4 = 0 → Q (-1000000001) I_5) ∧ (¬ r_4 = 0 → M_becomes (10 + (3 * v1)) v2 I_5 (fun r_7 I_8 => Q r_7 I_8)))))
abbrev rmX5_turns : Room := { frames := 2, cells := 0, slots := 0, locals := 46 }
set_option maxHeartbeats 4000000 in
set_option maxRecDepth 100000 in
theorem wM_turns {l : Launch} {D : va_G} {cl : List vw_C} {a : Nat → Nat} {d : ClassId} (hcl : cl[5]? = some (RX5, TX5, 32)) (sz : Nat) (v1 : Int32) (v2 : Int32) (I : St) (Q : Int32 → St → Prop) (h : M_turns v1 v2 I Q) : MMi l D cl a d yX5_turns cX5_turns 3 .int rmX5_turns [.ref (a 0), .int v1, .int v2] sz I Q := by
  refine m_enter (Qc := fun A => va_Qi Q (BM D cl a d A) A) hcl (by decide) rfl (Nat.le_of_ble_eq_true rfl) ?_
  intro p e s m below meth c ls A F hG hl
  have G := hG
  have hl : lv_has ls 3 [(0, .ref (a 0)), (1, .int v1), (2, .int v2)] := hl
  obtain ⟨hx, hb, hr, hml, hown, hts, hlocks, hA, hK, hcl⟩ := id F
  unfold M_turns at h
  refine lv_aload_n hx hb dX5_turns_0 rfl (lv_at hl 0 rfl) ?_
  refine lv_iload_n hx hb dX5_turns_1 rfl (lv_at hl 1 rfl) ?_
  refine kM_isClock F G hl.1 ⟨Nat.le_of_ble_eq_true rfl, Nat.le_of_ble_eq_true rfl⟩ (Nat.le_of_ble_eq_true rfl) dX5_turns_2 h (fun r_1 I_2 H locs G h => ?_)
  refine lv_if_eq (tgt := 34) hx hb dX5_turns_5 (by decide) (fun c_3 => ?_) (fun c_3 => ?_)
  · replace h := h.1 c_3
    refine lv_ldc hx hb hown (hts _ q1296) dX5_turns_34 ?_
    exact m_iret F G dX5_turns_36 h
  · replace h := h.2 c_3
    refine lv_iload_n hx hb dX5_turns_8 rfl (lv_at hl 2 rfl) ?_
    refine lv_i2l (v := v2.toInt64) hx hb dX5_turns_9 rfl ?_
    refine lv_lconst (v := 0) hx hb dX5_turns_10 (by decide) ?_
    refine lv_ldc2 hx hb hown (hts _ q1290) dX5_turns_11 ?_
    refine kM_isIn F G hl.1 ⟨Nat.le_of_ble_eq_true rfl, Nat.le_of_ble_eq_true rfl⟩ (Nat.le_of_ble_eq_true rfl) dX5_turns_14 h (fun r_4 I_5 H locs G h => ?_)
    refine lv_if_eq (tgt := 34) hx hb dX5_turns_17 (by decide) (fun c_6 => ?_) (fun c_6 => ?_)
    · replace h := h.1 c_6
      refine lv_ldc hx hb hown (hts _ q1296) dX5_turns_34 ?_
      exact m_iret F G dX5_turns_36 h
    · replace h := h.2 c_6
      refine lv_aload_n hx hb dX5_turns_20 rfl (lv_at hl 0 rfl) ?_
      refine lv_bipush (v := 10) hx hb dX5_turns_21 (by decide) ?_
      refine lv_iconst (v := 3) hx hb dX5_turns_23 (by decide) ?_
      refine lv_iload_n hx hb dX5_turns_24 rfl (lv_at hl 1 rfl) ?_
      refine lv_imul hx hb dX5_turns_25 ?_
      refine lv_iadd hx hb dX5_turns_26 ?_
      refine lv_iload_n hx hb dX5_turns_27 rfl (lv_at hl 2 rfl) ?_
      refine kM_becomes F G hl.1 ⟨Nat.le_of_ble_eq_true rfl, Nat.le_of_ble_eq_true rfl⟩ (Nat.le_of_ble_eq_true rfl) dX5_turns_28 h (fun r_7 I_8 H locs G h => ?_)
      refine lv_goto (tgt := 36) hx hb dX5_turns_31 (by decide) ?_
      exact m_iret F G dX5_turns_36 h

/-! set -/
def M_set_p37 (Q : Int32 → St → Prop)  (v1 : Int32) (v2 : Int32) (v3 : Int32) (t0 : Int64) (t1 : Int64) (t2 : Int64) (I : St) : Prop := M_isIn t2 t1 t0 I (fun r_8 I_9 => (¬ r_8 = 0 → M_becomes ((10 + (3 * v1)) + v2) v3 I_9 (fun r_11 I_12 => Q r_11 I_12)) ∧ (r_8 = 0 → Q (-1000000001) I_9))
def M_set (v1 : Int32) (v2 : Int32) (v3 : Int32) (I : St) (Q : Int32 → St → Prop) : Prop := M_isClock v1 I (fun r_1 I_2 => (r_1 = 0 → Q (-1000000001) I_2) ∧ (¬ r_1 = 0 → M_isIn v2.toInt64 1 2 I_2 (fun r_4 I_5 => (r_4 = 0 → Q (-1000000001) I_5) ∧ (¬ r_4 = 0 → (¬ v2 = 1 → M_set_p37 Q v1 v2 v3 9 0 v3.toInt64 I_5) ∧ (v2 = 1 → M_set_p37 Q v1 v2 v3 59 0 v3.toInt64 I_5)))))
abbrev rmX5_set : Room := { frames := 2, cells := 0, slots := 0, locals := 46 }
set_option maxHeartbeats 4000000 in
set_option maxRecDepth 100000 in
theorem wM_set_p37 {p : Program} {l : Launch} {e : Env} {s : State} {m : MethodId} {args : Array Value} {below : List Frame} {meth : Method} {c : Code} {D : va_G} {cl : List vw_C} {a : Nat → Nat} {d : ClassId} {A : Nat → Prop} {Q : Int32 → St → Prop}  (F : FM p s m meth c args D cl d A cX5_set 4 (some .int)) (v1 : Int32) (v2 : Int32) (v3 : Int32) (t0 : Int64) (t1 : Int64) (t2 : Int64) (I : St)  {H : Heap} {locs : List Loc} {ls : Array Slot} (G : GM D cl a d A s.heap I H locs) (hl : lv_has ls 4 [(0, .ref (a 0)), (1, .int v1), (2, .int v2), (3, .int v3)]) (h : M_set_p37 Q v1 v2 v3 t0 t1 t2 I) : wMi p l e rmX5_set s m args below meth c D cl a d A Q H locs (F0 m 37 ls [.long t0, .long t1, .long t2]) := by
  obtain ⟨hx, hb, hr, hml, hown, hts, hlocks, hA, hK, hcl⟩ := id F
  unfold M_set_p37 at h
  refine kM_isIn F G hl.1 ⟨Nat.le_of_ble_eq_true rfl, Nat.le_of_ble_eq_true rfl⟩ (Nat.le_of_ble_eq_true rfl) dX5_set_37 h (fun r_8 I_9 H locs G h => ?_)
  refine lv_if_ne (tgt := 46) hx hb dX5_set_40 (by decide) (fun c_10 => ?_) (fun c_10 => ?_)
  · replace h := h.1 c_10
    refine lv_aload_n hx hb dX5_set_46 rfl (lv_at hl 0 rfl) ?_
    refine lv_bipush (v := 10) hx hb dX5_set_47 (by decide) ?_
    refine lv_iconst (v := 3) hx hb dX5_set_49 (by decide) ?_
    refine lv_iload_n hx hb dX5_set_50 rfl (lv_at hl 1 rfl) ?_
    refine lv_imul hx hb dX5_set_51 ?_
    refine lv_iadd hx hb dX5_set_52 ?_
    refine lv_iload_n hx hb dX5_set_53 rfl (lv_at hl 2 rfl) ?_
    refine lv_iadd hx hb dX5_set_54 ?_
    refine lv_iload_n hx hb dX5_set_55 rfl (lv_at hl 3 rfl) ?_
    refine kM_becomes F G hl.1 ⟨Nat.le_of_ble_eq_true rfl, Nat.le_of_ble_eq_true rfl⟩ (Nat.le_of_ble_eq_true rfl) dX5_set_56 h (fun r_11 I_12 H locs G h => ?_)
    exact m_iret F G dX5_set_59 h
  · replace h := h.2 c_10
    refine lv_ldc hx hb hown (hts _ q1296) dX5_set_43 ?_
    exact m_iret F G dX5_set_45 h
set_option maxHeartbeats 4000000 in
set_option maxRecDepth 100000 in
theorem wM_set {l : Launch} {D : va_G} {cl : List vw_C} {a : Nat → Nat} {d : ClassId} (hcl : cl[5]? = some (RX5, TX5, 32)) (sz : Nat) (v1 : Int32) (v2 : Int32) (v3 : Int32) (I : St) (Q : Int32 → St → Prop) (h : M_set v1 v2 v3 I Q) : MMi l D cl a d yX5_set cX5_set 4 .int rmX5_set [.ref (a 0), .int v1, .int v2, .int v3] sz I Q := by
  refine m_enter (Qc := fun A => va_Qi Q (BM D cl a d A) A) hcl (by decide) rfl (Nat.le_of_ble_eq_true rfl) ?_
  intro p e s m below meth c ls A F hG hl
  have G := hG
  have hl : lv_has ls 4 [(0, .ref (a 0)), (1, .int v1), (2, .int v2), (3, .int v3)] := hl
  obtain ⟨hx, hb, hr, hml, hown, hts, hlocks, hA, hK, hcl⟩ := id F
  unfold M_set at h
  refine lv_aload_n hx hb dX5_set_0 rfl (lv_at hl 0 rfl) ?_
  refine lv_iload_n hx hb dX5_set_1 rfl (lv_at hl 1 rfl) ?_
  refine kM_isClock F G hl.1 ⟨Nat.le_of_ble_eq_true rfl, Nat.le_of_ble_eq_true rfl⟩ (Nat.le_of_ble_eq_true rfl) dX5_set_2 h (fun r_1 I_2 H locs G h => ?_)
  refine lv_if_eq (tgt := 43) hx hb dX5_set_5 (by decide) (fun c_3 => ?_) (fun c_3 => ?_)
  · replace h := h.1 c_3
    refine lv_ldc hx hb hown (hts _ q1296) dX5_set_43 ?_
    exact m_iret F G dX5_set_45 h
  · replace h := h.2 c_3
    refine lv_iload_n hx hb dX5_set_8 rfl (lv_at hl 2 rfl) ?_
    refine lv_i2l (v := v2.toInt64) hx hb dX5_set_9 rfl ?_
    refine lv_lconst (v := 1) hx hb dX5_set_10 (by decide) ?_
    refine lv_ldc2 hx hb hown (hts _ q1373) dX5_set_11 ?_
    refine kM_isIn F G hl.1 ⟨Nat.le_of_ble_eq_true rfl, Nat.le_of_ble_eq_true rfl⟩ (Nat.le_of_ble_eq_true rfl) dX5_set_14 h (fun r_4 I_5 H locs G h => ?_)
    refine lv_if_eq (tgt := 43) hx hb dX5_set_17 (by decide) (fun c_6 => ?_) (fun c_6 => ?_)
    · replace h := h.1 c_6
      refine lv_ldc hx hb hown (hts _ q1296) dX5_set_43 ?_
      exact m_iret F G dX5_set_45 h
    · replace h := h.2 c_6
      refine lv_iload_n hx hb dX5_set_20 rfl (lv_at hl 3 rfl) ?_
      refine lv_i2l (v := v3.toInt64) hx hb dX5_set_21 rfl ?_
      refine lv_lconst (v := 0) hx hb dX5_set_22 (by decide) ?_
      refine lv_iload_n hx hb dX5_set_23 rfl (lv_at hl 2 rfl) ?_
      refine lv_iconst (v := 1) hx hb dX5_set_24 (by decide) ?_
      refine lv_icmp_ne (tgt := 34) hx hb dX5_set_25 (by decide) (fun c_7 => ?_) (fun c_7 => ?_)
      · replace h := h.1 c_7
        refine lv_ldc2 hx hb hown (hts _ q1295) dX5_set_34 ?_
        exact wM_set_p37 F v1 v2 v3 9 0 v3.toInt64 I_5  G (lv_sub hl [0, 1, 2, 3] rfl) h
      · replace h := h.2 c_7
        refine lv_ldc2 hx hb hown (hts _ q1294) dX5_set_28 ?_
        refine lv_goto (tgt := 37) hx hb dX5_set_31 (by decide) ?_
        exact wM_set_p37 F v1 v2 v3 59 0 v3.toInt64 I_5  G (lv_sub hl [0, 1, 2, 3] rfl) h

/-! isTime -/
def M_isTime (v0 : Int32) (I : St) (Q : Int32 → St → Prop) : Prop := M_isIn v0.toInt64 0 719 I (fun r_1 I_2 => zb r_1 ∧ Q r_1 I_2)
abbrev rmX5_isTime : Room := { frames := 1, cells := 0, slots := 0, locals := 25 }
set_option maxHeartbeats 4000000 in
set_option maxRecDepth 100000 in
theorem wM_isTime {l : Launch} {D : va_G} {cl : List vw_C} {a : Nat → Nat} {d : ClassId} (hcl : cl[5]? = some (RX5, TX5, 32)) (sz : Nat) (v0 : Int32) (I : St) (Q : Int32 → St → Prop) (h : M_isTime v0 I Q) : MMi l D cl a d yX5_isTime cX5_isTime 1 .boolean rmX5_isTime [.int v0] sz I Q := by
  refine m_enter (Qc := fun A => va_Qi Q (BM D cl a d A) A) hcl (by decide) rfl (Nat.le_of_ble_eq_true rfl) ?_
  intro p e s m below meth c ls A F hG hl
  have G := hG
  have hl : lv_has ls 1 [(0, .int v0)] := hl
  obtain ⟨hx, hb, hr, hml, hown, hts, hlocks, hA, hK, hcl⟩ := id F
  unfold M_isTime at h
  refine lv_iload_n hx hb dX5_isTime_0 rfl (lv_at hl 0 rfl) ?_
  refine lv_i2l (v := v0.toInt64) hx hb dX5_isTime_1 rfl ?_
  refine lv_lconst (v := 0) hx hb dX5_isTime_2 (by decide) ?_
  refine lv_ldc2 hx hb hown (hts _ q1381) dX5_isTime_3 ?_
  refine kM_isIn F G hl.1 ⟨Nat.le_of_ble_eq_true rfl, Nat.le_of_ble_eq_true rfl⟩ (Nat.le_of_ble_eq_true rfl) dX5_isTime_6 h (fun r_1 I_2 H locs G h => ?_)
  exact m_zret F G h.1 dX5_isTime_9 h.2
set_option maxHeartbeats 4000000 in
set_option maxRecDepth 100000 in
theorem kM_isTime {p : Program} {l : Launch} {e : Env} {s : State} {m : MethodId} {R : Room} {args : Array Value} {below : List Frame} {meth : Method} {c : Code} {D : va_G} {cl : List vw_C} {a : Nat → Nat} {d : ClassId} {A : Nat → Prop} {Q : State → Prop} {cc : ByteArray} {nL pc : Nat} {ret : Option FieldType} {ls : Array Slot} {rest : List Value} {v0 : Int32} {I : St} {H : Heap} {locs : List Loc} {Q1 : Int32 → St → Prop} (F : FM p s m meth c args D cl d A cc nL ret) (G : GM D cl a d A s.heap I H locs) (hsz : ls.size = nL) (hR : rmX5_isTime.frames + 1 ≤ R.frames ∧ 8 + (1 + 11) + rmX5_isTime.locals ≤ R.locals) (hW : (rest.map fun v => v.category).sum ≤ 8) (hd : decode cc pc = .ok (.invokestatic 131, 3)) (h : M_isTime v0 I Q1) (k : ∀ (r : Int32) (I1 : St) (H : Heap) (locs : List Loc), GM D cl a d A s.heap I1 H locs → Q1 r I1 → W p l e R s m args below meth c H locs 0 0 Q (F0 m (pc + 3) ls (.int r :: rest))) : W p l e R s m args below meth c H locs 0 0 Q (F0 m pc ls (.int v0 :: rest)) := by
  obtain ⟨hx, hb, hr, hml, hown, hts, hlocks, hA, hK, hcl⟩ := id F
  exact m_callSi (As := [.int v0]) F G hsz (wM_isTime hcl H.size v0 I Q1 h) (va_cwS 1 hts (lw_S q1378 q1379 q90 q1380) rfl rfl rfl (by decide +kernel) hR) rfl rfl hW hd k
/-! strokes -/
def M_strokes (v1 : Int32) (v2 : Int32) (I : St) (Q : Int32 → St → Prop) : Prop := M_isClock v1 I (fun r_1 I_2 => (r_1 = 0 → Q (-1000000001) I_2) ∧ (¬ r_1 = 0 → M_isTime v2 I_2 (fun r_4 I_5 => (r_4 = 0 → Q (-1000000001) I_5) ∧ (¬ r_4 = 0 → M_strikes v1 v2 I_5 (fun r_7 I_8 => Q r_7 I_8)))))
abbrev rmX5_strokes : Room := { frames := 4, cells := 0, slots := 0, locals := 96 }
set_option maxHeartbeats 4000000 in
set_option maxRecDepth 100000 in
theorem wM_strokes {l : Launch} {D : va_G} {cl : List vw_C} {a : Nat → Nat} {d : ClassId} (hcl : cl[5]? = some (RX5, TX5, 32)) (sz : Nat) (v1 : Int32) (v2 : Int32) (I : St) (Q : Int32 → St → Prop) (h : M_strokes v1 v2 I Q) : MMi l D cl a d yX5_strokes cX5_strokes 3 .int rmX5_strokes [.ref (a 0), .int v1, .int v2] sz I Q := by
  refine m_enter (Qc := fun A => va_Qi Q (BM D cl a d A) A) hcl (by decide) rfl (Nat.le_of_ble_eq_true rfl) ?_
  intro p e s m below meth c ls A F hG hl
  have G := hG
  have hl : lv_has ls 3 [(0, .ref (a 0)), (1, .int v1), (2, .int v2)] := hl
  obtain ⟨hx, hb, hr, hml, hown, hts, hlocks, hA, hK, hcl⟩ := id F
  unfold M_strokes at h
  refine lv_aload_n hx hb dX5_strokes_0 rfl (lv_at hl 0 rfl) ?_
  refine lv_iload_n hx hb dX5_strokes_1 rfl (lv_at hl 1 rfl) ?_
  refine kM_isClock F G hl.1 ⟨Nat.le_of_ble_eq_true rfl, Nat.le_of_ble_eq_true rfl⟩ (Nat.le_of_ble_eq_true rfl) dX5_strokes_2 h (fun r_1 I_2 H locs G h => ?_)
  refine lv_if_eq (tgt := 24) hx hb dX5_strokes_5 (by decide) (fun c_3 => ?_) (fun c_3 => ?_)
  · replace h := h.1 c_3
    refine lv_ldc hx hb hown (hts _ q1296) dX5_strokes_24 ?_
    exact m_iret F G dX5_strokes_26 h
  · replace h := h.2 c_3
    refine lv_iload_n hx hb dX5_strokes_8 rfl (lv_at hl 2 rfl) ?_
    refine kM_isTime F G hl.1 ⟨Nat.le_of_ble_eq_true rfl, Nat.le_of_ble_eq_true rfl⟩ (Nat.le_of_ble_eq_true rfl) dX5_strokes_9 h (fun r_4 I_5 H locs G h => ?_)
    refine lv_if_eq (tgt := 24) hx hb dX5_strokes_12 (by decide) (fun c_6 => ?_) (fun c_6 => ?_)
    · replace h := h.1 c_6
      refine lv_ldc hx hb hown (hts _ q1296) dX5_strokes_24 ?_
      exact m_iret F G dX5_strokes_26 h
    · replace h := h.2 c_6
      refine lv_aload_n hx hb dX5_strokes_15 rfl (lv_at hl 0 rfl) ?_
      refine lv_iload_n hx hb dX5_strokes_16 rfl (lv_at hl 1 rfl) ?_
      refine lv_iload_n hx hb dX5_strokes_17 rfl (lv_at hl 2 rfl) ?_
      refine kM_strikes F G hl.1 ⟨Nat.le_of_ble_eq_true rfl, Nat.le_of_ble_eq_true rfl⟩ (Nat.le_of_ble_eq_true rfl) dX5_strokes_18 h (fun r_7 I_8 H locs G h => ?_)
      refine lv_goto (tgt := 26) hx hb dX5_strokes_21 (by decide) ?_
      exact m_iret F G dX5_strokes_26 h

/-! totalAt -/
def M_totalAt_L4 (Q : Int32 → St → Prop)  (v1 : Int32) : Nat → Int32 → Int32 → St → Prop
  | 0, _, _, _ => False
  | n + 1, v2, v3, I => ((I 1 0) ≤ v3 → Q v2 I) ∧ (¬ (I 1 0) ≤ v3 → M_strikes v3 v1 I (fun r_2 I_3 => ∀ x_4 : Int32, x_4 = (v2 + r_2) → M_totalAt_L4 Q v1 n x_4 (v3 + 1) I_3))
def M_totalAt (v1 : Int32) (I : St) (Q : Int32 → St → Prop) : Prop := ∃ k4, M_totalAt_L4 Q v1 k4 0 0 I
abbrev rmX5_totalAt : Room := { frames := 4, cells := 0, slots := 0, locals := 96 }
set_option maxHeartbeats 4000000 in
set_option maxRecDepth 100000 in
theorem wM_totalAt_L4 {p : Program} {l : Launch} {e : Env} {s : State} {m : MethodId} {args : Array Value} {below : List Frame} {meth : Method} {c : Code} {D : va_G} {cl : List vw_C} {a : Nat → Nat} {d : ClassId} {A : Nat → Prop} {Q : Int32 → St → Prop}  (F : FM p s m meth c args D cl d A cX5_totalAt 4 (some .int)) (v1 : Int32)  :
    ∀ (n : Nat) (v2 : Int32) (v3 : Int32) (I : St) (H : Heap) (locs : List Loc) (ls : Array Slot), GM D cl a d A s.heap I H locs → lv_has ls 4 [(0, .ref (a 0)), (1, .int v1), (2, .int v2), (3, .int v3)] → M_totalAt_L4 Q v1 n v2 v3 I → wMi p l e rmX5_totalAt s m args below meth c D cl a d A Q H locs (F0 m 4 ls []) := by
  obtain ⟨hx, hb, hr, hml, hown, hts, hlocks, hA, hK, hcl⟩ := id F
  intro n
  induction n with
  | zero => intro v2 v3 I H locs ls G hl h; exact absurd h (fun q => q)
  | succ n ih =>
    intro v2 v3 I H locs ls G hl h
    unfold M_totalAt_L4 at h
    refine lv_iload_n hx hb dX5_totalAt_4 rfl (lv_at hl 3 rfl) ?_
    refine lv_aload_n hx hb dX5_totalAt_5 rfl (lv_at hl 0 rfl) ?_
    refine mg_s F G dX5_totalAt_6 ?_
    refine lv_iconst (v := 0) hx hb dX5_totalAt_9 (by decide) ?_
    refine m_ld F G mA_1 (by unfold vp_in; decide) dX5_totalAt_10 ?_
    refine lv_icmp_ge (tgt := 29) hx hb dX5_totalAt_11 (by decide) (fun c_1 => ?_) (fun c_1 => ?_)
    · replace h := h.1 c_1
      refine lv_iload_n hx hb dX5_totalAt_29 rfl (lv_at hl 2 rfl) ?_
      exact m_iret F G dX5_totalAt_30 h
    · replace h := h.2 c_1
      refine lv_iload_n hx hb dX5_totalAt_14 rfl (lv_at hl 2 rfl) ?_
      refine lv_aload_n hx hb dX5_totalAt_15 rfl (lv_at hl 0 rfl) ?_
      refine lv_iload_n hx hb dX5_totalAt_16 rfl (lv_at hl 3 rfl) ?_
      refine lv_iload_n hx hb dX5_totalAt_17 rfl (lv_at hl 1 rfl) ?_
      refine kM_strikes F G hl.1 ⟨Nat.le_of_ble_eq_true rfl, Nat.le_of_ble_eq_true rfl⟩ (Nat.le_of_ble_eq_true rfl) dX5_totalAt_18 h (fun r_2 I_3 H locs G h => ?_)
      refine lv_iadd hx hb dX5_totalAt_21 ?_
      refine lv_topi (fun x_4 ex_4 => ?_)
      replace h := h x_4 ex_4
      refine lv_istore_n (lv' := [(2, .int x_4), (0, .ref (a 0)), (1, .int v1), (3, .int v3)]) hx hb dX5_totalAt_22 rfl hl (by decide) rfl (fun ls hl => ?_)
      refine lv_iinc (v := (v3 + 1)) (lv' := [(3, .int (v3 + 1)), (2, .int x_4), (0, .ref (a 0)), (1, .int v1)]) hx hb dX5_totalAt_23 hl (k := 3) rfl rfl (by decide) rfl (fun ls hl => ?_)
      refine lv_goto (tgt := 4) hx hb dX5_totalAt_26 (by decide) ?_
      exact ih x_4 (v3 + 1) I_3 _ _ _ G (lv_sub hl [2, 3, 1, 0] rfl) h
set_option maxHeartbeats 4000000 in
set_option maxRecDepth 100000 in
theorem wM_totalAt {l : Launch} {D : va_G} {cl : List vw_C} {a : Nat → Nat} {d : ClassId} (hcl : cl[5]? = some (RX5, TX5, 32)) (sz : Nat) (v1 : Int32) (I : St) (Q : Int32 → St → Prop) (h : M_totalAt v1 I Q) : MMi l D cl a d yX5_totalAt cX5_totalAt 4 .int rmX5_totalAt [.ref (a 0), .int v1] sz I Q := by
  refine m_enter (Qc := fun A => va_Qi Q (BM D cl a d A) A) hcl (by decide) rfl (Nat.le_of_ble_eq_true rfl) ?_
  intro p e s m below meth c ls A F hG hl
  have G := hG
  have hl : lv_has ls 4 [(0, .ref (a 0)), (1, .int v1)] := hl
  obtain ⟨hx, hb, hr, hml, hown, hts, hlocks, hA, hK, hcl⟩ := id F
  unfold M_totalAt at h
  refine lv_iconst (v := 0) hx hb dX5_totalAt_0 (by decide) ?_
  refine lv_istore_n (lv' := [(2, .int 0), (0, .ref (a 0)), (1, .int v1)]) hx hb dX5_totalAt_1 rfl hl (by decide) rfl (fun ls hl => ?_)
  refine lv_iconst (v := 0) hx hb dX5_totalAt_2 (by decide) ?_
  refine lv_istore_n (lv' := [(3, .int 0), (2, .int 0), (0, .ref (a 0)), (1, .int v1)]) hx hb dX5_totalAt_3 rfl hl (by decide) rfl (fun ls hl => ?_)
  obtain ⟨k4, h⟩ := h
  exact wM_totalAt_L4 F v1  k4 0 0 I _ _ _ G (lv_sub hl [2, 3, 1, 0] rfl) h
set_option maxHeartbeats 4000000 in
set_option maxRecDepth 100000 in
theorem kM_totalAt {p : Program} {l : Launch} {e : Env} {s : State} {m : MethodId} {R : Room} {args : Array Value} {below : List Frame} {meth : Method} {c : Code} {D : va_G} {cl : List vw_C} {a : Nat → Nat} {d : ClassId} {A : Nat → Prop} {Q : State → Prop} {cc : ByteArray} {nL pc : Nat} {ret : Option FieldType} {ls : Array Slot} {rest : List Value} {v1 : Int32} {I : St} {H : Heap} {locs : List Loc} {Q1 : Int32 → St → Prop} (F : FM p s m meth c args D cl d A cc nL ret) (G : GM D cl a d A s.heap I H locs) (hsz : ls.size = nL) (hR : rmX5_totalAt.frames + 1 ≤ R.frames ∧ 8 + (4 + 11) + rmX5_totalAt.locals ≤ R.locals) (hW : (rest.map fun v => v.category).sum ≤ 8) (hd : decode cc pc = .ok (.invokevirtual 134, 3)) (h : M_totalAt v1 I Q1) (k : ∀ (r : Int32) (I1 : St) (H : Heap) (locs : List Loc), GM D cl a d A s.heap I1 H locs → Q1 r I1 → W p l e R s m args below meth c H locs 0 0 Q (F0 m (pc + 3) ls (.int r :: rest))) : W p l e R s m args below meth c H locs 0 0 Q (F0 m pc ls (.int v1 :: .ref (a 0) :: rest)) := by
  obtain ⟨hx, hb, hr, hml, hown, hts, hlocks, hA, hK, hcl⟩ := id F
  exact m_callVi (As := [.int v1]) F G hsz (wM_totalAt hcl H.size v1 I Q1 h) (cwV 1 hts (lw_V q1386 q1388 qs51 q90 q1389) rfl rfl rfl (by decide +kernel) hR) rfl rfl hW hd k
/-! total -/
def M_total (v1 : Int32) (I : St) (Q : Int32 → St → Prop) : Prop := M_isTime v1 I (fun r_1 I_2 => (r_1 = 0 → Q (-1000000001) I_2) ∧ (¬ r_1 = 0 → M_totalAt v1 I_2 (fun r_4 I_5 => Q r_4 I_5)))
abbrev rmX5_total : Room := { frames := 5, cells := 0, slots := 0, locals := 119 }
set_option maxHeartbeats 4000000 in
set_option maxRecDepth 100000 in
theorem wM_total {l : Launch} {D : va_G} {cl : List vw_C} {a : Nat → Nat} {d : ClassId} (hcl : cl[5]? = some (RX5, TX5, 32)) (sz : Nat) (v1 : Int32) (I : St) (Q : Int32 → St → Prop) (h : M_total v1 I Q) : MMi l D cl a d yX5_total cX5_total 2 .int rmX5_total [.ref (a 0), .int v1] sz I Q := by
  refine m_enter (Qc := fun A => va_Qi Q (BM D cl a d A) A) hcl (by decide) rfl (Nat.le_of_ble_eq_true rfl) ?_
  intro p e s m below meth c ls A F hG hl
  have G := hG
  have hl : lv_has ls 2 [(0, .ref (a 0)), (1, .int v1)] := hl
  obtain ⟨hx, hb, hr, hml, hown, hts, hlocks, hA, hK, hcl⟩ := id F
  unfold M_total at h
  refine lv_iload_n hx hb dX5_total_0 rfl (lv_at hl 1 rfl) ?_
  refine kM_isTime F G hl.1 ⟨Nat.le_of_ble_eq_true rfl, Nat.le_of_ble_eq_true rfl⟩ (Nat.le_of_ble_eq_true rfl) dX5_total_1 h (fun r_1 I_2 H locs G h => ?_)
  refine lv_if_eq (tgt := 15) hx hb dX5_total_4 (by decide) (fun c_3 => ?_) (fun c_3 => ?_)
  · replace h := h.1 c_3
    refine lv_ldc hx hb hown (hts _ q1296) dX5_total_15 ?_
    exact m_iret F G dX5_total_17 h
  · replace h := h.2 c_3
    refine lv_aload_n hx hb dX5_total_7 rfl (lv_at hl 0 rfl) ?_
    refine lv_iload_n hx hb dX5_total_8 rfl (lv_at hl 1 rfl) ?_
    refine kM_totalAt F G hl.1 ⟨Nat.le_of_ble_eq_true rfl, Nat.le_of_ble_eq_true rfl⟩ (Nat.le_of_ble_eq_true rfl) dX5_total_9 h (fun r_4 I_5 H locs G h => ?_)
    refine lv_goto (tgt := 17) hx hb dX5_total_12 (by decide) ?_
    exact m_iret F G dX5_total_17 h

/-! ear -/
def M_ear (v1 : Int32) (v2 : Int32) (I : St) (Q : Int32 → St → Prop) : Prop := M_isIn v1.toInt64 0 1 I (fun r_1 I_2 => (r_1 = 0 → Q (-1000000001) I_2) ∧ (¬ r_1 = 0 → M_isIn v2.toInt64 0 100 I_2 (fun r_4 I_5 => (r_4 = 0 → Q (-1000000001) I_5) ∧ (¬ r_4 = 0 → M_becomes (6 + v1) v2 I_5 (fun r_7 I_8 => Q r_7 I_8)))))
abbrev rmX5_ear : Room := { frames := 1, cells := 0, slots := 0, locals := 25 }
set_option maxHeartbeats 4000000 in
set_option maxRecDepth 100000 in
theorem wM_ear {l : Launch} {D : va_G} {cl : List vw_C} {a : Nat → Nat} {d : ClassId} (hcl : cl[5]? = some (RX5, TX5, 32)) (sz : Nat) (v1 : Int32) (v2 : Int32) (I : St) (Q : Int32 → St → Prop) (h : M_ear v1 v2 I Q) : MMi l D cl a d yX5_ear cX5_ear 3 .int rmX5_ear [.ref (a 0), .int v1, .int v2] sz I Q := by
  refine m_enter (Qc := fun A => va_Qi Q (BM D cl a d A) A) hcl (by decide) rfl (Nat.le_of_ble_eq_true rfl) ?_
  intro p e s m below meth c ls A F hG hl
  have G := hG
  have hl : lv_has ls 3 [(0, .ref (a 0)), (1, .int v1), (2, .int v2)] := hl
  obtain ⟨hx, hb, hr, hml, hown, hts, hlocks, hA, hK, hcl⟩ := id F
  unfold M_ear at h
  refine lv_iload_n hx hb dX5_ear_0 rfl (lv_at hl 1 rfl) ?_
  refine lv_i2l (v := v1.toInt64) hx hb dX5_ear_1 rfl ?_
  refine lv_lconst (v := 0) hx hb dX5_ear_2 (by decide) ?_
  refine lv_lconst (v := 1) hx hb dX5_ear_3 (by decide) ?_
  refine kM_isIn F G hl.1 ⟨Nat.le_of_ble_eq_true rfl, Nat.le_of_ble_eq_true rfl⟩ (Nat.le_of_ble_eq_true rfl) dX5_ear_4 h (fun r_1 I_2 H locs G h => ?_)
  refine lv_if_eq (tgt := 34) hx hb dX5_ear_7 (by decide) (fun c_3 => ?_) (fun c_3 => ?_)
  · replace h := h.1 c_3
    refine lv_ldc hx hb hown (hts _ q1296) dX5_ear_34 ?_
    exact m_iret F G dX5_ear_36 h
  · replace h := h.2 c_3
    refine lv_iload_n hx hb dX5_ear_10 rfl (lv_at hl 2 rfl) ?_
    refine lv_i2l (v := v2.toInt64) hx hb dX5_ear_11 rfl ?_
    refine lv_lconst (v := 0) hx hb dX5_ear_12 (by decide) ?_
    refine lv_ldc2 hx hb hown (hts _ q1394) dX5_ear_13 ?_
    refine kM_isIn F G hl.1 ⟨Nat.le_of_ble_eq_true rfl, Nat.le_of_ble_eq_true rfl⟩ (Nat.le_of_ble_eq_true rfl) dX5_ear_16 h (fun r_4 I_5 H locs G h => ?_)
    refine lv_if_eq (tgt := 34) hx hb dX5_ear_19 (by decide) (fun c_6 => ?_) (fun c_6 => ?_)
    · replace h := h.1 c_6
      refine lv_ldc hx hb hown (hts _ q1296) dX5_ear_34 ?_
      exact m_iret F G dX5_ear_36 h
    · replace h := h.2 c_6
      refine lv_aload_n hx hb dX5_ear_22 rfl (lv_at hl 0 rfl) ?_
      refine lv_bipush (v := 6) hx hb dX5_ear_23 (by decide) ?_
      refine lv_iload_n hx hb dX5_ear_25 rfl (lv_at hl 1 rfl) ?_
      refine lv_iadd hx hb dX5_ear_26 ?_
      refine lv_iload_n hx hb dX5_ear_27 rfl (lv_at hl 2 rfl) ?_
      refine kM_becomes F G hl.1 ⟨Nat.le_of_ble_eq_true rfl, Nat.le_of_ble_eq_true rfl⟩ (Nat.le_of_ble_eq_true rfl) dX5_ear_28 h (fun r_7 I_8 H locs G h => ?_)
      refine lv_goto (tgt := 36) hx hb dX5_ear_31 (by decide) ?_
      exact m_iret F G dX5_ear_36 h

/-! drawn -/
def M_drawn  (I : St) (Q : Int32 → St → Prop) : Prop := Q ((((sA I 1 9 (((I 1 9) * 1103515245) + 12345)) 1 9).toUInt32 >>> ((8 : Int32).toUInt32 &&& Int32.toUInt32 31)).toInt32) (sA I 1 9 (((I 1 9) * 1103515245) + 12345))
abbrev rmX5_drawn : Room := { frames := 0, cells := 0, slots := 0, locals := 0 }
set_option maxHeartbeats 4000000 in
set_option maxRecDepth 100000 in
theorem wM_drawn {l : Launch} {D : va_G} {cl : List vw_C} {a : Nat → Nat} {d : ClassId} (hcl : cl[5]? = some (RX5, TX5, 32)) (sz : Nat)  (I : St) (Q : Int32 → St → Prop) (h : M_drawn  I Q) : MMi l D cl a d yX5_drawn cX5_drawn 1 .int rmX5_drawn [.ref (a 0)] sz I Q := by
  refine m_enter (Qc := fun A => va_Qi Q (BM D cl a d A) A) hcl (by decide) rfl (Nat.le_of_ble_eq_true rfl) ?_
  intro p e s m below meth c ls A F hG hl
  have G := hG
  have hl : lv_has ls 1 [(0, .ref (a 0))] := hl
  obtain ⟨hx, hb, hr, hml, hown, hts, hlocks, hA, hK, hcl⟩ := id F
  unfold M_drawn at h
  refine lv_aload_n hx hb dX5_drawn_0 rfl (lv_at hl 0 rfl) ?_
  refine mg_s F G dX5_drawn_1 ?_
  refine lv_bipush (v := 9) hx hb dX5_drawn_4 (by decide) ?_
  refine lv_aload_n hx hb dX5_drawn_6 rfl (lv_at hl 0 rfl) ?_
  refine mg_s F G dX5_drawn_7 ?_
  refine lv_bipush (v := 9) hx hb dX5_drawn_10 (by decide) ?_
  refine m_ld F G mA_1 (by unfold vp_in; decide) dX5_drawn_12 ?_
  refine lv_ldc hx hb hown (hts _ q1404) dX5_drawn_13 ?_
  refine lv_imul hx hb dX5_drawn_15 ?_
  refine lv_sipush (v := 12345) hx hb dX5_drawn_16 (by decide) ?_
  refine lv_iadd hx hb dX5_drawn_19 ?_
  refine m_st F G mA_1 (by unfold vp_in; decide) dX5_drawn_20 (fun H locs G => ?_)
  refine lv_aload_n hx hb dX5_drawn_21 rfl (lv_at hl 0 rfl) ?_
  refine mg_s F G dX5_drawn_22 ?_
  refine lv_bipush (v := 9) hx hb dX5_drawn_25 (by decide) ?_
  refine m_ld F G mA_1 (by unfold vp_in; decide) dX5_drawn_27 ?_
  refine lv_bipush (v := 8) hx hb dX5_drawn_28 (by decide) ?_
  refine lv_iushr (v := (((sA I 1 9 (((I 1 9) * 1103515245) + 12345)) 1 9).toUInt32 >>> ((8 : Int32).toUInt32 &&& Int32.toUInt32 31)).toInt32) hx hb dX5_drawn_30 rfl ?_
  exact m_iret F G dX5_drawn_31 h
set_option maxHeartbeats 4000000 in
set_option maxRecDepth 100000 in
theorem kM_drawn {p : Program} {l : Launch} {e : Env} {s : State} {m : MethodId} {R : Room} {args : Array Value} {below : List Frame} {meth : Method} {c : Code} {D : va_G} {cl : List vw_C} {a : Nat → Nat} {d : ClassId} {A : Nat → Prop} {Q : State → Prop} {cc : ByteArray} {nL pc : Nat} {ret : Option FieldType} {ls : Array Slot} {rest : List Value}  {I : St} {H : Heap} {locs : List Loc} {Q1 : Int32 → St → Prop} (F : FM p s m meth c args D cl d A cc nL ret) (G : GM D cl a d A s.heap I H locs) (hsz : ls.size = nL) (hR : rmX5_drawn.frames + 1 ≤ R.frames ∧ 8 + (1 + 11) + rmX5_drawn.locals ≤ R.locals) (hW : (rest.map fun v => v.category).sum ≤ 8) (hd : decode cc pc = .ok (.invokevirtual 141, 3)) (h : M_drawn  I Q1) (k : ∀ (r : Int32) (I1 : St) (H : Heap) (locs : List Loc), GM D cl a d A s.heap I1 H locs → Q1 r I1 → W p l e R s m args below meth c H locs 0 0 Q (F0 m (pc + 3) ls (.int r :: rest))) : W p l e R s m args below meth c H locs 0 0 Q (F0 m pc ls (.ref (a 0) :: rest)) := by
  obtain ⟨hx, hb, hr, hml, hown, hts, hlocks, hA, hK, hcl⟩ := id F
  exact m_callVi (As := []) F G hsz (wM_drawn hcl H.size  I Q1 h) (cwV 0 hts (lw_V q1400 q1402 qs52 q90 q1403) rfl rfl rfl (by decide +kernel) hR) rfl rfl hW hd k
/-! deal -/
def M_deal_L17 (Q : Int32 → St → Prop)  (v1 : Int32) : Nat → Int32 → St → Prop
  | 0, _, _ => False
  | n + 1, v2, I => (v1 ≤ v2 → Q v2 I) ∧ (¬ v1 ≤ v2 → (6 ≤ (I 1 0) → Q v2 I) ∧ (¬ 6 ≤ (I 1 0) → M_drawn  I (fun r_6 I_7 => ∀ x_8 : Int32, x_8 = (r_6 - r_6 / 6 * 6) → M_drawn  I_7 (fun r_9 I_10 => ∀ x_11 : Int32, x_11 = (r_9 - r_9 / 10 * 10) → M_drawn  I_10 (fun r_12 I_13 => M_comes x_8 x_11 (r_12 - r_12 / 10 * 10) I_13 (fun I_15 => M_deal_L17 Q v1 n (v2 + 1) I_15))))))
def M_deal (v1 : Int32) (I : St) (Q : Int32 → St → Prop) : Prop := M_isIn v1.toInt64 1 6 I (fun r_1 I_2 => (¬ r_1 = 0 → ∃ k17, M_deal_L17 Q v1 k17 0 I_2) ∧ (r_1 = 0 → Q (-1000000001) I_2))
abbrev rmX5_deal : Room := { frames := 2, cells := 0, slots := 0, locals := 47 }
set_option maxHeartbeats 4000000 in
set_option maxRecDepth 100000 in
theorem wM_deal_L17 {p : Program} {l : Launch} {e : Env} {s : State} {m : MethodId} {args : Array Value} {below : List Frame} {meth : Method} {c : Code} {D : va_G} {cl : List vw_C} {a : Nat → Nat} {d : ClassId} {A : Nat → Prop} {Q : Int32 → St → Prop}  (F : FM p s m meth c args D cl d A cX5_deal 5 (some .int)) (v1 : Int32)  :
    ∀ (n : Nat) (v2 : Int32) (I : St) (H : Heap) (locs : List Loc) (ls : Array Slot), GM D cl a d A s.heap I H locs → lv_has ls 5 [(0, .ref (a 0)), (1, .int v1), (2, .int v2)] → M_deal_L17 Q v1 n v2 I → wMi p l e rmX5_deal s m args below meth c D cl a d A Q H locs (F0 m 17 ls []) := by
  obtain ⟨hx, hb, hr, hml, hown, hts, hlocks, hA, hK, hcl⟩ := id F
  intro n
  induction n with
  | zero => intro v2 I H locs ls G hl h; exact absurd h (fun q => q)
  | succ n ih =>
    intro v2 I H locs ls G hl h
    unfold M_deal_L17 at h
    refine lv_iload_n hx hb dX5_deal_17 rfl (lv_at hl 2 rfl) ?_
    refine lv_iload_n hx hb dX5_deal_18 rfl (lv_at hl 1 rfl) ?_
    refine lv_icmp_ge (tgt := 70) hx hb dX5_deal_19 (by decide) (fun c_4 => ?_) (fun c_4 => ?_)
    · replace h := h.1 c_4
      refine lv_iload_n hx hb dX5_deal_70 rfl (lv_at hl 2 rfl) ?_
      exact m_iret F G dX5_deal_71 h
    · replace h := h.2 c_4
      refine lv_aload_n hx hb dX5_deal_22 rfl (lv_at hl 0 rfl) ?_
      refine mg_s F G dX5_deal_23 ?_
      refine lv_iconst (v := 0) hx hb dX5_deal_26 (by decide) ?_
      refine m_ld F G mA_1 (by unfold vp_in; decide) dX5_deal_27 ?_
      refine lv_bipush (v := 6) hx hb dX5_deal_28 (by decide) ?_
      refine lv_icmp_ge (tgt := 70) hx hb dX5_deal_30 (by decide) (fun c_5 => ?_) (fun c_5 => ?_)
      · replace h := h.1 c_5
        refine lv_iload_n hx hb dX5_deal_70 rfl (lv_at hl 2 rfl) ?_
        exact m_iret F G dX5_deal_71 h
      · replace h := h.2 c_5
        refine lv_aload_n hx hb dX5_deal_33 rfl (lv_at hl 0 rfl) ?_
        refine kM_drawn F G hl.1 ⟨Nat.le_of_ble_eq_true rfl, Nat.le_of_ble_eq_true rfl⟩ (Nat.le_of_ble_eq_true rfl) dX5_deal_34 h (fun r_6 I_7 H locs G h => ?_)
        refine lv_bipush (v := 6) hx hb dX5_deal_37 (by decide) ?_
        refine lv_irem hx hb dX5_deal_39 (by decide) ?_
        refine lv_topi (fun x_8 ex_8 => ?_)
        replace h := h x_8 ex_8
        refine lv_istore_n (lv' := [(3, .int x_8), (0, .ref (a 0)), (1, .int v1), (2, .int v2)]) hx hb dX5_deal_40 rfl hl (by decide) rfl (fun ls hl => ?_)
        refine lv_aload_n hx hb dX5_deal_41 rfl (lv_at hl 1 rfl) ?_
        refine kM_drawn F G hl.1 ⟨Nat.le_of_ble_eq_true rfl, Nat.le_of_ble_eq_true rfl⟩ (Nat.le_of_ble_eq_true rfl) dX5_deal_42 h (fun r_9 I_10 H locs G h => ?_)
        refine lv_bipush (v := 10) hx hb dX5_deal_45 (by decide) ?_
        refine lv_irem hx hb dX5_deal_47 (by decide) ?_
        refine lv_topi (fun x_11 ex_11 => ?_)
        replace h := h x_11 ex_11
        refine lv_istore (lv' := [(4, .int x_11), (3, .int x_8), (0, .ref (a 0)), (1, .int v1), (2, .int v2)]) hx hb dX5_deal_48 hl (by decide) rfl (fun ls hl => ?_)
        refine lv_aload_n hx hb dX5_deal_50 rfl (lv_at hl 2 rfl) ?_
        refine lv_iload_n hx hb dX5_deal_51 rfl (lv_at hl 1 rfl) ?_
        refine lv_iload hx hb dX5_deal_52 (lv_at hl 0 rfl) ?_
        refine lv_aload_n hx hb dX5_deal_54 rfl (lv_at hl 2 rfl) ?_
        refine kM_drawn F G hl.1 ⟨Nat.le_of_ble_eq_true rfl, Nat.le_of_ble_eq_true rfl⟩ (Nat.le_of_ble_eq_true rfl) dX5_deal_55 h (fun r_12 I_13 H locs G h => ?_)
        refine lv_bipush (v := 10) hx hb dX5_deal_58 (by decide) ?_
        refine lv_irem hx hb dX5_deal_60 (by decide) ?_
        refine kM_comes F G hl.1 ⟨Nat.le_of_ble_eq_true rfl, Nat.le_of_ble_eq_true rfl⟩ (Nat.le_of_ble_eq_true rfl) dX5_deal_61 h (fun I_15 H locs G h => ?_)
        refine lv_iinc (v := (v2 + 1)) (lv' := [(2, .int (v2 + 1)), (4, .int x_11), (3, .int x_8), (0, .ref (a 0)), (1, .int v1)]) hx hb dX5_deal_64 hl (k := 4) rfl rfl (by decide) rfl (fun ls hl => ?_)
        refine lv_goto (tgt := 17) hx hb dX5_deal_67 (by decide) ?_
        exact ih (v2 + 1) I_15 _ _ _ G (lv_sub hl [3, 4, 0] rfl) h
set_option maxHeartbeats 4000000 in
set_option maxRecDepth 100000 in
theorem wM_deal {l : Launch} {D : va_G} {cl : List vw_C} {a : Nat → Nat} {d : ClassId} (hcl : cl[5]? = some (RX5, TX5, 32)) (sz : Nat) (v1 : Int32) (I : St) (Q : Int32 → St → Prop) (h : M_deal v1 I Q) : MMi l D cl a d yX5_deal cX5_deal 5 .int rmX5_deal [.ref (a 0), .int v1] sz I Q := by
  refine m_enter (Qc := fun A => va_Qi Q (BM D cl a d A) A) hcl (by decide) rfl (Nat.le_of_ble_eq_true rfl) ?_
  intro p e s m below meth c ls A F hG hl
  have G := hG
  have hl : lv_has ls 5 [(0, .ref (a 0)), (1, .int v1)] := hl
  obtain ⟨hx, hb, hr, hml, hown, hts, hlocks, hA, hK, hcl⟩ := id F
  unfold M_deal at h
  refine lv_iload_n hx hb dX5_deal_0 rfl (lv_at hl 1 rfl) ?_
  refine lv_i2l (v := v1.toInt64) hx hb dX5_deal_1 rfl ?_
  refine lv_lconst (v := 1) hx hb dX5_deal_2 (by decide) ?_
  refine lv_ldc2 hx hb hown (hts _ q1399) dX5_deal_3 ?_
  refine kM_isIn F G hl.1 ⟨Nat.le_of_ble_eq_true rfl, Nat.le_of_ble_eq_true rfl⟩ (Nat.le_of_ble_eq_true rfl) dX5_deal_6 h (fun r_1 I_2 H locs G h => ?_)
  refine lv_if_ne (tgt := 15) hx hb dX5_deal_9 (by decide) (fun c_3 => ?_) (fun c_3 => ?_)
  · replace h := h.1 c_3
    refine lv_iconst (v := 0) hx hb dX5_deal_15 (by decide) ?_
    refine lv_istore_n (lv' := [(2, .int 0), (0, .ref (a 0)), (1, .int v1)]) hx hb dX5_deal_16 rfl hl (by decide) rfl (fun ls hl => ?_)
    obtain ⟨k17, h⟩ := h
    exact wM_deal_L17 F v1  k17 0 I_2 _ _ _ G (lv_sub hl [1, 2, 0] rfl) h
  · replace h := h.2 c_3
    refine lv_ldc hx hb hown (hts _ q1296) dX5_deal_12 ?_
    exact m_iret F G dX5_deal_14 h

/-! seed -/
def M_seed (v1 : Int32) (I : St) (Q : Int32 → St → Prop) : Prop := M_becomes 9 v1 I (fun r_1 I_2 => Q r_1 I_2)
abbrev rmX5_seed : Room := { frames := 1, cells := 0, slots := 0, locals := 23 }
set_option maxHeartbeats 4000000 in
set_option maxRecDepth 100000 in
theorem wM_seed {l : Launch} {D : va_G} {cl : List vw_C} {a : Nat → Nat} {d : ClassId} (hcl : cl[5]? = some (RX5, TX5, 32)) (sz : Nat) (v1 : Int32) (I : St) (Q : Int32 → St → Prop) (h : M_seed v1 I Q) : MMi l D cl a d yX5_seed cX5_seed 2 .int rmX5_seed [.ref (a 0), .int v1] sz I Q := by
  refine m_enter (Qc := fun A => va_Qi Q (BM D cl a d A) A) hcl (by decide) rfl (Nat.le_of_ble_eq_true rfl) ?_
  intro p e s m below meth c ls A F hG hl
  have G := hG
  have hl : lv_has ls 2 [(0, .ref (a 0)), (1, .int v1)] := hl
  obtain ⟨hx, hb, hr, hml, hown, hts, hlocks, hA, hK, hcl⟩ := id F
  unfold M_seed at h
  refine lv_aload_n hx hb dX5_seed_0 rfl (lv_at hl 0 rfl) ?_
  refine lv_bipush (v := 9) hx hb dX5_seed_1 (by decide) ?_
  refine lv_iload_n hx hb dX5_seed_3 rfl (lv_at hl 1 rfl) ?_
  refine kM_becomes F G hl.1 ⟨Nat.le_of_ble_eq_true rfl, Nat.le_of_ble_eq_true rfl⟩ (Nat.le_of_ble_eq_true rfl) dX5_seed_4 h (fun r_1 I_2 H locs G h => ?_)
  exact m_iret F G dX5_seed_7 h

/-! goesOn -/
def M_goesOn_p180 (Q : St → Prop)  (t0 : Int32) (t1 : Int32) (t2 : Int32) (I : St) : Prop := vp_in t2 3040 ∧ (Q (sA (sA I 1 t2 (t1 + t0)) 1 2 (((sA I 1 t2 (t1 + t0)) 1 2) + 1)))
def M_goesOn_L117 (Q : St → Prop)  (v1 : Int32) : Nat → Int32 → St → Prop
  | 0, _, _ => False
  | n + 1, v2, I => (v2 ≤ 0 → (12 ≤ ((sA I 1 28 v1) 1 8) → M_goesOn_p180 Q 0 ((sA I 1 28 v1) 1 8) 8 (sA I 1 28 v1)) ∧ (¬ 12 ≤ ((sA I 1 28 v1) 1 8) → M_goesOn_p180 Q 1 ((sA I 1 28 v1) 1 8) 8 (sA I 1 28 v1))) ∧ (¬ v2 ≤ 0 → vp_in ((28 + v2) - 1) 3040 ∧ (vp_in (28 + v2) 3040 ∧ (M_goesOn_L117 Q v1 n (v2 + (-1)) (sA I 1 (28 + v2) (I 1 (((28 + v2) - 1).toNatClampNeg))))))
def M_goesOn_p114 (Q : St → Prop)  (v1 : Int32) (I : St) : Prop := ∃ k117, M_goesOn_L117 Q v1 k117 11 I
def M_goesOn_p66 (Q : St → Prop) (K11 : Int32 → Int32 → St → Prop) (v1 : Int32) (v2 : Int32) (t0 : Int32) (t1 : Int32) (t2 : Int32) (I : St) : Prop := vp_in t2 3040 ∧ (K11 v1 (v2 + (-1)) (sA I 1 t2 (t1 + t0)))
def M_goesOn_p48 (Q : St → Prop) (K11 : Int32 → Int32 → St → Prop) (v2 : Int32) (v3 : Int32) (t0 : Int32) (t1 : Int32) (I : St) : Prop := ∀ x_17 : Int32, x_17 = (t1 + t0) → (v3 = 0 → M_goesOn_p66 Q K11 x_17 v2 1 (I 1 4) 4 I) ∧ (¬ v3 = 0 → M_goesOn_p66 Q K11 x_17 v2 0 (I 1 4) 4 I)
def M_goesOn_p37 (Q : St → Prop) (K11 : Int32 → Int32 → St → Prop) (v1 : Int32) (v2 : Int32) (t0 : Int32) (I : St) : Prop := (t0 = 0 → M_goesOn_p48 Q K11 v2 t0 0 v1 I) ∧ (¬ t0 = 0 → M_goesOn_p48 Q K11 v2 t0 1 v1 I)
def M_goesOn_L11 (Q : St → Prop)   : Nat → Int32 → Int32 → St → Prop
  | 0, _, _, _ => False
  | n + 1, v1, v2, I => (v2 ≤ 0 → M_drawn  (sA I 1 3 ((I 1 3) + v1)) (fun r_6 I_7 => ((I_7 1 7) ≤ (r_6 - r_6 / 100 * 100) → M_goesOn_p114 Q v1 I_7) ∧ (¬ (I_7 1 7) ≤ (r_6 - r_6 / 100 * 100) → M_goesOn_p114 Q (v1 + 1) (sA I_7 1 5 ((I_7 1 5) + 1))))) ∧ (¬ v2 ≤ 0 → M_drawn  I (fun r_9 I_10 => ((I_10 1 6) ≤ (r_9 - r_9 / 100 * 100) → M_goesOn_p37 Q (fun v1_ v2_ I_ => M_goesOn_L11 Q n v1_ v2_ I_) v1 v2 0 I_10) ∧ (¬ (I_10 1 6) ≤ (r_9 - r_9 / 100 * 100) → M_goesOn_p37 Q (fun v1_ v2_ I_ => M_goesOn_L11 Q n v1_ v2_ I_) v1 v2 1 I_10)))
def M_goesOn  (I : St) (Q : St → Prop) : Prop := M_timeNow  I (fun r_1 I_2 => M_totalAt r_1 I_2 (fun r_3 I_4 => ∃ k11, M_goesOn_L11 Q k11 0 r_3 I_4))
abbrev rmX5_goesOn : Room := { frames := 5, cells := 0, slots := 0, locals := 119 }
set_option maxHeartbeats 4000000 in
set_option maxRecDepth 100000 in
theorem wM_goesOn_p180 {p : Program} {l : Launch} {e : Env} {s : State} {m : MethodId} {args : Array Value} {below : List Frame} {meth : Method} {c : Code} {D : va_G} {cl : List vw_C} {a : Nat → Nat} {d : ClassId} {A : Nat → Prop} {Q : St → Prop}  (F : FM p s m meth c args D cl d A cX5_goesOn 4 none) (t0 : Int32) (t1 : Int32) (t2 : Int32) (I : St)  {H : Heap} {locs : List Loc} {ls : Array Slot} (G : GM D cl a d A s.heap I H locs) (hl : lv_has ls 4 [(0, .ref (a 0))]) (h : M_goesOn_p180 Q t0 t1 t2 I) : wMv p l e rmX5_goesOn s m args below meth c D cl a d A Q H locs (F0 m 180 ls [.int t0, .int t1, .int t2, .ref (a 1)]) := by
  obtain ⟨hx, hb, hr, hml, hown, hts, hlocks, hA, hK, hcl⟩ := id F
  unfold M_goesOn_p180 at h
  refine lv_iadd hx hb dX5_goesOn_180 ?_
  obtain ⟨b_19, h⟩ := h
  refine m_st F G mA_1 b_19 dX5_goesOn_181 (fun H locs G => ?_)
  refine lv_aload_n hx hb dX5_goesOn_182 rfl (lv_at hl 0 rfl) ?_
  refine mg_s F G dX5_goesOn_183 ?_
  refine lv_iconst (v := 2) hx hb dX5_goesOn_186 (by decide) ?_
  refine lv_dup2_11 hx hb dX5_goesOn_187 rfl rfl ?_
  refine m_ld F G mA_1 (by unfold vp_in; decide) dX5_goesOn_188 ?_
  refine lv_iconst (v := 1) hx hb dX5_goesOn_189 (by decide) ?_
  refine lv_iadd hx hb dX5_goesOn_190 ?_
  refine m_st F G mA_1 (by unfold vp_in; decide) dX5_goesOn_191 (fun H locs G => ?_)
  exact m_vret F G dX5_goesOn_192 h
set_option maxHeartbeats 4000000 in
set_option maxRecDepth 100000 in
theorem wM_goesOn_L117 {p : Program} {l : Launch} {e : Env} {s : State} {m : MethodId} {args : Array Value} {below : List Frame} {meth : Method} {c : Code} {D : va_G} {cl : List vw_C} {a : Nat → Nat} {d : ClassId} {A : Nat → Prop} {Q : St → Prop}  (F : FM p s m meth c args D cl d A cX5_goesOn 4 none) (v1 : Int32)  :
    ∀ (n : Nat) (v2 : Int32) (I : St) (H : Heap) (locs : List Loc) (ls : Array Slot), GM D cl a d A s.heap I H locs → lv_has ls 4 [(0, .ref (a 0)), (1, .int v1), (2, .int v2)] → M_goesOn_L117 Q v1 n v2 I → wMv p l e rmX5_goesOn s m args below meth c D cl a d A Q H locs (F0 m 117 ls []) := by
  obtain ⟨hx, hb, hr, hml, hown, hts, hlocks, hA, hK, hcl⟩ := id F
  intro n
  induction n with
  | zero => intro v2 I H locs ls G hl h; exact absurd h (fun q => q)
  | succ n ih =>
    intro v2 I H locs ls G hl h
    unfold M_goesOn_L117 at h
    refine lv_iload_n hx hb dX5_goesOn_117 rfl (lv_at hl 2 rfl) ?_
    refine lv_if_le (tgt := 147) hx hb dX5_goesOn_118 (by decide) (fun c_13 => ?_) (fun c_13 => ?_)
    · replace h := h.1 c_13
      refine lv_aload_n hx hb dX5_goesOn_147 rfl (lv_at hl 0 rfl) ?_
      refine mg_s F G dX5_goesOn_148 ?_
      refine lv_bipush (v := 28) hx hb dX5_goesOn_151 (by decide) ?_
      refine lv_iload_n hx hb dX5_goesOn_153 rfl (lv_at hl 1 rfl) ?_
      refine m_st F G mA_1 (by unfold vp_in; decide) dX5_goesOn_154 (fun H locs G => ?_)
      refine lv_aload_n hx hb dX5_goesOn_155 rfl (lv_at hl 0 rfl) ?_
      refine mg_s F G dX5_goesOn_156 ?_
      refine lv_bipush (v := 8) hx hb dX5_goesOn_159 (by decide) ?_
      refine lv_dup2_11 hx hb dX5_goesOn_161 rfl rfl ?_
      refine m_ld F G mA_1 (by unfold vp_in; decide) dX5_goesOn_162 ?_
      refine lv_aload_n hx hb dX5_goesOn_163 rfl (lv_at hl 0 rfl) ?_
      refine mg_s F G dX5_goesOn_164 ?_
      refine lv_bipush (v := 8) hx hb dX5_goesOn_167 (by decide) ?_
      refine m_ld F G mA_1 (by unfold vp_in; decide) dX5_goesOn_169 ?_
      refine lv_bipush (v := 12) hx hb dX5_goesOn_170 (by decide) ?_
      refine lv_icmp_ge (tgt := 179) hx hb dX5_goesOn_172 (by decide) (fun c_14 => ?_) (fun c_14 => ?_)
      · replace h := h.1 c_14
        refine lv_iconst (v := 0) hx hb dX5_goesOn_179 (by decide) ?_
        exact wM_goesOn_p180 F 0 ((sA I 1 28 v1) 1 8) 8 (sA I 1 28 v1)  G (lv_sub hl [0] rfl) h
      · replace h := h.2 c_14
        refine lv_iconst (v := 1) hx hb dX5_goesOn_175 (by decide) ?_
        refine lv_goto (tgt := 180) hx hb dX5_goesOn_176 (by decide) ?_
        exact wM_goesOn_p180 F 1 ((sA I 1 28 v1) 1 8) 8 (sA I 1 28 v1)  G (lv_sub hl [0] rfl) h
    · replace h := h.2 c_13
      refine lv_aload_n hx hb dX5_goesOn_121 rfl (lv_at hl 0 rfl) ?_
      refine mg_s F G dX5_goesOn_122 ?_
      refine lv_bipush (v := 28) hx hb dX5_goesOn_125 (by decide) ?_
      refine lv_iload_n hx hb dX5_goesOn_127 rfl (lv_at hl 2 rfl) ?_
      refine lv_iadd hx hb dX5_goesOn_128 ?_
      refine lv_aload_n hx hb dX5_goesOn_129 rfl (lv_at hl 0 rfl) ?_
      refine mg_s F G dX5_goesOn_130 ?_
      refine lv_bipush (v := 28) hx hb dX5_goesOn_133 (by decide) ?_
      refine lv_iload_n hx hb dX5_goesOn_135 rfl (lv_at hl 2 rfl) ?_
      refine lv_iadd hx hb dX5_goesOn_136 ?_
      refine lv_iconst (v := 1) hx hb dX5_goesOn_137 (by decide) ?_
      refine lv_isub hx hb dX5_goesOn_138 ?_
      obtain ⟨b_15, h⟩ := h
      refine m_ld F G mA_1 b_15 dX5_goesOn_139 ?_
      obtain ⟨b_16, h⟩ := h
      refine m_st F G mA_1 b_16 dX5_goesOn_140 (fun H locs G => ?_)
      refine lv_iinc (v := (v2 + (-1))) (lv' := [(2, .int (v2 + (-1))), (0, .ref (a 0)), (1, .int v1)]) hx hb dX5_goesOn_141 hl (k := 2) rfl rfl (by decide) rfl (fun ls hl => ?_)
      refine lv_goto (tgt := 117) hx hb dX5_goesOn_144 (by decide) ?_
      exact ih (v2 + (-1)) (sA I 1 (28 + v2) (I 1 (((28 + v2) - 1).toNatClampNeg))) _ _ _ G (lv_sub hl [1, 2, 0] rfl) h
set_option maxHeartbeats 4000000 in
set_option maxRecDepth 100000 in
theorem wM_goesOn_p114 {p : Program} {l : Launch} {e : Env} {s : State} {m : MethodId} {args : Array Value} {below : List Frame} {meth : Method} {c : Code} {D : va_G} {cl : List vw_C} {a : Nat → Nat} {d : ClassId} {A : Nat → Prop} {Q : St → Prop}  (F : FM p s m meth c args D cl d A cX5_goesOn 4 none) (v1 : Int32) (I : St)  {H : Heap} {locs : List Loc} {ls : Array Slot} (G : GM D cl a d A s.heap I H locs) (hl : lv_has ls 4 [(0, .ref (a 0)), (1, .int v1)]) (h : M_goesOn_p114 Q v1 I) : wMv p l e rmX5_goesOn s m args below meth c D cl a d A Q H locs (F0 m 114 ls []) := by
  obtain ⟨hx, hb, hr, hml, hown, hts, hlocks, hA, hK, hcl⟩ := id F
  unfold M_goesOn_p114 at h
  refine lv_bipush (v := 11) hx hb dX5_goesOn_114 (by decide) ?_
  refine lv_istore_n (lv' := [(2, .int 11), (0, .ref (a 0)), (1, .int v1)]) hx hb dX5_goesOn_116 rfl hl (by decide) rfl (fun ls hl => ?_)
  obtain ⟨k117, h⟩ := h
  exact wM_goesOn_L117 F v1  k117 11 I _ _ _ G (lv_sub hl [1, 2, 0] rfl) h
set_option maxHeartbeats 4000000 in
set_option maxRecDepth 100000 in
theorem wM_goesOn_p66 {p : Program} {l : Launch} {e : Env} {s : State} {m : MethodId} {args : Array Value} {below : List Frame} {meth : Method} {c : Code} {D : va_G} {cl : List vw_C} {a : Nat → Nat} {d : ClassId} {A : Nat → Prop} {Q : St → Prop} {K11 : Int32 → Int32 → St → Prop} (F : FM p s m meth c args D cl d A cX5_goesOn 4 none) (v1 : Int32) (v2 : Int32) (t0 : Int32) (t1 : Int32) (t2 : Int32) (I : St) (hK11 : ∀ (v1 : Int32) (v2 : Int32) (I : St) (H : Heap) (locs : List Loc) (ls : Array Slot), GM D cl a d A s.heap I H locs → lv_has ls 4 [(0, .ref (a 0)), (1, .int v1), (2, .int v2)] → K11 v1 v2 I → wMv p l e rmX5_goesOn s m args below meth c D cl a d A Q H locs (F0 m 11 ls [])) {H : Heap} {locs : List Loc} {ls : Array Slot} (G : GM D cl a d A s.heap I H locs) (hl : lv_has ls 4 [(0, .ref (a 0)), (1, .int v1), (2, .int v2)]) (h : M_goesOn_p66 Q K11 v1 v2 t0 t1 t2 I) : wMv p l e rmX5_goesOn s m args below meth c D cl a d A Q H locs (F0 m 66 ls [.int t0, .int t1, .int t2, .ref (a 1)]) := by
  obtain ⟨hx, hb, hr, hml, hown, hts, hlocks, hA, hK, hcl⟩ := id F
  unfold M_goesOn_p66 at h
  refine lv_iadd hx hb dX5_goesOn_66 ?_
  obtain ⟨b_20, h⟩ := h
  refine m_st F G mA_1 b_20 dX5_goesOn_67 (fun H locs G => ?_)
  refine lv_iinc (v := (v2 + (-1))) (lv' := [(2, .int (v2 + (-1))), (0, .ref (a 0)), (1, .int v1)]) hx hb dX5_goesOn_68 hl (k := 2) rfl rfl (by decide) rfl (fun ls hl => ?_)
  refine lv_goto (tgt := 11) hx hb dX5_goesOn_71 (by decide) ?_
  exact hK11 v1 (v2 + (-1)) (sA I 1 t2 (t1 + t0)) _ _ _ G (lv_sub hl [1, 2, 0] rfl) h
set_option maxHeartbeats 4000000 in
set_option maxRecDepth 100000 in
theorem wM_goesOn_p48 {p : Program} {l : Launch} {e : Env} {s : State} {m : MethodId} {args : Array Value} {below : List Frame} {meth : Method} {c : Code} {D : va_G} {cl : List vw_C} {a : Nat → Nat} {d : ClassId} {A : Nat → Prop} {Q : St → Prop} {K11 : Int32 → Int32 → St → Prop} (F : FM p s m meth c args D cl d A cX5_goesOn 4 none) (v2 : Int32) (v3 : Int32) (t0 : Int32) (t1 : Int32) (I : St) (hK11 : ∀ (v1 : Int32) (v2 : Int32) (I : St) (H : Heap) (locs : List Loc) (ls : Array Slot), GM D cl a d A s.heap I H locs → lv_has ls 4 [(0, .ref (a 0)), (1, .int v1), (2, .int v2)] → K11 v1 v2 I → wMv p l e rmX5_goesOn s m args below meth c D cl a d A Q H locs (F0 m 11 ls [])) {H : Heap} {locs : List Loc} {ls : Array Slot} (G : GM D cl a d A s.heap I H locs) (hl : lv_has ls 4 [(0, .ref (a 0)), (2, .int v2), (3, .int v3)]) (h : M_goesOn_p48 Q K11 v2 v3 t0 t1 I) : wMv p l e rmX5_goesOn s m args below meth c D cl a d A Q H locs (F0 m 48 ls [.int t0, .int t1]) := by
  obtain ⟨hx, hb, hr, hml, hown, hts, hlocks, hA, hK, hcl⟩ := id F
  unfold M_goesOn_p48 at h
  refine lv_iadd hx hb dX5_goesOn_48 ?_
  refine lv_topi (fun x_17 ex_17 => ?_)
  replace h := h x_17 ex_17
  refine lv_istore_n (lv' := [(1, .int x_17), (0, .ref (a 0)), (2, .int v2), (3, .int v3)]) hx hb dX5_goesOn_49 rfl hl (by decide) rfl (fun ls hl => ?_)
  refine lv_aload_n hx hb dX5_goesOn_50 rfl (lv_at hl 1 rfl) ?_
  refine mg_s F G dX5_goesOn_51 ?_
  refine lv_iconst (v := 4) hx hb dX5_goesOn_54 (by decide) ?_
  refine lv_dup2_11 hx hb dX5_goesOn_55 rfl rfl ?_
  refine m_ld F G mA_1 (by unfold vp_in; decide) dX5_goesOn_56 ?_
  refine lv_iload_n hx hb dX5_goesOn_57 rfl (lv_at hl 3 rfl) ?_
  refine lv_if_eq (tgt := 65) hx hb dX5_goesOn_58 (by decide) (fun c_18 => ?_) (fun c_18 => ?_)
  · replace h := h.1 c_18
    refine lv_iconst (v := 1) hx hb dX5_goesOn_65 (by decide) ?_
    exact wM_goesOn_p66 F x_17 v2 1 (I 1 4) 4 I hK11 G (lv_sub hl [1, 0, 2] rfl) h
  · replace h := h.2 c_18
    refine lv_iconst (v := 0) hx hb dX5_goesOn_61 (by decide) ?_
    refine lv_goto (tgt := 66) hx hb dX5_goesOn_62 (by decide) ?_
    exact wM_goesOn_p66 F x_17 v2 0 (I 1 4) 4 I hK11 G (lv_sub hl [1, 0, 2] rfl) h
set_option maxHeartbeats 4000000 in
set_option maxRecDepth 100000 in
theorem wM_goesOn_p37 {p : Program} {l : Launch} {e : Env} {s : State} {m : MethodId} {args : Array Value} {below : List Frame} {meth : Method} {c : Code} {D : va_G} {cl : List vw_C} {a : Nat → Nat} {d : ClassId} {A : Nat → Prop} {Q : St → Prop} {K11 : Int32 → Int32 → St → Prop} (F : FM p s m meth c args D cl d A cX5_goesOn 4 none) (v1 : Int32) (v2 : Int32) (t0 : Int32) (I : St) (hK11 : ∀ (v1 : Int32) (v2 : Int32) (I : St) (H : Heap) (locs : List Loc) (ls : Array Slot), GM D cl a d A s.heap I H locs → lv_has ls 4 [(0, .ref (a 0)), (1, .int v1), (2, .int v2)] → K11 v1 v2 I → wMv p l e rmX5_goesOn s m args below meth c D cl a d A Q H locs (F0 m 11 ls [])) {H : Heap} {locs : List Loc} {ls : Array Slot} (G : GM D cl a d A s.heap I H locs) (hl : lv_has ls 4 [(0, .ref (a 0)), (1, .int v1), (2, .int v2)]) (h : M_goesOn_p37 Q K11 v1 v2 t0 I) : wMv p l e rmX5_goesOn s m args below meth c D cl a d A Q H locs (F0 m 37 ls [.int t0]) := by
  obtain ⟨hx, hb, hr, hml, hown, hts, hlocks, hA, hK, hcl⟩ := id F
  unfold M_goesOn_p37 at h
  refine lv_istore_n (lv' := [(3, .int t0), (0, .ref (a 0)), (1, .int v1), (2, .int v2)]) hx hb dX5_goesOn_37 rfl hl (by decide) rfl (fun ls hl => ?_)
  refine lv_iload_n hx hb dX5_goesOn_38 rfl (lv_at hl 2 rfl) ?_
  refine lv_iload_n hx hb dX5_goesOn_39 rfl (lv_at hl 0 rfl) ?_
  refine lv_if_eq (tgt := 47) hx hb dX5_goesOn_40 (by decide) (fun c_12 => ?_) (fun c_12 => ?_)
  · replace h := h.1 c_12
    refine lv_iconst (v := 0) hx hb dX5_goesOn_47 (by decide) ?_
    exact wM_goesOn_p48 F v2 t0 0 v1 I hK11 G (lv_sub hl [1, 3, 0] rfl) h
  · replace h := h.2 c_12
    refine lv_iconst (v := 1) hx hb dX5_goesOn_43 (by decide) ?_
    refine lv_goto (tgt := 48) hx hb dX5_goesOn_44 (by decide) ?_
    exact wM_goesOn_p48 F v2 t0 1 v1 I hK11 G (lv_sub hl [1, 3, 0] rfl) h
set_option maxHeartbeats 4000000 in
set_option maxRecDepth 100000 in
theorem wM_goesOn_L11 {p : Program} {l : Launch} {e : Env} {s : State} {m : MethodId} {args : Array Value} {below : List Frame} {meth : Method} {c : Code} {D : va_G} {cl : List vw_C} {a : Nat → Nat} {d : ClassId} {A : Nat → Prop} {Q : St → Prop}  (F : FM p s m meth c args D cl d A cX5_goesOn 4 none)   :
    ∀ (n : Nat) (v1 : Int32) (v2 : Int32) (I : St) (H : Heap) (locs : List Loc) (ls : Array Slot), GM D cl a d A s.heap I H locs → lv_has ls 4 [(0, .ref (a 0)), (1, .int v1), (2, .int v2)] → M_goesOn_L11 Q n v1 v2 I → wMv p l e rmX5_goesOn s m args below meth c D cl a d A Q H locs (F0 m 11 ls []) := by
  obtain ⟨hx, hb, hr, hml, hown, hts, hlocks, hA, hK, hcl⟩ := id F
  intro n
  induction n with
  | zero => intro v1 v2 I H locs ls G hl h; exact absurd h (fun q => q)
  | succ n ih =>
    intro v1 v2 I H locs ls G hl h
    unfold M_goesOn_L11 at h
    refine lv_iload_n hx hb dX5_goesOn_11 rfl (lv_at hl 2 rfl) ?_
    refine lv_if_le (tgt := 74) hx hb dX5_goesOn_12 (by decide) (fun c_5 => ?_) (fun c_5 => ?_)
    · replace h := h.1 c_5
      refine lv_aload_n hx hb dX5_goesOn_74 rfl (lv_at hl 0 rfl) ?_
      refine mg_s F G dX5_goesOn_75 ?_
      refine lv_iconst (v := 3) hx hb dX5_goesOn_78 (by decide) ?_
      refine lv_dup2_11 hx hb dX5_goesOn_79 rfl rfl ?_
      refine m_ld F G mA_1 (by unfold vp_in; decide) dX5_goesOn_80 ?_
      refine lv_iload_n hx hb dX5_goesOn_81 rfl (lv_at hl 1 rfl) ?_
      refine lv_iadd hx hb dX5_goesOn_82 ?_
      refine m_st F G mA_1 (by unfold vp_in; decide) dX5_goesOn_83 (fun H locs G => ?_)
      refine lv_aload_n hx hb dX5_goesOn_84 rfl (lv_at hl 0 rfl) ?_
      refine kM_drawn F G hl.1 ⟨Nat.le_of_ble_eq_true rfl, Nat.le_of_ble_eq_true rfl⟩ (Nat.le_of_ble_eq_true rfl) dX5_goesOn_85 h (fun r_6 I_7 H locs G h => ?_)
      refine lv_bipush (v := 100) hx hb dX5_goesOn_88 (by decide) ?_
      refine lv_irem hx hb dX5_goesOn_90 (by decide) ?_
      refine lv_aload_n hx hb dX5_goesOn_91 rfl (lv_at hl 0 rfl) ?_
      refine mg_s F G dX5_goesOn_92 ?_
      refine lv_bipush (v := 7) hx hb dX5_goesOn_95 (by decide) ?_
      refine m_ld F G mA_1 (by unfold vp_in; decide) dX5_goesOn_97 ?_
      refine lv_icmp_ge (tgt := 114) hx hb dX5_goesOn_98 (by decide) (fun c_8 => ?_) (fun c_8 => ?_)
      · replace h := h.1 c_8
        exact wM_goesOn_p114 F v1 I_7  G (lv_sub hl [0, 1] rfl) h
      · replace h := h.2 c_8
        refine lv_iinc (v := (v1 + 1)) (lv' := [(1, .int (v1 + 1)), (0, .ref (a 0)), (2, .int v2)]) hx hb dX5_goesOn_101 hl (k := 1) rfl rfl (by decide) rfl (fun ls hl => ?_)
        refine lv_aload_n hx hb dX5_goesOn_104 rfl (lv_at hl 1 rfl) ?_
        refine mg_s F G dX5_goesOn_105 ?_
        refine lv_iconst (v := 5) hx hb dX5_goesOn_108 (by decide) ?_
        refine lv_dup2_11 hx hb dX5_goesOn_109 rfl rfl ?_
        refine m_ld F G mA_1 (by unfold vp_in; decide) dX5_goesOn_110 ?_
        refine lv_iconst (v := 1) hx hb dX5_goesOn_111 (by decide) ?_
        refine lv_iadd hx hb dX5_goesOn_112 ?_
        refine m_st F G mA_1 (by unfold vp_in; decide) dX5_goesOn_113 (fun H locs G => ?_)
        exact wM_goesOn_p114 F (v1 + 1) (sA I_7 1 5 ((I_7 1 5) + 1))  G (lv_sub hl [1, 0] rfl) h
    · replace h := h.2 c_5
      refine lv_aload_n hx hb dX5_goesOn_15 rfl (lv_at hl 0 rfl) ?_
      refine kM_drawn F G hl.1 ⟨Nat.le_of_ble_eq_true rfl, Nat.le_of_ble_eq_true rfl⟩ (Nat.le_of_ble_eq_true rfl) dX5_goesOn_16 h (fun r_9 I_10 H locs G h => ?_)
      refine lv_bipush (v := 100) hx hb dX5_goesOn_19 (by decide) ?_
      refine lv_irem hx hb dX5_goesOn_21 (by decide) ?_
      refine lv_aload_n hx hb dX5_goesOn_22 rfl (lv_at hl 0 rfl) ?_
      refine mg_s F G dX5_goesOn_23 ?_
      refine lv_bipush (v := 6) hx hb dX5_goesOn_26 (by decide) ?_
      refine m_ld F G mA_1 (by unfold vp_in; decide) dX5_goesOn_28 ?_
      refine lv_icmp_ge (tgt := 36) hx hb dX5_goesOn_29 (by decide) (fun c_11 => ?_) (fun c_11 => ?_)
      · replace h := h.1 c_11
        refine lv_iconst (v := 0) hx hb dX5_goesOn_36 (by decide) ?_
        exact wM_goesOn_p37 F v1 v2 0 I_10 ih G (lv_sub hl [0, 1, 2] rfl) h
      · replace h := h.2 c_11
        refine lv_iconst (v := 1) hx hb dX5_goesOn_32 (by decide) ?_
        refine lv_goto (tgt := 37) hx hb dX5_goesOn_33 (by decide) ?_
        exact wM_goesOn_p37 F v1 v2 1 I_10 ih G (lv_sub hl [0, 1, 2] rfl) h
set_option maxHeartbeats 4000000 in
set_option maxRecDepth 100000 in
theorem wM_goesOn {l : Launch} {D : va_G} {cl : List vw_C} {a : Nat → Nat} {d : ClassId} (hcl : cl[5]? = some (RX5, TX5, 32)) (sz : Nat)  (I : St) (Q : St → Prop) (h : M_goesOn  I Q) : MMv l D cl a d yX5_goesOn cX5_goesOn 4 rmX5_goesOn [.ref (a 0)] sz I Q := by
  refine m_enter (Qc := fun A => va_Qv Q (BM D cl a d A) A) hcl (by decide) rfl (Nat.le_of_ble_eq_true rfl) ?_
  intro p e s m below meth c ls A F hG hl
  have G := hG
  have hl : lv_has ls 4 [(0, .ref (a 0))] := hl
  obtain ⟨hx, hb, hr, hml, hown, hts, hlocks, hA, hK, hcl⟩ := id F
  unfold M_goesOn at h
  refine lv_iconst (v := 0) hx hb dX5_goesOn_0 (by decide) ?_
  refine lv_istore_n (lv' := [(1, .int 0), (0, .ref (a 0))]) hx hb dX5_goesOn_1 rfl hl (by decide) rfl (fun ls hl => ?_)
  refine lv_aload_n hx hb dX5_goesOn_2 rfl (lv_at hl 1 rfl) ?_
  refine lv_aload_n hx hb dX5_goesOn_3 rfl (lv_at hl 1 rfl) ?_
  refine kM_timeNow F G hl.1 ⟨Nat.le_of_ble_eq_true rfl, Nat.le_of_ble_eq_true rfl⟩ (Nat.le_of_ble_eq_true rfl) dX5_goesOn_4 h (fun r_1 I_2 H locs G h => ?_)
  refine kM_totalAt F G hl.1 ⟨Nat.le_of_ble_eq_true rfl, Nat.le_of_ble_eq_true rfl⟩ (Nat.le_of_ble_eq_true rfl) dX5_goesOn_7 h (fun r_3 I_4 H locs G h => ?_)
  refine lv_istore_n (lv' := [(2, .int r_3), (1, .int 0), (0, .ref (a 0))]) hx hb dX5_goesOn_10 rfl hl (by decide) rfl (fun ls hl => ?_)
  obtain ⟨k11, h⟩ := h
  exact wM_goesOn_L11 F   k11 0 r_3 I_4 _ _ _ G (lv_sub hl [2, 1, 0] rfl) h
set_option maxHeartbeats 4000000 in
set_option maxRecDepth 100000 in
theorem kM_goesOn {p : Program} {l : Launch} {e : Env} {s : State} {m : MethodId} {R : Room} {args : Array Value} {below : List Frame} {meth : Method} {c : Code} {D : va_G} {cl : List vw_C} {a : Nat → Nat} {d : ClassId} {A : Nat → Prop} {Q : State → Prop} {cc : ByteArray} {nL pc : Nat} {ret : Option FieldType} {ls : Array Slot} {rest : List Value}  {I : St} {H : Heap} {locs : List Loc} {Q1 : St → Prop} (F : FM p s m meth c args D cl d A cc nL ret) (G : GM D cl a d A s.heap I H locs) (hsz : ls.size = nL) (hR : rmX5_goesOn.frames + 1 ≤ R.frames ∧ 8 + (4 + 11) + rmX5_goesOn.locals ≤ R.locals) (hW : (rest.map fun v => v.category).sum ≤ 8) (hd : decode cc pc = .ok (.invokevirtual 144, 3)) (h : M_goesOn  I Q1) (k : ∀ (I1 : St) (H : Heap) (locs : List Loc), GM D cl a d A s.heap I1 H locs → Q1 I1 → W p l e R s m args below meth c H locs 0 0 Q (F0 m (pc + 3) ls rest)) : W p l e R s m args below meth c H locs 0 0 Q (F0 m pc ls (.ref (a 0) :: rest)) := by
  obtain ⟨hx, hb, hr, hml, hown, hts, hlocks, hA, hK, hcl⟩ := id F
  exact m_callVv (As := []) F G hsz (wM_goesOn hcl H.size  I Q1 h) (cwV 0 hts (lw_V q1417 q1419 qs54 q90 q1420) rfl rfl rfl (by decide +kernel) hR) rfl rfl hW hd k
/-! goesOnMany -/
def M_goesOnMany_L2 (Q : St → Prop)  (v1 : Int32) : Nat → Int32 → St → Prop
  | 0, _, _ => False
  | n + 1, v2, I => (v1 ≤ v2 → Q I) ∧ (¬ v1 ≤ v2 → M_goesOn  I (fun I_3 => M_goesOnMany_L2 Q v1 n (v2 + 1) I_3))
def M_goesOnMany (v1 : Int32) (I : St) (Q : St → Prop) : Prop := ∃ k2, M_goesOnMany_L2 Q v1 k2 0 I
abbrev rmX5_goesOnMany : Room := { frames := 6, cells := 0, slots := 0, locals := 142 }
set_option maxHeartbeats 4000000 in
set_option maxRecDepth 100000 in
theorem wM_goesOnMany_L2 {p : Program} {l : Launch} {e : Env} {s : State} {m : MethodId} {args : Array Value} {below : List Frame} {meth : Method} {c : Code} {D : va_G} {cl : List vw_C} {a : Nat → Nat} {d : ClassId} {A : Nat → Prop} {Q : St → Prop}  (F : FM p s m meth c args D cl d A cX5_goesOnMany 3 none) (v1 : Int32)  :
    ∀ (n : Nat) (v2 : Int32) (I : St) (H : Heap) (locs : List Loc) (ls : Array Slot), GM D cl a d A s.heap I H locs → lv_has ls 3 [(0, .ref (a 0)), (1, .int v1), (2, .int v2)] → M_goesOnMany_L2 Q v1 n v2 I → wMv p l e rmX5_goesOnMany s m args below meth c D cl a d A Q H locs (F0 m 2 ls []) := by
  obtain ⟨hx, hb, hr, hml, hown, hts, hlocks, hA, hK, hcl⟩ := id F
  intro n
  induction n with
  | zero => intro v2 I H locs ls G hl h; exact absurd h (fun q => q)
  | succ n ih =>
    intro v2 I H locs ls G hl h
    unfold M_goesOnMany_L2 at h
    refine lv_iload_n hx hb dX5_goesOnMany_2 rfl (lv_at hl 2 rfl) ?_
    refine lv_iload_n hx hb dX5_goesOnMany_3 rfl (lv_at hl 1 rfl) ?_
    refine lv_icmp_ge (tgt := 17) hx hb dX5_goesOnMany_4 (by decide) (fun c_1 => ?_) (fun c_1 => ?_)
    · replace h := h.1 c_1
      exact m_vret F G dX5_goesOnMany_17 h
    · replace h := h.2 c_1
      refine lv_aload_n hx hb dX5_goesOnMany_7 rfl (lv_at hl 0 rfl) ?_
      refine kM_goesOn F G hl.1 ⟨Nat.le_of_ble_eq_true rfl, Nat.le_of_ble_eq_true rfl⟩ (Nat.le_of_ble_eq_true rfl) dX5_goesOnMany_8 h (fun I_3 H locs G h => ?_)
      refine lv_iinc (v := (v2 + 1)) (lv' := [(2, .int (v2 + 1)), (0, .ref (a 0)), (1, .int v1)]) hx hb dX5_goesOnMany_11 hl (k := 2) rfl rfl (by decide) rfl (fun ls hl => ?_)
      refine lv_goto (tgt := 2) hx hb dX5_goesOnMany_14 (by decide) ?_
      exact ih (v2 + 1) I_3 _ _ _ G (lv_sub hl [1, 2, 0] rfl) h
set_option maxHeartbeats 4000000 in
set_option maxRecDepth 100000 in
theorem wM_goesOnMany {l : Launch} {D : va_G} {cl : List vw_C} {a : Nat → Nat} {d : ClassId} (hcl : cl[5]? = some (RX5, TX5, 32)) (sz : Nat) (v1 : Int32) (I : St) (Q : St → Prop) (h : M_goesOnMany v1 I Q) : MMv l D cl a d yX5_goesOnMany cX5_goesOnMany 3 rmX5_goesOnMany [.ref (a 0), .int v1] sz I Q := by
  refine m_enter (Qc := fun A => va_Qv Q (BM D cl a d A) A) hcl (by decide) rfl (Nat.le_of_ble_eq_true rfl) ?_
  intro p e s m below meth c ls A F hG hl
  have G := hG
  have hl : lv_has ls 3 [(0, .ref (a 0)), (1, .int v1)] := hl
  obtain ⟨hx, hb, hr, hml, hown, hts, hlocks, hA, hK, hcl⟩ := id F
  unfold M_goesOnMany at h
  refine lv_iconst (v := 0) hx hb dX5_goesOnMany_0 (by decide) ?_
  refine lv_istore_n (lv' := [(2, .int 0), (0, .ref (a 0)), (1, .int v1)]) hx hb dX5_goesOnMany_1 rfl hl (by decide) rfl (fun ls hl => ?_)
  obtain ⟨k2, h⟩ := h
  exact wM_goesOnMany_L2 F v1  k2 0 I _ _ _ G (lv_sub hl [1, 2, 0] rfl) h
set_option maxHeartbeats 4000000 in
set_option maxRecDepth 100000 in
theorem kM_goesOnMany {p : Program} {l : Launch} {e : Env} {s : State} {m : MethodId} {R : Room} {args : Array Value} {below : List Frame} {meth : Method} {c : Code} {D : va_G} {cl : List vw_C} {a : Nat → Nat} {d : ClassId} {A : Nat → Prop} {Q : State → Prop} {cc : ByteArray} {nL pc : Nat} {ret : Option FieldType} {ls : Array Slot} {rest : List Value} {v1 : Int32} {I : St} {H : Heap} {locs : List Loc} {Q1 : St → Prop} (F : FM p s m meth c args D cl d A cc nL ret) (G : GM D cl a d A s.heap I H locs) (hsz : ls.size = nL) (hR : rmX5_goesOnMany.frames + 1 ≤ R.frames ∧ 8 + (3 + 11) + rmX5_goesOnMany.locals ≤ R.locals) (hW : (rest.map fun v => v.category).sum ≤ 8) (hd : decode cc pc = .ok (.invokevirtual 147, 3)) (h : M_goesOnMany v1 I Q1) (k : ∀ (I1 : St) (H : Heap) (locs : List Loc), GM D cl a d A s.heap I1 H locs → Q1 I1 → W p l e R s m args below meth c H locs 0 0 Q (F0 m (pc + 3) ls rest)) : W p l e R s m args below meth c H locs 0 0 Q (F0 m pc ls (.int v1 :: .ref (a 0) :: rest)) := by
  obtain ⟨hx, hb, hr, hml, hown, hts, hlocks, hA, hK, hcl⟩ := id F
  exact m_callVv (As := [.int v1]) F G hsz (wM_goesOnMany hcl H.size v1 I Q1 h) (cwV 1 hts (lw_V q1413 q1415 qs53 q90 q1416) rfl rfl rfl (by decide +kernel) hR) rfl rfl hW hd k
/-! minutes -/
def M_minutes_p44 (Q : Int32 → St → Prop)  (v2 : Int32) (t0 : Int32) (I : St) : Prop := M_goesOnMany t0 I (fun I_8 => Q ((I_8 1 3) - v2) I_8)
def M_minutes (v1 : Int32) (I : St) (Q : Int32 → St → Prop) : Prop := M_isIn v1.toInt64 1 100 I (fun r_1 I_2 => (¬ r_1 = 0 → ∀ x_4 : Int32, x_4 = (I_2 1 3) → ∀ x_5 : Int32, x_5 = (9999 - (I_2 1 2)) → (x_5 ≤ v1 → M_minutes_p44 Q x_4 x_5 I_2) ∧ (¬ x_5 ≤ v1 → M_minutes_p44 Q x_4 v1 I_2)) ∧ (r_1 = 0 → Q (-1000000001) I_2))
abbrev rmX5_minutes : Room := { frames := 7, cells := 0, slots := 0, locals := 164 }
set_option maxHeartbeats 4000000 in
set_option maxRecDepth 100000 in
theorem wM_minutes_p44 {p : Program} {l : Launch} {e : Env} {s : State} {m : MethodId} {args : Array Value} {below : List Frame} {meth : Method} {c : Code} {D : va_G} {cl : List vw_C} {a : Nat → Nat} {d : ClassId} {A : Nat → Prop} {Q : Int32 → St → Prop}  (F : FM p s m meth c args D cl d A cX5_minutes 4 (some .int)) (v2 : Int32) (t0 : Int32) (I : St)  {H : Heap} {locs : List Loc} {ls : Array Slot} (G : GM D cl a d A s.heap I H locs) (hl : lv_has ls 4 [(0, .ref (a 0)), (2, .int v2)]) (h : M_minutes_p44 Q v2 t0 I) : wMi p l e rmX5_minutes s m args below meth c D cl a d A Q H locs (F0 m 44 ls [.int t0, .ref (a 0)]) := by
  obtain ⟨hx, hb, hr, hml, hown, hts, hlocks, hA, hK, hcl⟩ := id F
  unfold M_minutes_p44 at h
  refine kM_goesOnMany F G hl.1 ⟨Nat.le_of_ble_eq_true rfl, Nat.le_of_ble_eq_true rfl⟩ (Nat.le_of_ble_eq_true rfl) dX5_minutes_44 h (fun I_8 H locs G h => ?_)
  refine lv_aload_n hx hb dX5_minutes_47 rfl (lv_at hl 0 rfl) ?_
  refine mg_s F G dX5_minutes_48 ?_
  refine lv_iconst (v := 3) hx hb dX5_minutes_51 (by decide) ?_
  refine m_ld F G mA_1 (by unfold vp_in; decide) dX5_minutes_52 ?_
  refine lv_iload_n hx hb dX5_minutes_53 rfl (lv_at hl 1 rfl) ?_
  refine lv_isub hx hb dX5_minutes_54 ?_
  exact m_iret F G dX5_minutes_55 h
set_option maxHeartbeats 4000000 in
set_option maxRecDepth 100000 in
theorem wM_minutes {l : Launch} {D : va_G} {cl : List vw_C} {a : Nat → Nat} {d : ClassId} (hcl : cl[5]? = some (RX5, TX5, 32)) (sz : Nat) (v1 : Int32) (I : St) (Q : Int32 → St → Prop) (h : M_minutes v1 I Q) : MMi l D cl a d yX5_minutes cX5_minutes 4 .int rmX5_minutes [.ref (a 0), .int v1] sz I Q := by
  refine m_enter (Qc := fun A => va_Qi Q (BM D cl a d A) A) hcl (by decide) rfl (Nat.le_of_ble_eq_true rfl) ?_
  intro p e s m below meth c ls A F hG hl
  have G := hG
  have hl : lv_has ls 4 [(0, .ref (a 0)), (1, .int v1)] := hl
  obtain ⟨hx, hb, hr, hml, hown, hts, hlocks, hA, hK, hcl⟩ := id F
  unfold M_minutes at h
  refine lv_iload_n hx hb dX5_minutes_0 rfl (lv_at hl 1 rfl) ?_
  refine lv_i2l (v := v1.toInt64) hx hb dX5_minutes_1 rfl ?_
  refine lv_lconst (v := 1) hx hb dX5_minutes_2 (by decide) ?_
  refine lv_ldc2 hx hb hown (hts _ q1394) dX5_minutes_3 ?_
  refine kM_isIn F G hl.1 ⟨Nat.le_of_ble_eq_true rfl, Nat.le_of_ble_eq_true rfl⟩ (Nat.le_of_ble_eq_true rfl) dX5_minutes_6 h (fun r_1 I_2 H locs G h => ?_)
  refine lv_if_ne (tgt := 15) hx hb dX5_minutes_9 (by decide) (fun c_3 => ?_) (fun c_3 => ?_)
  · replace h := h.1 c_3
    refine lv_aload_n hx hb dX5_minutes_15 rfl (lv_at hl 0 rfl) ?_
    refine mg_s F G dX5_minutes_16 ?_
    refine lv_iconst (v := 3) hx hb dX5_minutes_19 (by decide) ?_
    refine m_ld F G mA_1 (by unfold vp_in; decide) dX5_minutes_20 ?_
    refine lv_topi (fun x_4 ex_4 => ?_)
    replace h := h x_4 ex_4
    refine lv_istore_n (lv' := [(2, .int x_4), (0, .ref (a 0)), (1, .int v1)]) hx hb dX5_minutes_21 rfl hl (by decide) rfl (fun ls hl => ?_)
    refine lv_sipush (v := 9999) hx hb dX5_minutes_22 (by decide) ?_
    refine lv_aload_n hx hb dX5_minutes_25 rfl (lv_at hl 1 rfl) ?_
    refine mg_s F G dX5_minutes_26 ?_
    refine lv_iconst (v := 2) hx hb dX5_minutes_29 (by decide) ?_
    refine m_ld F G mA_1 (by unfold vp_in; decide) dX5_minutes_30 ?_
    refine lv_isub hx hb dX5_minutes_31 ?_
    refine lv_topi (fun x_5 ex_5 => ?_)
    replace h := h x_5 ex_5
    refine lv_istore_n (lv' := [(3, .int x_5), (2, .int x_4), (0, .ref (a 0)), (1, .int v1)]) hx hb dX5_minutes_32 rfl hl (by decide) rfl (fun ls hl => ?_)
    refine lv_aload_n hx hb dX5_minutes_33 rfl (lv_at hl 2 rfl) ?_
    refine lv_iload_n hx hb dX5_minutes_34 rfl (lv_at hl 3 rfl) ?_
    refine lv_iload_n hx hb dX5_minutes_35 rfl (lv_at hl 0 rfl) ?_
    refine lv_icmp_ge (tgt := 43) hx hb dX5_minutes_36 (by decide) (fun c_6 => ?_) (fun c_6 => ?_)
    · replace h := h.1 c_6
      refine lv_iload_n hx hb dX5_minutes_43 rfl (lv_at hl 0 rfl) ?_
      exact wM_minutes_p44 F x_4 x_5 I_2  G (lv_sub hl [2, 1] rfl) h
    · replace h := h.2 c_6
      refine lv_iload_n hx hb dX5_minutes_39 rfl (lv_at hl 3 rfl) ?_
      refine lv_goto (tgt := 44) hx hb dX5_minutes_40 (by decide) ?_
      exact wM_minutes_p44 F x_4 v1 I_2  G (lv_sub hl [2, 1] rfl) h
  · replace h := h.2 c_3
    refine lv_ldc hx hb hown (hts _ q1296) dX5_minutes_12 ?_
    exact m_iret F G dX5_minutes_14 h

/-! bed -/
def M_bed (v1 : Int32) (I : St) (Q : Int32 → St → Prop) : Prop := M_isIn v1.toInt64 0 3 I (fun r_1 I_2 => (¬ r_1 = 0 → (3 ≤ v1 → Q (I_2 1 8) I_2) ∧ (¬ 3 ≤ v1 → vp_in (3 + v1) 3040 ∧ (Q (I_2 1 ((3 + v1).toNatClampNeg)) I_2))) ∧ (r_1 = 0 → Q (-1000000001) I_2))
abbrev rmX5_bed : Room := { frames := 1, cells := 0, slots := 0, locals := 25 }
set_option maxHeartbeats 4000000 in
set_option maxRecDepth 100000 in
theorem wM_bed {l : Launch} {D : va_G} {cl : List vw_C} {a : Nat → Nat} {d : ClassId} (hcl : cl[5]? = some (RX5, TX5, 32)) (sz : Nat) (v1 : Int32) (I : St) (Q : Int32 → St → Prop) (h : M_bed v1 I Q) : MMi l D cl a d yX5_bed cX5_bed 2 .int rmX5_bed [.ref (a 0), .int v1] sz I Q := by
  refine m_enter (Qc := fun A => va_Qi Q (BM D cl a d A) A) hcl (by decide) rfl (Nat.le_of_ble_eq_true rfl) ?_
  intro p e s m below meth c ls A F hG hl
  have G := hG
  have hl : lv_has ls 2 [(0, .ref (a 0)), (1, .int v1)] := hl
  obtain ⟨hx, hb, hr, hml, hown, hts, hlocks, hA, hK, hcl⟩ := id F
  unfold M_bed at h
  refine lv_iload_n hx hb dX5_bed_0 rfl (lv_at hl 1 rfl) ?_
  refine lv_i2l (v := v1.toInt64) hx hb dX5_bed_1 rfl ?_
  refine lv_lconst (v := 0) hx hb dX5_bed_2 (by decide) ?_
  refine lv_ldc2 hx hb hown (hts _ q1425) dX5_bed_3 ?_
  refine kM_isIn F G hl.1 ⟨Nat.le_of_ble_eq_true rfl, Nat.le_of_ble_eq_true rfl⟩ (Nat.le_of_ble_eq_true rfl) dX5_bed_6 h (fun r_1 I_2 H locs G h => ?_)
  refine lv_if_ne (tgt := 17) hx hb dX5_bed_9 (by decide) (fun c_3 => ?_) (fun c_3 => ?_)
  · replace h := h.1 c_3
    refine lv_iload_n hx hb dX5_bed_17 rfl (lv_at hl 1 rfl) ?_
    refine lv_iconst (v := 3) hx hb dX5_bed_18 (by decide) ?_
    refine lv_icmp_ge (tgt := 33) hx hb dX5_bed_19 (by decide) (fun c_4 => ?_) (fun c_4 => ?_)
    · replace h := h.1 c_4
      refine lv_aload_n hx hb dX5_bed_33 rfl (lv_at hl 0 rfl) ?_
      refine mg_s F G dX5_bed_34 ?_
      refine lv_bipush (v := 8) hx hb dX5_bed_37 (by decide) ?_
      refine m_ld F G mA_1 (by unfold vp_in; decide) dX5_bed_39 ?_
      exact m_iret F G dX5_bed_40 h
    · replace h := h.2 c_4
      refine lv_aload_n hx hb dX5_bed_22 rfl (lv_at hl 0 rfl) ?_
      refine mg_s F G dX5_bed_23 ?_
      refine lv_iconst (v := 3) hx hb dX5_bed_26 (by decide) ?_
      refine lv_iload_n hx hb dX5_bed_27 rfl (lv_at hl 1 rfl) ?_
      refine lv_iadd hx hb dX5_bed_28 ?_
      obtain ⟨b_5, h⟩ := h
      refine m_ld F G mA_1 b_5 dX5_bed_29 ?_
      refine lv_goto (tgt := 40) hx hb dX5_bed_30 (by decide) ?_
      exact m_iret F G dX5_bed_40 h
  · replace h := h.2 c_3
    refine lv_ldc hx hb hown (hts _ q1296) dX5_bed_12 ?_
    refine lv_goto (tgt := 40) hx hb dX5_bed_14 (by decide) ?_
    exact m_iret F G dX5_bed_40 h

/-! note -/
def M_note (v1 : Int32) (I : St) (Q : Int32 → St → Prop) : Prop := M_isIn v1.toInt64 0 11 I (fun r_1 I_2 => (¬ r_1 = 0 → ((I_2 1 8) ≤ v1 → Q (-1000000005) I_2) ∧ (¬ (I_2 1 8) ≤ v1 → vp_in (28 + v1) 3040 ∧ (Q (I_2 1 ((28 + v1).toNatClampNeg)) I_2))) ∧ (r_1 = 0 → Q (-1000000001) I_2))
abbrev rmX5_note : Room := { frames := 1, cells := 0, slots := 0, locals := 25 }
set_option maxHeartbeats 4000000 in
set_option maxRecDepth 100000 in
theorem wM_note {l : Launch} {D : va_G} {cl : List vw_C} {a : Nat → Nat} {d : ClassId} (hcl : cl[5]? = some (RX5, TX5, 32)) (sz : Nat) (v1 : Int32) (I : St) (Q : Int32 → St → Prop) (h : M_note v1 I Q) : MMi l D cl a d yX5_note cX5_note 2 .int rmX5_note [.ref (a 0), .int v1] sz I Q := by
  refine m_enter (Qc := fun A => va_Qi Q (BM D cl a d A) A) hcl (by decide) rfl (Nat.le_of_ble_eq_true rfl) ?_
  intro p e s m below meth c ls A F hG hl
  have G := hG
  have hl : lv_has ls 2 [(0, .ref (a 0)), (1, .int v1)] := hl
  obtain ⟨hx, hb, hr, hml, hown, hts, hlocks, hA, hK, hcl⟩ := id F
  unfold M_note at h
  refine lv_iload_n hx hb dX5_note_0 rfl (lv_at hl 1 rfl) ?_
  refine lv_i2l (v := v1.toInt64) hx hb dX5_note_1 rfl ?_
  refine lv_lconst (v := 0) hx hb dX5_note_2 (by decide) ?_
  refine lv_ldc2 hx hb hown (hts _ q1430) dX5_note_3 ?_
  refine kM_isIn F G hl.1 ⟨Nat.le_of_ble_eq_true rfl, Nat.le_of_ble_eq_true rfl⟩ (Nat.le_of_ble_eq_true rfl) dX5_note_6 h (fun r_1 I_2 H locs G h => ?_)
  refine lv_if_ne (tgt := 15) hx hb dX5_note_9 (by decide) (fun c_3 => ?_) (fun c_3 => ?_)
  · replace h := h.1 c_3
    refine lv_iload_n hx hb dX5_note_15 rfl (lv_at hl 1 rfl) ?_
    refine lv_aload_n hx hb dX5_note_16 rfl (lv_at hl 0 rfl) ?_
    refine mg_s F G dX5_note_17 ?_
    refine lv_bipush (v := 8) hx hb dX5_note_20 (by decide) ?_
    refine m_ld F G mA_1 (by unfold vp_in; decide) dX5_note_22 ?_
    refine lv_icmp_ge (tgt := 38) hx hb dX5_note_23 (by decide) (fun c_4 => ?_) (fun c_4 => ?_)
    · replace h := h.1 c_4
      refine lv_ldc hx hb hown (hts _ q1431) dX5_note_38 ?_
      exact m_iret F G dX5_note_40 h
    · replace h := h.2 c_4
      refine lv_aload_n hx hb dX5_note_26 rfl (lv_at hl 0 rfl) ?_
      refine mg_s F G dX5_note_27 ?_
      refine lv_bipush (v := 28) hx hb dX5_note_30 (by decide) ?_
      refine lv_iload_n hx hb dX5_note_32 rfl (lv_at hl 1 rfl) ?_
      refine lv_iadd hx hb dX5_note_33 ?_
      obtain ⟨b_5, h⟩ := h
      refine m_ld F G mA_1 b_5 dX5_note_34 ?_
      refine lv_goto (tgt := 40) hx hb dX5_note_35 (by decide) ?_
      exact m_iret F G dX5_note_40 h
  · replace h := h.2 c_3
    refine lv_ldc hx hb hown (hts _ q1296) dX5_note_12 ?_
    exact m_iret F G dX5_note_14 h

/-! doesFit -/
def M_doesFit_p105 (Q : Int32 → St → Prop) (K21 : Int32 → Int32 → St → Prop) (v1 : Int32) (v2 : Int32) (v4 : Int32) (t0 : Int32) (I : St) : Prop := K21 t0 (v4 + 1) I
def M_doesFit_p104 (Q : Int32 → St → Prop) (K21 : Int32 → Int32 → St → Prop) (v1 : Int32) (v2 : Int32) (v4 : Int32) (I : St) : Prop := M_doesFit_p105 Q K21 v1 v2 v4 0 I
def M_doesFit_p100 (Q : Int32 → St → Prop) (K21 : Int32 → Int32 → St → Prop) (v1 : Int32) (v2 : Int32) (v4 : Int32) (I : St) : Prop := M_doesFit_p105 Q K21 v1 v2 v4 1 I
def M_doesFit_L21 (Q : Int32 → St → Prop)  (v1 : Int32) (v2 : Int32) : Nat → Int32 → Int32 → St → Prop
  | 0, _, _, _ => False
  | n + 1, v3, v4, I => ((I 1 8) ≤ v4 → zb v3 ∧ Q v3 I) ∧ (¬ (I 1 8) ≤ v4 → (v3 = 0 → zb v3 ∧ Q v3 I) ∧ (¬ v3 = 0 → vp_in (((v1 + 720) - v4) - ((v1 + 720) - v4) / 720 * 720) 720 ∧ (∀ x_5 : Int32, x_5 = (I 12 ((((v1 + 720) - v4) - ((v1 + 720) - v4) / 720 * 720).toNatClampNeg)) → vp_in (28 + v4) 3040 ∧ (((x_5 + v2) < (I 1 ((28 + v4).toNatClampNeg)) → M_doesFit_p104 Q (fun v3_ v4_ I_ => M_doesFit_L21 Q v1 v2 n v3_ v4_ I_) v1 v2 v4 I) ∧ (¬ (x_5 + v2) < (I 1 ((28 + v4).toNatClampNeg)) → ((I 1 6) < 100 → M_doesFit_p100 Q (fun v3_ v4_ I_ => M_doesFit_L21 Q v1 v2 n v3_ v4_ I_) v1 v2 v4 I) ∧ (¬ (I 1 6) < 100 → vp_in (28 + v4) 3040 ∧ (((I 1 ((28 + v4).toNatClampNeg)) < x_5 → M_doesFit_p104 Q (fun v3_ v4_ I_ => M_doesFit_L21 Q v1 v2 n v3_ v4_ I_) v1 v2 v4 I) ∧ (¬ (I 1 ((28 + v4).toNatClampNeg)) < x_5 → M_doesFit_p100 Q (fun v3_ v4_ I_ => M_doesFit_L21 Q v1 v2 n v3_ v4_ I_) v1 v2 v4 I))))))))
def M_doesFit_p15 (Q : Int32 → St → Prop)  (v1 : Int32) (t0 : Int32) (I : St) : Prop := ∃ k21, M_doesFit_L21 Q v1 t0 k21 1 0 I
def M_doesFit (v1 : Int32) (I : St) (Q : Int32 → St → Prop) : Prop := ((I 1 7) ≤ 0 → M_doesFit_p15 Q v1 0 I) ∧ (¬ (I 1 7) ≤ 0 → M_doesFit_p15 Q v1 1 I)
abbrev rmX5_doesFit : Room := { frames := 0, cells := 0, slots := 0, locals := 0 }
set_option maxHeartbeats 4000000 in
set_option maxRecDepth 100000 in
theorem wM_doesFit_p105 {p : Program} {l : Launch} {e : Env} {s : State} {m : MethodId} {args : Array Value} {below : List Frame} {meth : Method} {c : Code} {D : va_G} {cl : List vw_C} {a : Nat → Nat} {d : ClassId} {A : Nat → Prop} {Q : Int32 → St → Prop} {K21 : Int32 → Int32 → St → Prop} (F : FM p s m meth c args D cl d A cX5_doesFit 6 (some .boolean)) (v1 : Int32) (v2 : Int32) (v4 : Int32) (t0 : Int32) (I : St) (hK21 : ∀ (v3 : Int32) (v4 : Int32) (I : St) (H : Heap) (locs : List Loc) (ls : Array Slot), GM D cl a d A s.heap I H locs → lv_has ls 6 [(0, .ref (a 0)), (1, .int v1), (2, .int v2), (3, .int v3), (4, .int v4)] → K21 v3 v4 I → wMi p l e rmX5_doesFit s m args below meth c D cl a d A Q H locs (F0 m 21 ls [])) {H : Heap} {locs : List Loc} {ls : Array Slot} (G : GM D cl a d A s.heap I H locs) (hl : lv_has ls 6 [(0, .ref (a 0)), (1, .int v1), (2, .int v2), (4, .int v4)]) (h : M_doesFit_p105 Q K21 v1 v2 v4 t0 I) : wMi p l e rmX5_doesFit s m args below meth c D cl a d A Q H locs (F0 m 105 ls [.int t0]) := by
  obtain ⟨hx, hb, hr, hml, hown, hts, hlocks, hA, hK, hcl⟩ := id F
  unfold M_doesFit_p105 at h
  refine lv_istore_n (lv' := [(3, .int t0), (0, .ref (a 0)), (1, .int v1), (2, .int v2), (4, .int v4)]) hx hb dX5_doesFit_105 rfl hl (by decide) rfl (fun ls hl => ?_)
  refine lv_iinc (v := (v4 + 1)) (lv' := [(4, .int (v4 + 1)), (3, .int t0), (0, .ref (a 0)), (1, .int v1), (2, .int v2)]) hx hb dX5_doesFit_106 hl (k := 4) rfl rfl (by decide) rfl (fun ls hl => ?_)
  refine lv_goto (tgt := 21) hx hb dX5_doesFit_109 (by decide) ?_
  exact hK21 t0 (v4 + 1) I _ _ _ G (lv_sub hl [2, 3, 4, 1, 0] rfl) h
set_option maxHeartbeats 4000000 in
set_option maxRecDepth 100000 in
theorem wM_doesFit_p104 {p : Program} {l : Launch} {e : Env} {s : State} {m : MethodId} {args : Array Value} {below : List Frame} {meth : Method} {c : Code} {D : va_G} {cl : List vw_C} {a : Nat → Nat} {d : ClassId} {A : Nat → Prop} {Q : Int32 → St → Prop} {K21 : Int32 → Int32 → St → Prop} (F : FM p s m meth c args D cl d A cX5_doesFit 6 (some .boolean)) (v1 : Int32) (v2 : Int32) (v4 : Int32) (I : St) (hK21 : ∀ (v3 : Int32) (v4 : Int32) (I : St) (H : Heap) (locs : List Loc) (ls : Array Slot), GM D cl a d A s.heap I H locs → lv_has ls 6 [(0, .ref (a 0)), (1, .int v1), (2, .int v2), (3, .int v3), (4, .int v4)] → K21 v3 v4 I → wMi p l e rmX5_doesFit s m args below meth c D cl a d A Q H locs (F0 m 21 ls [])) {H : Heap} {locs : List Loc} {ls : Array Slot} (G : GM D cl a d A s.heap I H locs) (hl : lv_has ls 6 [(0, .ref (a 0)), (1, .int v1), (2, .int v2), (4, .int v4)]) (h : M_doesFit_p104 Q K21 v1 v2 v4 I) : wMi p l e rmX5_doesFit s m args below meth c D cl a d A Q H locs (F0 m 104 ls []) := by
  obtain ⟨hx, hb, hr, hml, hown, hts, hlocks, hA, hK, hcl⟩ := id F
  unfold M_doesFit_p104 at h
  refine lv_iconst (v := 0) hx hb dX5_doesFit_104 (by decide) ?_
  exact wM_doesFit_p105 F v1 v2 v4 0 I hK21 G (lv_sub hl [0, 1, 2, 3] rfl) h
set_option maxHeartbeats 4000000 in
set_option maxRecDepth 100000 in
theorem wM_doesFit_p100 {p : Program} {l : Launch} {e : Env} {s : State} {m : MethodId} {args : Array Value} {below : List Frame} {meth : Method} {c : Code} {D : va_G} {cl : List vw_C} {a : Nat → Nat} {d : ClassId} {A : Nat → Prop} {Q : Int32 → St → Prop} {K21 : Int32 → Int32 → St → Prop} (F : FM p s m meth c args D cl d A cX5_doesFit 6 (some .boolean)) (v1 : Int32) (v2 : Int32) (v4 : Int32) (I : St) (hK21 : ∀ (v3 : Int32) (v4 : Int32) (I : St) (H : Heap) (locs : List Loc) (ls : Array Slot), GM D cl a d A s.heap I H locs → lv_has ls 6 [(0, .ref (a 0)), (1, .int v1), (2, .int v2), (3, .int v3), (4, .int v4)] → K21 v3 v4 I → wMi p l e rmX5_doesFit s m args below meth c D cl a d A Q H locs (F0 m 21 ls [])) {H : Heap} {locs : List Loc} {ls : Array Slot} (G : GM D cl a d A s.heap I H locs) (hl : lv_has ls 6 [(0, .ref (a 0)), (1, .int v1), (2, .int v2), (4, .int v4)]) (h : M_doesFit_p100 Q K21 v1 v2 v4 I) : wMi p l e rmX5_doesFit s m args below meth c D cl a d A Q H locs (F0 m 100 ls []) := by
  obtain ⟨hx, hb, hr, hml, hown, hts, hlocks, hA, hK, hcl⟩ := id F
  unfold M_doesFit_p100 at h
  refine lv_iconst (v := 1) hx hb dX5_doesFit_100 (by decide) ?_
  refine lv_goto (tgt := 105) hx hb dX5_doesFit_101 (by decide) ?_
  exact wM_doesFit_p105 F v1 v2 v4 1 I hK21 G (lv_sub hl [0, 1, 2, 3] rfl) h
set_option maxHeartbeats 4000000 in
set_option maxRecDepth 100000 in
theorem wM_doesFit_L21 {p : Program} {l : Launch} {e : Env} {s : State} {m : MethodId} {args : Array Value} {below : List Frame} {meth : Method} {c : Code} {D : va_G} {cl : List vw_C} {a : Nat → Nat} {d : ClassId} {A : Nat → Prop} {Q : Int32 → St → Prop}  (F : FM p s m meth c args D cl d A cX5_doesFit 6 (some .boolean)) (v1 : Int32) (v2 : Int32)  :
    ∀ (n : Nat) (v3 : Int32) (v4 : Int32) (I : St) (H : Heap) (locs : List Loc) (ls : Array Slot), GM D cl a d A s.heap I H locs → lv_has ls 6 [(0, .ref (a 0)), (1, .int v1), (2, .int v2), (3, .int v3), (4, .int v4)] → M_doesFit_L21 Q v1 v2 n v3 v4 I → wMi p l e rmX5_doesFit s m args below meth c D cl a d A Q H locs (F0 m 21 ls []) := by
  obtain ⟨hx, hb, hr, hml, hown, hts, hlocks, hA, hK, hcl⟩ := id F
  intro n
  induction n with
  | zero => intro v3 v4 I H locs ls G hl h; exact absurd h (fun q => q)
  | succ n ih =>
    intro v3 v4 I H locs ls G hl h
    unfold M_doesFit_L21 at h
    refine lv_iload hx hb dX5_doesFit_21 (lv_at hl 4 rfl) ?_
    refine lv_aload_n hx hb dX5_doesFit_23 rfl (lv_at hl 0 rfl) ?_
    refine mg_s F G dX5_doesFit_24 ?_
    refine lv_bipush (v := 8) hx hb dX5_doesFit_27 (by decide) ?_
    refine m_ld F G mA_1 (by unfold vp_in; decide) dX5_doesFit_29 ?_
    refine lv_icmp_ge (tgt := 112) hx hb dX5_doesFit_30 (by decide) (fun c_2 => ?_) (fun c_2 => ?_)
    · replace h := h.1 c_2
      refine lv_iload_n hx hb dX5_doesFit_112 rfl (lv_at hl 3 rfl) ?_
      exact m_zret F G h.1 dX5_doesFit_113 h.2
    · replace h := h.2 c_2
      refine lv_iload_n hx hb dX5_doesFit_33 rfl (lv_at hl 3 rfl) ?_
      refine lv_if_eq (tgt := 112) hx hb dX5_doesFit_34 (by decide) (fun c_3 => ?_) (fun c_3 => ?_)
      · replace h := h.1 c_3
        refine lv_iload_n hx hb dX5_doesFit_112 rfl (lv_at hl 3 rfl) ?_
        exact m_zret F G h.1 dX5_doesFit_113 h.2
      · replace h := h.2 c_3
        refine lv_aload_n hx hb dX5_doesFit_37 rfl (lv_at hl 0 rfl) ?_
        refine mg_all F G dX5_doesFit_38 ?_
        refine lv_iload_n hx hb dX5_doesFit_41 rfl (lv_at hl 1 rfl) ?_
        refine lv_sipush (v := 720) hx hb dX5_doesFit_42 (by decide) ?_
        refine lv_iadd hx hb dX5_doesFit_45 ?_
        refine lv_iload hx hb dX5_doesFit_46 (lv_at hl 4 rfl) ?_
        refine lv_isub hx hb dX5_doesFit_48 ?_
        refine lv_sipush (v := 720) hx hb dX5_doesFit_49 (by decide) ?_
        refine lv_irem hx hb dX5_doesFit_52 (by decide) ?_
        obtain ⟨b_4, h⟩ := h
        refine m_ld F G mA_12 b_4 dX5_doesFit_53 ?_
        refine lv_topi (fun x_5 ex_5 => ?_)
        replace h := h x_5 ex_5
        refine lv_istore (lv' := [(5, .int x_5), (0, .ref (a 0)), (1, .int v1), (2, .int v2), (3, .int v3), (4, .int v4)]) hx hb dX5_doesFit_54 hl (by decide) rfl (fun ls hl => ?_)
        refine lv_iload hx hb dX5_doesFit_56 (lv_at hl 0 rfl) ?_
        refine lv_iload_n hx hb dX5_doesFit_58 rfl (lv_at hl 3 rfl) ?_
        refine lv_iadd hx hb dX5_doesFit_59 ?_
        refine lv_aload_n hx hb dX5_doesFit_60 rfl (lv_at hl 1 rfl) ?_
        refine mg_s F G dX5_doesFit_61 ?_
        refine lv_bipush (v := 28) hx hb dX5_doesFit_64 (by decide) ?_
        refine lv_iload hx hb dX5_doesFit_66 (lv_at hl 5 rfl) ?_
        refine lv_iadd hx hb dX5_doesFit_68 ?_
        obtain ⟨b_6, h⟩ := h
        refine m_ld F G mA_1 b_6 dX5_doesFit_69 ?_
        refine lv_icmp_lt (tgt := 104) hx hb dX5_doesFit_70 (by decide) (fun c_7 => ?_) (fun c_7 => ?_)
        · replace h := h.1 c_7
          exact wM_doesFit_p104 F v1 v2 v4 I ih G (lv_sub hl [1, 2, 3, 5] rfl) h
        · replace h := h.2 c_7
          refine lv_aload_n hx hb dX5_doesFit_73 rfl (lv_at hl 1 rfl) ?_
          refine mg_s F G dX5_doesFit_74 ?_
          refine lv_bipush (v := 6) hx hb dX5_doesFit_77 (by decide) ?_
          refine m_ld F G mA_1 (by unfold vp_in; decide) dX5_doesFit_79 ?_
          refine lv_bipush (v := 100) hx hb dX5_doesFit_80 (by decide) ?_
          refine lv_icmp_lt (tgt := 100) hx hb dX5_doesFit_82 (by decide) (fun c_8 => ?_) (fun c_8 => ?_)
          · replace h := h.1 c_8
            exact wM_doesFit_p100 F v1 v2 v4 I ih G (lv_sub hl [1, 2, 3, 5] rfl) h
          · replace h := h.2 c_8
            refine lv_aload_n hx hb dX5_doesFit_85 rfl (lv_at hl 1 rfl) ?_
            refine mg_s F G dX5_doesFit_86 ?_
            refine lv_bipush (v := 28) hx hb dX5_doesFit_89 (by decide) ?_
            refine lv_iload hx hb dX5_doesFit_91 (lv_at hl 5 rfl) ?_
            refine lv_iadd hx hb dX5_doesFit_93 ?_
            obtain ⟨b_9, h⟩ := h
            refine m_ld F G mA_1 b_9 dX5_doesFit_94 ?_
            refine lv_iload hx hb dX5_doesFit_95 (lv_at hl 0 rfl) ?_
            refine lv_icmp_lt (tgt := 104) hx hb dX5_doesFit_97 (by decide) (fun c_10 => ?_) (fun c_10 => ?_)
            · replace h := h.1 c_10
              exact wM_doesFit_p104 F v1 v2 v4 I ih G (lv_sub hl [1, 2, 3, 5] rfl) h
            · replace h := h.2 c_10
              exact wM_doesFit_p100 F v1 v2 v4 I ih G (lv_sub hl [1, 2, 3, 5] rfl) h
set_option maxHeartbeats 4000000 in
set_option maxRecDepth 100000 in
theorem wM_doesFit_p15 {p : Program} {l : Launch} {e : Env} {s : State} {m : MethodId} {args : Array Value} {below : List Frame} {meth : Method} {c : Code} {D : va_G} {cl : List vw_C} {a : Nat → Nat} {d : ClassId} {A : Nat → Prop} {Q : Int32 → St → Prop}  (F : FM p s m meth c args D cl d A cX5_doesFit 6 (some .boolean)) (v1 : Int32) (t0 : Int32) (I : St)  {H : Heap} {locs : List Loc} {ls : Array Slot} (G : GM D cl a d A s.heap I H locs) (hl : lv_has ls 6 [(0, .ref (a 0)), (1, .int v1)]) (h : M_doesFit_p15 Q v1 t0 I) : wMi p l e rmX5_doesFit s m args below meth c D cl a d A Q H locs (F0 m 15 ls [.int t0]) := by
  obtain ⟨hx, hb, hr, hml, hown, hts, hlocks, hA, hK, hcl⟩ := id F
  unfold M_doesFit_p15 at h
  refine lv_istore_n (lv' := [(2, .int t0), (0, .ref (a 0)), (1, .int v1)]) hx hb dX5_doesFit_15 rfl hl (by decide) rfl (fun ls hl => ?_)
  refine lv_iconst (v := 1) hx hb dX5_doesFit_16 (by decide) ?_
  refine lv_istore_n (lv' := [(3, .int 1), (2, .int t0), (0, .ref (a 0)), (1, .int v1)]) hx hb dX5_doesFit_17 rfl hl (by decide) rfl (fun ls hl => ?_)
  refine lv_iconst (v := 0) hx hb dX5_doesFit_18 (by decide) ?_
  refine lv_istore (lv' := [(4, .int 0), (3, .int 1), (2, .int t0), (0, .ref (a 0)), (1, .int v1)]) hx hb dX5_doesFit_19 hl (by decide) rfl (fun ls hl => ?_)
  obtain ⟨k21, h⟩ := h
  exact wM_doesFit_L21 F v1 t0  k21 1 0 I _ _ _ G (lv_sub hl [3, 4, 2, 1, 0] rfl) h
set_option maxHeartbeats 4000000 in
set_option maxRecDepth 100000 in
theorem wM_doesFit {l : Launch} {D : va_G} {cl : List vw_C} {a : Nat → Nat} {d : ClassId} (hcl : cl[5]? = some (RX5, TX5, 32)) (sz : Nat) (v1 : Int32) (I : St) (Q : Int32 → St → Prop) (h : M_doesFit v1 I Q) : MMi l D cl a d yX5_doesFit cX5_doesFit 6 .boolean rmX5_doesFit [.ref (a 0), .int v1] sz I Q := by
  refine m_enter (Qc := fun A => va_Qi Q (BM D cl a d A) A) hcl (by decide) rfl (Nat.le_of_ble_eq_true rfl) ?_
  intro p e s m below meth c ls A F hG hl
  have G := hG
  have hl : lv_has ls 6 [(0, .ref (a 0)), (1, .int v1)] := hl
  obtain ⟨hx, hb, hr, hml, hown, hts, hlocks, hA, hK, hcl⟩ := id F
  unfold M_doesFit at h
  refine lv_aload_n hx hb dX5_doesFit_0 rfl (lv_at hl 0 rfl) ?_
  refine mg_s F G dX5_doesFit_1 ?_
  refine lv_bipush (v := 7) hx hb dX5_doesFit_4 (by decide) ?_
  refine m_ld F G mA_1 (by unfold vp_in; decide) dX5_doesFit_6 ?_
  refine lv_if_le (tgt := 14) hx hb dX5_doesFit_7 (by decide) (fun c_1 => ?_) (fun c_1 => ?_)
  · replace h := h.1 c_1
    refine lv_iconst (v := 0) hx hb dX5_doesFit_14 (by decide) ?_
    exact wM_doesFit_p15 F v1 0 I  G (lv_sub hl [0, 1] rfl) h
  · replace h := h.2 c_1
    refine lv_iconst (v := 1) hx hb dX5_doesFit_10 (by decide) ?_
    refine lv_goto (tgt := 15) hx hb dX5_doesFit_11 (by decide) ?_
    exact wM_doesFit_p15 F v1 1 I  G (lv_sub hl [0, 1] rfl) h
set_option maxHeartbeats 4000000 in
set_option maxRecDepth 100000 in
theorem kM_doesFit {p : Program} {l : Launch} {e : Env} {s : State} {m : MethodId} {R : Room} {args : Array Value} {below : List Frame} {meth : Method} {c : Code} {D : va_G} {cl : List vw_C} {a : Nat → Nat} {d : ClassId} {A : Nat → Prop} {Q : State → Prop} {cc : ByteArray} {nL pc : Nat} {ret : Option FieldType} {ls : Array Slot} {rest : List Value} {v1 : Int32} {I : St} {H : Heap} {locs : List Loc} {Q1 : Int32 → St → Prop} (F : FM p s m meth c args D cl d A cc nL ret) (G : GM D cl a d A s.heap I H locs) (hsz : ls.size = nL) (hR : rmX5_doesFit.frames + 1 ≤ R.frames ∧ 8 + (6 + 11) + rmX5_doesFit.locals ≤ R.locals) (hW : (rest.map fun v => v.category).sum ≤ 8) (hd : decode cc pc = .ok (.invokevirtual 155, 3)) (h : M_doesFit v1 I Q1) (k : ∀ (r : Int32) (I1 : St) (H : Heap) (locs : List Loc), GM D cl a d A s.heap I1 H locs → Q1 r I1 → W p l e R s m args below meth c H locs 0 0 Q (F0 m (pc + 3) ls (.int r :: rest))) : W p l e R s m args below meth c H locs 0 0 Q (F0 m pc ls (.int v1 :: .ref (a 0) :: rest)) := by
  obtain ⟨hx, hb, hr, hml, hown, hts, hlocks, hA, hK, hcl⟩ := id F
  exact m_callVi (As := [.int v1]) F G hsz (wM_doesFit hcl H.size v1 I Q1 h) (cwV 1 hts (lw_V q1440 q1442 qs56 q90 q1443) rfl rfl rfl (by decide +kernel) hR) rfl rfl hW hd k
/-! findAll -/
def M_findAll_L2 (Q : St → Prop)   : Nat → Int32 → St → Prop
  | 0, _, _ => False
  | n + 1, v1, I => (720 ≤ v1 → Q I) ∧ (¬ 720 ≤ v1 → M_totalAt v1 I (fun r_2 I_3 => vp_in v1 720 ∧ (M_findAll_L2 Q n (v1 + 1) (sA I_3 12 v1 r_2))))
def M_findAll  (I : St) (Q : St → Prop) : Prop := ∃ k2, M_findAll_L2 Q k2 0 I
abbrev rmX5_findAll : Room := { frames := 5, cells := 0, slots := 0, locals := 119 }
set_option maxHeartbeats 4000000 in
set_option maxRecDepth 100000 in
theorem wM_findAll_L2 {p : Program} {l : Launch} {e : Env} {s : State} {m : MethodId} {args : Array Value} {below : List Frame} {meth : Method} {c : Code} {D : va_G} {cl : List vw_C} {a : Nat → Nat} {d : ClassId} {A : Nat → Prop} {Q : St → Prop}  (F : FM p s m meth c args D cl d A cX5_findAll 2 none)   :
    ∀ (n : Nat) (v1 : Int32) (I : St) (H : Heap) (locs : List Loc) (ls : Array Slot), GM D cl a d A s.heap I H locs → lv_has ls 2 [(0, .ref (a 0)), (1, .int v1)] → M_findAll_L2 Q n v1 I → wMv p l e rmX5_findAll s m args below meth c D cl a d A Q H locs (F0 m 2 ls []) := by
  obtain ⟨hx, hb, hr, hml, hown, hts, hlocks, hA, hK, hcl⟩ := id F
  intro n
  induction n with
  | zero => intro v1 I H locs ls G hl h; exact absurd h (fun q => q)
  | succ n ih =>
    intro v1 I H locs ls G hl h
    unfold M_findAll_L2 at h
    refine lv_iload_n hx hb dX5_findAll_2 rfl (lv_at hl 1 rfl) ?_
    refine lv_sipush (v := 720) hx hb dX5_findAll_3 (by decide) ?_
    refine lv_icmp_ge (tgt := 26) hx hb dX5_findAll_6 (by decide) (fun c_1 => ?_) (fun c_1 => ?_)
    · replace h := h.1 c_1
      exact m_vret F G dX5_findAll_26 h
    · replace h := h.2 c_1
      refine lv_aload_n hx hb dX5_findAll_9 rfl (lv_at hl 0 rfl) ?_
      refine mg_all F G dX5_findAll_10 ?_
      refine lv_iload_n hx hb dX5_findAll_13 rfl (lv_at hl 1 rfl) ?_
      refine lv_aload_n hx hb dX5_findAll_14 rfl (lv_at hl 0 rfl) ?_
      refine lv_iload_n hx hb dX5_findAll_15 rfl (lv_at hl 1 rfl) ?_
      refine kM_totalAt F G hl.1 ⟨Nat.le_of_ble_eq_true rfl, Nat.le_of_ble_eq_true rfl⟩ (Nat.le_of_ble_eq_true rfl) dX5_findAll_16 h (fun r_2 I_3 H locs G h => ?_)
      obtain ⟨b_4, h⟩ := h
      refine m_st F G mA_12 b_4 dX5_findAll_19 (fun H locs G => ?_)
      refine lv_iinc (v := (v1 + 1)) (lv' := [(1, .int (v1 + 1)), (0, .ref (a 0))]) hx hb dX5_findAll_20 hl (k := 1) rfl rfl (by decide) rfl (fun ls hl => ?_)
      refine lv_goto (tgt := 2) hx hb dX5_findAll_23 (by decide) ?_
      exact ih (v1 + 1) (sA I_3 12 v1 r_2) _ _ _ G (lv_sub hl [1, 0] rfl) h
set_option maxHeartbeats 4000000 in
set_option maxRecDepth 100000 in
theorem wM_findAll {l : Launch} {D : va_G} {cl : List vw_C} {a : Nat → Nat} {d : ClassId} (hcl : cl[5]? = some (RX5, TX5, 32)) (sz : Nat)  (I : St) (Q : St → Prop) (h : M_findAll  I Q) : MMv l D cl a d yX5_findAll cX5_findAll 2 rmX5_findAll [.ref (a 0)] sz I Q := by
  refine m_enter (Qc := fun A => va_Qv Q (BM D cl a d A) A) hcl (by decide) rfl (Nat.le_of_ble_eq_true rfl) ?_
  intro p e s m below meth c ls A F hG hl
  have G := hG
  have hl : lv_has ls 2 [(0, .ref (a 0))] := hl
  obtain ⟨hx, hb, hr, hml, hown, hts, hlocks, hA, hK, hcl⟩ := id F
  unfold M_findAll at h
  refine lv_iconst (v := 0) hx hb dX5_findAll_0 (by decide) ?_
  refine lv_istore_n (lv' := [(1, .int 0), (0, .ref (a 0))]) hx hb dX5_findAll_1 rfl hl (by decide) rfl (fun ls hl => ?_)
  obtain ⟨k2, h⟩ := h
  exact wM_findAll_L2 F   k2 0 I _ _ _ G (lv_sub hl [1, 0] rfl) h
set_option maxHeartbeats 4000000 in
set_option maxRecDepth 100000 in
theorem kM_findAll {p : Program} {l : Launch} {e : Env} {s : State} {m : MethodId} {R : Room} {args : Array Value} {below : List Frame} {meth : Method} {c : Code} {D : va_G} {cl : List vw_C} {a : Nat → Nat} {d : ClassId} {A : Nat → Prop} {Q : State → Prop} {cc : ByteArray} {nL pc : Nat} {ret : Option FieldType} {ls : Array Slot} {rest : List Value}  {I : St} {H : Heap} {locs : List Loc} {Q1 : St → Prop} (F : FM p s m meth c args D cl d A cc nL ret) (G : GM D cl a d A s.heap I H locs) (hsz : ls.size = nL) (hR : rmX5_findAll.frames + 1 ≤ R.frames ∧ 8 + (2 + 11) + rmX5_findAll.locals ≤ R.locals) (hW : (rest.map fun v => v.category).sum ≤ 8) (hd : decode cc pc = .ok (.invokevirtual 161, 3)) (h : M_findAll  I Q1) (k : ∀ (I1 : St) (H : Heap) (locs : List Loc), GM D cl a d A s.heap I1 H locs → Q1 I1 → W p l e R s m args below meth c H locs 0 0 Q (F0 m (pc + 3) ls rest)) : W p l e R s m args below meth c H locs 0 0 Q (F0 m pc ls (.ref (a 0) :: rest)) := by
  obtain ⟨hx, hb, hr, hml, hown, hts, hlocks, hA, hK, hcl⟩ := id F
  exact m_callVv (As := []) F G hsz (wM_findAll hcl H.size  I Q1 h) (cwV 0 hts (lw_V q1436 q1438 qs55 q90 q1439) rfl rfl rfl (by decide +kernel) hR) rfl rfl hW hd k
/-! fits -/
def M_fits (v1 : Int32) (I : St) (Q : Int32 → St → Prop) : Prop := M_isTime v1 I (fun r_1 I_2 => (¬ r_1 = 0 → M_findAll  I_2 (fun I_5 => M_doesFit v1 I_5 (fun r_6 I_7 => (r_6 = 0 → Q 0 I_7) ∧ (¬ r_6 = 0 → Q 1 I_7)))) ∧ (r_1 = 0 → Q (-1000000001) I_2))
abbrev rmX5_fits : Room := { frames := 6, cells := 0, slots := 0, locals := 140 }
set_option maxHeartbeats 4000000 in
set_option maxRecDepth 100000 in
theorem wM_fits {l : Launch} {D : va_G} {cl : List vw_C} {a : Nat → Nat} {d : ClassId} (hcl : cl[5]? = some (RX5, TX5, 32)) (sz : Nat) (v1 : Int32) (I : St) (Q : Int32 → St → Prop) (h : M_fits v1 I Q) : MMi l D cl a d yX5_fits cX5_fits 2 .int rmX5_fits [.ref (a 0), .int v1] sz I Q := by
  refine m_enter (Qc := fun A => va_Qi Q (BM D cl a d A) A) hcl (by decide) rfl (Nat.le_of_ble_eq_true rfl) ?_
  intro p e s m below meth c ls A F hG hl
  have G := hG
  have hl : lv_has ls 2 [(0, .ref (a 0)), (1, .int v1)] := hl
  obtain ⟨hx, hb, hr, hml, hown, hts, hlocks, hA, hK, hcl⟩ := id F
  unfold M_fits at h
  refine lv_iload_n hx hb dX5_fits_0 rfl (lv_at hl 1 rfl) ?_
  refine kM_isTime F G hl.1 ⟨Nat.le_of_ble_eq_true rfl, Nat.le_of_ble_eq_true rfl⟩ (Nat.le_of_ble_eq_true rfl) dX5_fits_1 h (fun r_1 I_2 H locs G h => ?_)
  refine lv_if_ne (tgt := 10) hx hb dX5_fits_4 (by decide) (fun c_3 => ?_) (fun c_3 => ?_)
  · replace h := h.1 c_3
    refine lv_aload_n hx hb dX5_fits_10 rfl (lv_at hl 0 rfl) ?_
    refine kM_findAll F G hl.1 ⟨Nat.le_of_ble_eq_true rfl, Nat.le_of_ble_eq_true rfl⟩ (Nat.le_of_ble_eq_true rfl) dX5_fits_11 h (fun I_5 H locs G h => ?_)
    refine lv_aload_n hx hb dX5_fits_14 rfl (lv_at hl 0 rfl) ?_
    refine lv_iload_n hx hb dX5_fits_15 rfl (lv_at hl 1 rfl) ?_
    refine kM_doesFit F G hl.1 ⟨Nat.le_of_ble_eq_true rfl, Nat.le_of_ble_eq_true rfl⟩ (Nat.le_of_ble_eq_true rfl) dX5_fits_16 h (fun r_6 I_7 H locs G h => ?_)
    refine lv_if_eq (tgt := 26) hx hb dX5_fits_19 (by decide) (fun c_8 => ?_) (fun c_8 => ?_)
    · replace h := h.1 c_8
      refine lv_iconst (v := 0) hx hb dX5_fits_26 (by decide) ?_
      exact m_iret F G dX5_fits_27 h
    · replace h := h.2 c_8
      refine lv_iconst (v := 1) hx hb dX5_fits_22 (by decide) ?_
      refine lv_goto (tgt := 27) hx hb dX5_fits_23 (by decide) ?_
      exact m_iret F G dX5_fits_27 h
  · replace h := h.2 c_3
    refine lv_ldc hx hb hown (hts _ q1296) dX5_fits_7 ?_
    exact m_iret F G dX5_fits_9 h

/-! hoursFit -/
def M_hoursFit_p30 (Q : Int32 → St → Prop) (K4 : Int32 → Int32 → St → Prop) (v2 : Int32) (t0 : Int32) (t1 : Int32) (I : St) : Prop := ∀ x_5 : Int32, x_5 = (t1 ||| t0) → K4 x_5 (v2 + 1) I
def M_hoursFit_L4 (Q : Int32 → St → Prop)   : Nat → Int32 → Int32 → St → Prop
  | 0, _, _, _ => False
  | n + 1, v1, v2, I => (720 ≤ v2 → Q v1 I) ∧ (¬ 720 ≤ v2 → M_doesFit v2 I (fun r_2 I_3 => (r_2 = 0 → M_hoursFit_p30 Q (fun v1_ v2_ I_ => M_hoursFit_L4 Q n v1_ v2_ I_) v2 0 v1 I_3) ∧ (¬ r_2 = 0 → M_hoursFit_p30 Q (fun v1_ v2_ I_ => M_hoursFit_L4 Q n v1_ v2_ I_) v2 (1 <<< ((v2 / 60) &&& 31)) v1 I_3)))
def M_hoursFit  (I : St) (Q : Int32 → St → Prop) : Prop := ∃ k4, M_hoursFit_L4 Q k4 0 0 I
abbrev rmX5_hoursFit : Room := { frames := 1, cells := 0, slots := 0, locals := 25 }
set_option maxHeartbeats 4000000 in
set_option maxRecDepth 100000 in
theorem wM_hoursFit_p30 {p : Program} {l : Launch} {e : Env} {s : State} {m : MethodId} {args : Array Value} {below : List Frame} {meth : Method} {c : Code} {D : va_G} {cl : List vw_C} {a : Nat → Nat} {d : ClassId} {A : Nat → Prop} {Q : Int32 → St → Prop} {K4 : Int32 → Int32 → St → Prop} (F : FM p s m meth c args D cl d A cX5_hoursFit 3 (some .int)) (v2 : Int32) (t0 : Int32) (t1 : Int32) (I : St) (hK4 : ∀ (v1 : Int32) (v2 : Int32) (I : St) (H : Heap) (locs : List Loc) (ls : Array Slot), GM D cl a d A s.heap I H locs → lv_has ls 3 [(0, .ref (a 0)), (1, .int v1), (2, .int v2)] → K4 v1 v2 I → wMi p l e rmX5_hoursFit s m args below meth c D cl a d A Q H locs (F0 m 4 ls [])) {H : Heap} {locs : List Loc} {ls : Array Slot} (G : GM D cl a d A s.heap I H locs) (hl : lv_has ls 3 [(0, .ref (a 0)), (2, .int v2)]) (h : M_hoursFit_p30 Q K4 v2 t0 t1 I) : wMi p l e rmX5_hoursFit s m args below meth c D cl a d A Q H locs (F0 m 30 ls [.int t0, .int t1]) := by
  obtain ⟨hx, hb, hr, hml, hown, hts, hlocks, hA, hK, hcl⟩ := id F
  unfold M_hoursFit_p30 at h
  refine lv_ior hx hb dX5_hoursFit_30 ?_
  refine lv_topi (fun x_5 ex_5 => ?_)
  replace h := h x_5 ex_5
  refine lv_istore_n (lv' := [(1, .int x_5), (0, .ref (a 0)), (2, .int v2)]) hx hb dX5_hoursFit_31 rfl hl (by decide) rfl (fun ls hl => ?_)
  refine lv_iinc (v := (v2 + 1)) (lv' := [(2, .int (v2 + 1)), (1, .int x_5), (0, .ref (a 0))]) hx hb dX5_hoursFit_32 hl (k := 2) rfl rfl (by decide) rfl (fun ls hl => ?_)
  refine lv_goto (tgt := 4) hx hb dX5_hoursFit_35 (by decide) ?_
  exact hK4 x_5 (v2 + 1) I _ _ _ G (lv_sub hl [2, 1, 0] rfl) h
set_option maxHeartbeats 4000000 in
set_option maxRecDepth 100000 in
theorem wM_hoursFit_L4 {p : Program} {l : Launch} {e : Env} {s : State} {m : MethodId} {args : Array Value} {below : List Frame} {meth : Method} {c : Code} {D : va_G} {cl : List vw_C} {a : Nat → Nat} {d : ClassId} {A : Nat → Prop} {Q : Int32 → St → Prop}  (F : FM p s m meth c args D cl d A cX5_hoursFit 3 (some .int))   :
    ∀ (n : Nat) (v1 : Int32) (v2 : Int32) (I : St) (H : Heap) (locs : List Loc) (ls : Array Slot), GM D cl a d A s.heap I H locs → lv_has ls 3 [(0, .ref (a 0)), (1, .int v1), (2, .int v2)] → M_hoursFit_L4 Q n v1 v2 I → wMi p l e rmX5_hoursFit s m args below meth c D cl a d A Q H locs (F0 m 4 ls []) := by
  obtain ⟨hx, hb, hr, hml, hown, hts, hlocks, hA, hK, hcl⟩ := id F
  intro n
  induction n with
  | zero => intro v1 v2 I H locs ls G hl h; exact absurd h (fun q => q)
  | succ n ih =>
    intro v1 v2 I H locs ls G hl h
    unfold M_hoursFit_L4 at h
    refine lv_iload_n hx hb dX5_hoursFit_4 rfl (lv_at hl 2 rfl) ?_
    refine lv_sipush (v := 720) hx hb dX5_hoursFit_5 (by decide) ?_
    refine lv_icmp_ge (tgt := 38) hx hb dX5_hoursFit_8 (by decide) (fun c_1 => ?_) (fun c_1 => ?_)
    · replace h := h.1 c_1
      refine lv_iload_n hx hb dX5_hoursFit_38 rfl (lv_at hl 1 rfl) ?_
      exact m_iret F G dX5_hoursFit_39 h
    · replace h := h.2 c_1
      refine lv_iload_n hx hb dX5_hoursFit_11 rfl (lv_at hl 1 rfl) ?_
      refine lv_aload_n hx hb dX5_hoursFit_12 rfl (lv_at hl 0 rfl) ?_
      refine lv_iload_n hx hb dX5_hoursFit_13 rfl (lv_at hl 2 rfl) ?_
      refine kM_doesFit F G hl.1 ⟨Nat.le_of_ble_eq_true rfl, Nat.le_of_ble_eq_true rfl⟩ (Nat.le_of_ble_eq_true rfl) dX5_hoursFit_14 h (fun r_2 I_3 H locs G h => ?_)
      refine lv_if_eq (tgt := 29) hx hb dX5_hoursFit_17 (by decide) (fun c_4 => ?_) (fun c_4 => ?_)
      · replace h := h.1 c_4
        refine lv_iconst (v := 0) hx hb dX5_hoursFit_29 (by decide) ?_
        exact wM_hoursFit_p30 F v2 0 v1 I_3 ih G (lv_sub hl [0, 2] rfl) h
      · replace h := h.2 c_4
        refine lv_iconst (v := 1) hx hb dX5_hoursFit_20 (by decide) ?_
        refine lv_iload_n hx hb dX5_hoursFit_21 rfl (lv_at hl 2 rfl) ?_
        refine lv_bipush (v := 60) hx hb dX5_hoursFit_22 (by decide) ?_
        refine lv_idiv hx hb dX5_hoursFit_24 (by decide) ?_
        refine lv_ishl hx hb dX5_hoursFit_25 ?_
        refine lv_goto (tgt := 30) hx hb dX5_hoursFit_26 (by decide) ?_
        exact wM_hoursFit_p30 F v2 (1 <<< ((v2 / 60) &&& 31)) v1 I_3 ih G (lv_sub hl [0, 2] rfl) h
set_option maxHeartbeats 4000000 in
set_option maxRecDepth 100000 in
theorem wM_hoursFit {l : Launch} {D : va_G} {cl : List vw_C} {a : Nat → Nat} {d : ClassId} (hcl : cl[5]? = some (RX5, TX5, 32)) (sz : Nat)  (I : St) (Q : Int32 → St → Prop) (h : M_hoursFit  I Q) : MMi l D cl a d yX5_hoursFit cX5_hoursFit 3 .int rmX5_hoursFit [.ref (a 0)] sz I Q := by
  refine m_enter (Qc := fun A => va_Qi Q (BM D cl a d A) A) hcl (by decide) rfl (Nat.le_of_ble_eq_true rfl) ?_
  intro p e s m below meth c ls A F hG hl
  have G := hG
  have hl : lv_has ls 3 [(0, .ref (a 0))] := hl
  obtain ⟨hx, hb, hr, hml, hown, hts, hlocks, hA, hK, hcl⟩ := id F
  unfold M_hoursFit at h
  refine lv_iconst (v := 0) hx hb dX5_hoursFit_0 (by decide) ?_
  refine lv_istore_n (lv' := [(1, .int 0), (0, .ref (a 0))]) hx hb dX5_hoursFit_1 rfl hl (by decide) rfl (fun ls hl => ?_)
  refine lv_iconst (v := 0) hx hb dX5_hoursFit_2 (by decide) ?_
  refine lv_istore_n (lv' := [(2, .int 0), (1, .int 0), (0, .ref (a 0))]) hx hb dX5_hoursFit_3 rfl hl (by decide) rfl (fun ls hl => ?_)
  obtain ⟨k4, h⟩ := h
  exact wM_hoursFit_L4 F   k4 0 0 I _ _ _ G (lv_sub hl [2, 1, 0] rfl) h
set_option maxHeartbeats 4000000 in
set_option maxRecDepth 100000 in
theorem kM_hoursFit {p : Program} {l : Launch} {e : Env} {s : State} {m : MethodId} {R : Room} {args : Array Value} {below : List Frame} {meth : Method} {c : Code} {D : va_G} {cl : List vw_C} {a : Nat → Nat} {d : ClassId} {A : Nat → Prop} {Q : State → Prop} {cc : ByteArray} {nL pc : Nat} {ret : Option FieldType} {ls : Array Slot} {rest : List Value}  {I : St} {H : Heap} {locs : List Loc} {Q1 : Int32 → St → Prop} (F : FM p s m meth c args D cl d A cc nL ret) (G : GM D cl a d A s.heap I H locs) (hsz : ls.size = nL) (hR : rmX5_hoursFit.frames + 1 ≤ R.frames ∧ 8 + (3 + 11) + rmX5_hoursFit.locals ≤ R.locals) (hW : (rest.map fun v => v.category).sum ≤ 8) (hd : decode cc pc = .ok (.invokevirtual 158, 3)) (h : M_hoursFit  I Q1) (k : ∀ (r : Int32) (I1 : St) (H : Heap) (locs : List Loc), GM D cl a d A s.heap I1 H locs → Q1 r I1 → W p l e R s m args below meth c H locs 0 0 Q (F0 m (pc + 3) ls (.int r :: rest))) : W p l e R s m args below meth c H locs 0 0 Q (F0 m pc ls (.ref (a 0) :: rest)) := by
  obtain ⟨hx, hb, hr, hml, hown, hts, hlocks, hA, hK, hcl⟩ := id F
  exact m_callVi (As := []) F G hsz (wM_hoursFit hcl H.size  I Q1 h) (cwV 0 hts (lw_V q1452 q1454 qs58 q90 q1455) rfl rfl rfl (by decide +kernel) hR) rfl rfl hW hd k
/-! isSure -/
def M_isSure  (I : St) (Q : Int32 → St → Prop) : Prop := M_hoursFit  I (fun r_1 I_2 => (r_1 = 0 → Q 0 I_2) ∧ (¬ r_1 = 0 → (¬ (r_1 &&& (r_1 - 1)) = 0 → Q 0 I_2) ∧ ((r_1 &&& (r_1 - 1)) = 0 → Q 1 I_2)))
abbrev rmX5_isSure : Room := { frames := 2, cells := 0, slots := 0, locals := 47 }
set_option maxHeartbeats 4000000 in
set_option maxRecDepth 100000 in
theorem wM_isSure {l : Launch} {D : va_G} {cl : List vw_C} {a : Nat → Nat} {d : ClassId} (hcl : cl[5]? = some (RX5, TX5, 32)) (sz : Nat)  (I : St) (Q : Int32 → St → Prop) (h : M_isSure  I Q) : MMi l D cl a d yX5_isSure cX5_isSure 2 .boolean rmX5_isSure [.ref (a 0)] sz I Q := by
  refine m_enter (Qc := fun A => va_Qi Q (BM D cl a d A) A) hcl (by decide) rfl (Nat.le_of_ble_eq_true rfl) ?_
  intro p e s m below meth c ls A F hG hl
  have G := hG
  have hl : lv_has ls 2 [(0, .ref (a 0))] := hl
  obtain ⟨hx, hb, hr, hml, hown, hts, hlocks, hA, hK, hcl⟩ := id F
  unfold M_isSure at h
  refine lv_aload_n hx hb dX5_isSure_0 rfl (lv_at hl 0 rfl) ?_
  refine kM_hoursFit F G hl.1 ⟨Nat.le_of_ble_eq_true rfl, Nat.le_of_ble_eq_true rfl⟩ (Nat.le_of_ble_eq_true rfl) dX5_isSure_1 h (fun r_1 I_2 H locs G h => ?_)
  refine lv_istore_n (lv' := [(1, .int r_1), (0, .ref (a 0))]) hx hb dX5_isSure_4 rfl hl (by decide) rfl (fun ls hl => ?_)
  refine lv_iload_n hx hb dX5_isSure_5 rfl (lv_at hl 0 rfl) ?_
  refine lv_if_eq (tgt := 21) hx hb dX5_isSure_6 (by decide) (fun c_3 => ?_) (fun c_3 => ?_)
  · replace h := h.1 c_3
    refine lv_iconst (v := 0) hx hb dX5_isSure_21 (by decide) ?_
    exact m_zret F G rfl dX5_isSure_22 h
  · replace h := h.2 c_3
    refine lv_iload_n hx hb dX5_isSure_9 rfl (lv_at hl 0 rfl) ?_
    refine lv_iload_n hx hb dX5_isSure_10 rfl (lv_at hl 0 rfl) ?_
    refine lv_iconst (v := 1) hx hb dX5_isSure_11 (by decide) ?_
    refine lv_isub hx hb dX5_isSure_12 ?_
    refine lv_iand hx hb dX5_isSure_13 ?_
    refine lv_if_ne (tgt := 21) hx hb dX5_isSure_14 (by decide) (fun c_4 => ?_) (fun c_4 => ?_)
    · replace h := h.1 c_4
      refine lv_iconst (v := 0) hx hb dX5_isSure_21 (by decide) ?_
      exact m_zret F G rfl dX5_isSure_22 h
    · replace h := h.2 c_4
      refine lv_iconst (v := 1) hx hb dX5_isSure_17 (by decide) ?_
      refine lv_goto (tgt := 22) hx hb dX5_isSure_18 (by decide) ?_
      exact m_zret F G rfl dX5_isSure_22 h
set_option maxHeartbeats 4000000 in
set_option maxRecDepth 100000 in
theorem kM_isSure {p : Program} {l : Launch} {e : Env} {s : State} {m : MethodId} {R : Room} {args : Array Value} {below : List Frame} {meth : Method} {c : Code} {D : va_G} {cl : List vw_C} {a : Nat → Nat} {d : ClassId} {A : Nat → Prop} {Q : State → Prop} {cc : ByteArray} {nL pc : Nat} {ret : Option FieldType} {ls : Array Slot} {rest : List Value}  {I : St} {H : Heap} {locs : List Loc} {Q1 : Int32 → St → Prop} (F : FM p s m meth c args D cl d A cc nL ret) (G : GM D cl a d A s.heap I H locs) (hsz : ls.size = nL) (hR : rmX5_isSure.frames + 1 ≤ R.frames ∧ 8 + (2 + 11) + rmX5_isSure.locals ≤ R.locals) (hW : (rest.map fun v => v.category).sum ≤ 8) (hd : decode cc pc = .ok (.invokevirtual 167, 3)) (h : M_isSure  I Q1) (k : ∀ (r : Int32) (I1 : St) (H : Heap) (locs : List Loc), GM D cl a d A s.heap I1 H locs → Q1 r I1 → W p l e R s m args below meth c H locs 0 0 Q (F0 m (pc + 3) ls (.int r :: rest))) : W p l e R s m args below meth c H locs 0 0 Q (F0 m pc ls (.ref (a 0) :: rest)) := by
  obtain ⟨hx, hb, hr, hml, hown, hts, hlocks, hA, hK, hcl⟩ := id F
  exact m_callVi (As := []) F G hsz (wM_isSure hcl H.size  I Q1 h) (cwV 0 hts (lw_V q1456 q1458 qs59 q90 q1459) rfl rfl rfl (by decide +kernel) hR) rfl rfl hW hd k
/-! manyFit -/
def M_manyFit_p25 (Q : Int32 → St → Prop) (K4 : Int32 → Int32 → St → Prop) (v2 : Int32) (t0 : Int32) (t1 : Int32) (I : St) : Prop := ∀ x_5 : Int32, x_5 = (t1 + t0) → K4 x_5 (v2 + 1) I
def M_manyFit_L4 (Q : Int32 → St → Prop)   : Nat → Int32 → Int32 → St → Prop
  | 0, _, _, _ => False
  | n + 1, v1, v2, I => (720 ≤ v2 → Q v1 I) ∧ (¬ 720 ≤ v2 → M_doesFit v2 I (fun r_2 I_3 => (r_2 = 0 → M_manyFit_p25 Q (fun v1_ v2_ I_ => M_manyFit_L4 Q n v1_ v2_ I_) v2 0 v1 I_3) ∧ (¬ r_2 = 0 → M_manyFit_p25 Q (fun v1_ v2_ I_ => M_manyFit_L4 Q n v1_ v2_ I_) v2 1 v1 I_3)))
def M_manyFit  (I : St) (Q : Int32 → St → Prop) : Prop := ∃ k4, M_manyFit_L4 Q k4 0 0 I
abbrev rmX5_manyFit : Room := { frames := 1, cells := 0, slots := 0, locals := 25 }
set_option maxHeartbeats 4000000 in
set_option maxRecDepth 100000 in
theorem wM_manyFit_p25 {p : Program} {l : Launch} {e : Env} {s : State} {m : MethodId} {args : Array Value} {below : List Frame} {meth : Method} {c : Code} {D : va_G} {cl : List vw_C} {a : Nat → Nat} {d : ClassId} {A : Nat → Prop} {Q : Int32 → St → Prop} {K4 : Int32 → Int32 → St → Prop} (F : FM p s m meth c args D cl d A cX5_manyFit 3 (some .int)) (v2 : Int32) (t0 : Int32) (t1 : Int32) (I : St) (hK4 : ∀ (v1 : Int32) (v2 : Int32) (I : St) (H : Heap) (locs : List Loc) (ls : Array Slot), GM D cl a d A s.heap I H locs → lv_has ls 3 [(0, .ref (a 0)), (1, .int v1), (2, .int v2)] → K4 v1 v2 I → wMi p l e rmX5_manyFit s m args below meth c D cl a d A Q H locs (F0 m 4 ls [])) {H : Heap} {locs : List Loc} {ls : Array Slot} (G : GM D cl a d A s.heap I H locs) (hl : lv_has ls 3 [(0, .ref (a 0)), (2, .int v2)]) (h : M_manyFit_p25 Q K4 v2 t0 t1 I) : wMi p l e rmX5_manyFit s m args below meth c D cl a d A Q H locs (F0 m 25 ls [.int t0, .int t1]) := by
  obtain ⟨hx, hb, hr, hml, hown, hts, hlocks, hA, hK, hcl⟩ := id F
  unfold M_manyFit_p25 at h
  refine lv_iadd hx hb dX5_manyFit_25 ?_
  refine lv_topi (fun x_5 ex_5 => ?_)
  replace h := h x_5 ex_5
  refine lv_istore_n (lv' := [(1, .int x_5), (0, .ref (a 0)), (2, .int v2)]) hx hb dX5_manyFit_26 rfl hl (by decide) rfl (fun ls hl => ?_)
  refine lv_iinc (v := (v2 + 1)) (lv' := [(2, .int (v2 + 1)), (1, .int x_5), (0, .ref (a 0))]) hx hb dX5_manyFit_27 hl (k := 2) rfl rfl (by decide) rfl (fun ls hl => ?_)
  refine lv_goto (tgt := 4) hx hb dX5_manyFit_30 (by decide) ?_
  exact hK4 x_5 (v2 + 1) I _ _ _ G (lv_sub hl [2, 1, 0] rfl) h
set_option maxHeartbeats 4000000 in
set_option maxRecDepth 100000 in
theorem wM_manyFit_L4 {p : Program} {l : Launch} {e : Env} {s : State} {m : MethodId} {args : Array Value} {below : List Frame} {meth : Method} {c : Code} {D : va_G} {cl : List vw_C} {a : Nat → Nat} {d : ClassId} {A : Nat → Prop} {Q : Int32 → St → Prop}  (F : FM p s m meth c args D cl d A cX5_manyFit 3 (some .int))   :
    ∀ (n : Nat) (v1 : Int32) (v2 : Int32) (I : St) (H : Heap) (locs : List Loc) (ls : Array Slot), GM D cl a d A s.heap I H locs → lv_has ls 3 [(0, .ref (a 0)), (1, .int v1), (2, .int v2)] → M_manyFit_L4 Q n v1 v2 I → wMi p l e rmX5_manyFit s m args below meth c D cl a d A Q H locs (F0 m 4 ls []) := by
  obtain ⟨hx, hb, hr, hml, hown, hts, hlocks, hA, hK, hcl⟩ := id F
  intro n
  induction n with
  | zero => intro v1 v2 I H locs ls G hl h; exact absurd h (fun q => q)
  | succ n ih =>
    intro v1 v2 I H locs ls G hl h
    unfold M_manyFit_L4 at h
    refine lv_iload_n hx hb dX5_manyFit_4 rfl (lv_at hl 2 rfl) ?_
    refine lv_sipush (v := 720) hx hb dX5_manyFit_5 (by decide) ?_
    refine lv_icmp_ge (tgt := 33) hx hb dX5_manyFit_8 (by decide) (fun c_1 => ?_) (fun c_1 => ?_)
    · replace h := h.1 c_1
      refine lv_iload_n hx hb dX5_manyFit_33 rfl (lv_at hl 1 rfl) ?_
      exact m_iret F G dX5_manyFit_34 h
    · replace h := h.2 c_1
      refine lv_iload_n hx hb dX5_manyFit_11 rfl (lv_at hl 1 rfl) ?_
      refine lv_aload_n hx hb dX5_manyFit_12 rfl (lv_at hl 0 rfl) ?_
      refine lv_iload_n hx hb dX5_manyFit_13 rfl (lv_at hl 2 rfl) ?_
      refine kM_doesFit F G hl.1 ⟨Nat.le_of_ble_eq_true rfl, Nat.le_of_ble_eq_true rfl⟩ (Nat.le_of_ble_eq_true rfl) dX5_manyFit_14 h (fun r_2 I_3 H locs G h => ?_)
      refine lv_if_eq (tgt := 24) hx hb dX5_manyFit_17 (by decide) (fun c_4 => ?_) (fun c_4 => ?_)
      · replace h := h.1 c_4
        refine lv_iconst (v := 0) hx hb dX5_manyFit_24 (by decide) ?_
        exact wM_manyFit_p25 F v2 0 v1 I_3 ih G (lv_sub hl [0, 2] rfl) h
      · replace h := h.2 c_4
        refine lv_iconst (v := 1) hx hb dX5_manyFit_20 (by decide) ?_
        refine lv_goto (tgt := 25) hx hb dX5_manyFit_21 (by decide) ?_
        exact wM_manyFit_p25 F v2 1 v1 I_3 ih G (lv_sub hl [0, 2] rfl) h
set_option maxHeartbeats 4000000 in
set_option maxRecDepth 100000 in
theorem wM_manyFit {l : Launch} {D : va_G} {cl : List vw_C} {a : Nat → Nat} {d : ClassId} (hcl : cl[5]? = some (RX5, TX5, 32)) (sz : Nat)  (I : St) (Q : Int32 → St → Prop) (h : M_manyFit  I Q) : MMi l D cl a d yX5_manyFit cX5_manyFit 3 .int rmX5_manyFit [.ref (a 0)] sz I Q := by
  refine m_enter (Qc := fun A => va_Qi Q (BM D cl a d A) A) hcl (by decide) rfl (Nat.le_of_ble_eq_true rfl) ?_
  intro p e s m below meth c ls A F hG hl
  have G := hG
  have hl : lv_has ls 3 [(0, .ref (a 0))] := hl
  obtain ⟨hx, hb, hr, hml, hown, hts, hlocks, hA, hK, hcl⟩ := id F
  unfold M_manyFit at h
  refine lv_iconst (v := 0) hx hb dX5_manyFit_0 (by decide) ?_
  refine lv_istore_n (lv' := [(1, .int 0), (0, .ref (a 0))]) hx hb dX5_manyFit_1 rfl hl (by decide) rfl (fun ls hl => ?_)
  refine lv_iconst (v := 0) hx hb dX5_manyFit_2 (by decide) ?_
  refine lv_istore_n (lv' := [(2, .int 0), (1, .int 0), (0, .ref (a 0))]) hx hb dX5_manyFit_3 rfl hl (by decide) rfl (fun ls hl => ?_)
  obtain ⟨k4, h⟩ := h
  exact wM_manyFit_L4 F   k4 0 0 I _ _ _ G (lv_sub hl [2, 1, 0] rfl) h
set_option maxHeartbeats 4000000 in
set_option maxRecDepth 100000 in
theorem kM_manyFit {p : Program} {l : Launch} {e : Env} {s : State} {m : MethodId} {R : Room} {args : Array Value} {below : List Frame} {meth : Method} {c : Code} {D : va_G} {cl : List vw_C} {a : Nat → Nat} {d : ClassId} {A : Nat → Prop} {Q : State → Prop} {cc : ByteArray} {nL pc : Nat} {ret : Option FieldType} {ls : Array Slot} {rest : List Value}  {I : St} {H : Heap} {locs : List Loc} {Q1 : Int32 → St → Prop} (F : FM p s m meth c args D cl d A cc nL ret) (G : GM D cl a d A s.heap I H locs) (hsz : ls.size = nL) (hR : rmX5_manyFit.frames + 1 ≤ R.frames ∧ 8 + (3 + 11) + rmX5_manyFit.locals ≤ R.locals) (hW : (rest.map fun v => v.category).sum ≤ 8) (hd : decode cc pc = .ok (.invokevirtual 164, 3)) (h : M_manyFit  I Q1) (k : ∀ (r : Int32) (I1 : St) (H : Heap) (locs : List Loc), GM D cl a d A s.heap I1 H locs → Q1 r I1 → W p l e R s m args below meth c H locs 0 0 Q (F0 m (pc + 3) ls (.int r :: rest))) : W p l e R s m args below meth c H locs 0 0 Q (F0 m pc ls (.ref (a 0) :: rest)) := by
  obtain ⟨hx, hb, hr, hml, hown, hts, hlocks, hA, hK, hcl⟩ := id F
  exact m_callVi (As := []) F G hsz (wM_manyFit hcl H.size  I Q1 h) (cwV 0 hts (lw_V q1448 q1450 qs57 q90 q1451) rfl rfl rfl (by decide +kernel) hR) rfl rfl hW hd k
/-! may -/
def M_may_p79 (Q : Int32 → St → Prop)  (v2 : Int32) (I : St) : Prop := (720 ≤ v2 → Q (-1000000005) I) ∧ (¬ 720 ≤ v2 → Q v2 I)
def M_may_L58 (Q : Int32 → St → Prop)   : Nat → Int32 → St → Prop
  | 0, _, _ => False
  | n + 1, v2, I => (720 ≤ v2 → M_may_p79 Q v2 I) ∧ (¬ 720 ≤ v2 → M_doesFit v2 I (fun r_17 I_18 => (¬ r_17 = 0 → M_may_p79 Q v2 I_18) ∧ (r_17 = 0 → M_may_L58 Q n (v2 + 1) I_18)))
def M_may (v1 : Int32) (I : St) (Q : Int32 → St → Prop) : Prop := M_isIn v1.toInt64 0 3 I (fun r_1 I_2 => (¬ r_1 = 0 → M_findAll  I_2 (fun I_5 => (¬ v1 = 0 → (¬ v1 = 1 → (¬ v1 = 3 → ∃ k58, M_may_L58 Q k58 0 I_5) ∧ (v1 = 3 → M_isSure  I_5 (fun r_9 I_10 => (r_9 = 0 → Q 0 I_10) ∧ (¬ r_9 = 0 → Q 1 I_10)))) ∧ (v1 = 1 → M_hoursFit  I_5 (fun r_12 I_13 => Q r_12 I_13))) ∧ (v1 = 0 → M_manyFit  I_5 (fun r_14 I_15 => Q r_14 I_15)))) ∧ (r_1 = 0 → Q (-1000000001) I_2))
abbrev rmX5_may : Room := { frames := 6, cells := 0, slots := 0, locals := 140 }
set_option maxHeartbeats 4000000 in
set_option maxRecDepth 100000 in
theorem wM_may_p79 {p : Program} {l : Launch} {e : Env} {s : State} {m : MethodId} {args : Array Value} {below : List Frame} {meth : Method} {c : Code} {D : va_G} {cl : List vw_C} {a : Nat → Nat} {d : ClassId} {A : Nat → Prop} {Q : Int32 → St → Prop}  (F : FM p s m meth c args D cl d A cX5_may 3 (some .int)) (v2 : Int32) (I : St)  {H : Heap} {locs : List Loc} {ls : Array Slot} (G : GM D cl a d A s.heap I H locs) (hl : lv_has ls 3 [(2, .int v2)]) (h : M_may_p79 Q v2 I) : wMi p l e rmX5_may s m args below meth c D cl a d A Q H locs (F0 m 79 ls []) := by
  obtain ⟨hx, hb, hr, hml, hown, hts, hlocks, hA, hK, hcl⟩ := id F
  unfold M_may_p79 at h
  refine lv_iload_n hx hb dX5_may_79 rfl (lv_at hl 0 rfl) ?_
  refine lv_sipush (v := 720) hx hb dX5_may_80 (by decide) ?_
  refine lv_icmp_ge (tgt := 90) hx hb dX5_may_83 (by decide) (fun c_20 => ?_) (fun c_20 => ?_)
  · replace h := h.1 c_20
    refine lv_ldc hx hb hown (hts _ q1431) dX5_may_90 ?_
    exact m_iret F G dX5_may_92 h
  · replace h := h.2 c_20
    refine lv_iload_n hx hb dX5_may_86 rfl (lv_at hl 0 rfl) ?_
    refine lv_goto (tgt := 92) hx hb dX5_may_87 (by decide) ?_
    exact m_iret F G dX5_may_92 h
set_option maxHeartbeats 4000000 in
set_option maxRecDepth 100000 in
theorem wM_may_L58 {p : Program} {l : Launch} {e : Env} {s : State} {m : MethodId} {args : Array Value} {below : List Frame} {meth : Method} {c : Code} {D : va_G} {cl : List vw_C} {a : Nat → Nat} {d : ClassId} {A : Nat → Prop} {Q : Int32 → St → Prop}  (F : FM p s m meth c args D cl d A cX5_may 3 (some .int))   :
    ∀ (n : Nat) (v2 : Int32) (I : St) (H : Heap) (locs : List Loc) (ls : Array Slot), GM D cl a d A s.heap I H locs → lv_has ls 3 [(0, .ref (a 0)), (2, .int v2)] → M_may_L58 Q n v2 I → wMi p l e rmX5_may s m args below meth c D cl a d A Q H locs (F0 m 58 ls []) := by
  obtain ⟨hx, hb, hr, hml, hown, hts, hlocks, hA, hK, hcl⟩ := id F
  intro n
  induction n with
  | zero => intro v2 I H locs ls G hl h; exact absurd h (fun q => q)
  | succ n ih =>
    intro v2 I H locs ls G hl h
    unfold M_may_L58 at h
    refine lv_iload_n hx hb dX5_may_58 rfl (lv_at hl 1 rfl) ?_
    refine lv_sipush (v := 720) hx hb dX5_may_59 (by decide) ?_
    refine lv_icmp_ge (tgt := 79) hx hb dX5_may_62 (by decide) (fun c_16 => ?_) (fun c_16 => ?_)
    · replace h := h.1 c_16
      exact wM_may_p79 F v2 I  G (lv_sub hl [1] rfl) h
    · replace h := h.2 c_16
      refine lv_aload_n hx hb dX5_may_65 rfl (lv_at hl 0 rfl) ?_
      refine lv_iload_n hx hb dX5_may_66 rfl (lv_at hl 1 rfl) ?_
      refine kM_doesFit F G hl.1 ⟨Nat.le_of_ble_eq_true rfl, Nat.le_of_ble_eq_true rfl⟩ (Nat.le_of_ble_eq_true rfl) dX5_may_67 h (fun r_17 I_18 H locs G h => ?_)
      refine lv_if_ne (tgt := 79) hx hb dX5_may_70 (by decide) (fun c_19 => ?_) (fun c_19 => ?_)
      · replace h := h.1 c_19
        exact wM_may_p79 F v2 I_18  G (lv_sub hl [1] rfl) h
      · replace h := h.2 c_19
        refine lv_iinc (v := (v2 + 1)) (lv' := [(2, .int (v2 + 1)), (0, .ref (a 0))]) hx hb dX5_may_73 hl (k := 1) rfl rfl (by decide) rfl (fun ls hl => ?_)
        refine lv_goto (tgt := 58) hx hb dX5_may_76 (by decide) ?_
        exact ih (v2 + 1) I_18 _ _ _ G (lv_sub hl [1, 0] rfl) h
set_option maxHeartbeats 4000000 in
set_option maxRecDepth 100000 in
theorem wM_may {l : Launch} {D : va_G} {cl : List vw_C} {a : Nat → Nat} {d : ClassId} (hcl : cl[5]? = some (RX5, TX5, 32)) (sz : Nat) (v1 : Int32) (I : St) (Q : Int32 → St → Prop) (h : M_may v1 I Q) : MMi l D cl a d yX5_may cX5_may 3 .int rmX5_may [.ref (a 0), .int v1] sz I Q := by
  refine m_enter (Qc := fun A => va_Qi Q (BM D cl a d A) A) hcl (by decide) rfl (Nat.le_of_ble_eq_true rfl) ?_
  intro p e s m below meth c ls A F hG hl
  have G := hG
  have hl : lv_has ls 3 [(0, .ref (a 0)), (1, .int v1)] := hl
  obtain ⟨hx, hb, hr, hml, hown, hts, hlocks, hA, hK, hcl⟩ := id F
  unfold M_may at h
  refine lv_iload_n hx hb dX5_may_0 rfl (lv_at hl 1 rfl) ?_
  refine lv_i2l (v := v1.toInt64) hx hb dX5_may_1 rfl ?_
  refine lv_lconst (v := 0) hx hb dX5_may_2 (by decide) ?_
  refine lv_ldc2 hx hb hown (hts _ q1425) dX5_may_3 ?_
  refine kM_isIn F G hl.1 ⟨Nat.le_of_ble_eq_true rfl, Nat.le_of_ble_eq_true rfl⟩ (Nat.le_of_ble_eq_true rfl) dX5_may_6 h (fun r_1 I_2 H locs G h => ?_)
  refine lv_if_ne (tgt := 15) hx hb dX5_may_9 (by decide) (fun c_3 => ?_) (fun c_3 => ?_)
  · replace h := h.1 c_3
    refine lv_aload_n hx hb dX5_may_15 rfl (lv_at hl 0 rfl) ?_
    refine kM_findAll F G hl.1 ⟨Nat.le_of_ble_eq_true rfl, Nat.le_of_ble_eq_true rfl⟩ (Nat.le_of_ble_eq_true rfl) dX5_may_16 h (fun I_5 H locs G h => ?_)
    refine lv_iload_n hx hb dX5_may_19 rfl (lv_at hl 1 rfl) ?_
    refine lv_if_ne (tgt := 28) hx hb dX5_may_20 (by decide) (fun c_6 => ?_) (fun c_6 => ?_)
    · replace h := h.1 c_6
      refine lv_iload_n hx hb dX5_may_28 rfl (lv_at hl 1 rfl) ?_
      refine lv_iconst (v := 1) hx hb dX5_may_29 (by decide) ?_
      refine lv_icmp_ne (tgt := 38) hx hb dX5_may_30 (by decide) (fun c_7 => ?_) (fun c_7 => ?_)
      · replace h := h.1 c_7
        refine lv_iload_n hx hb dX5_may_38 rfl (lv_at hl 1 rfl) ?_
        refine lv_iconst (v := 3) hx hb dX5_may_39 (by decide) ?_
        refine lv_icmp_ne (tgt := 56) hx hb dX5_may_40 (by decide) (fun c_8 => ?_) (fun c_8 => ?_)
        · replace h := h.1 c_8
          refine lv_iconst (v := 0) hx hb dX5_may_56 (by decide) ?_
          refine lv_istore_n (lv' := [(2, .int 0), (0, .ref (a 0)), (1, .int v1)]) hx hb dX5_may_57 rfl hl (by decide) rfl (fun ls hl => ?_)
          obtain ⟨k58, h⟩ := h
          exact wM_may_L58 F   k58 0 I_5 _ _ _ G (lv_sub hl [1, 0] rfl) h
        · replace h := h.2 c_8
          refine lv_aload_n hx hb dX5_may_43 rfl (lv_at hl 0 rfl) ?_
          refine kM_isSure F G hl.1 ⟨Nat.le_of_ble_eq_true rfl, Nat.le_of_ble_eq_true rfl⟩ (Nat.le_of_ble_eq_true rfl) dX5_may_44 h (fun r_9 I_10 H locs G h => ?_)
          refine lv_if_eq (tgt := 54) hx hb dX5_may_47 (by decide) (fun c_11 => ?_) (fun c_11 => ?_)
          · replace h := h.1 c_11
            refine lv_iconst (v := 0) hx hb dX5_may_54 (by decide) ?_
            exact m_iret F G dX5_may_55 h
          · replace h := h.2 c_11
            refine lv_iconst (v := 1) hx hb dX5_may_50 (by decide) ?_
            refine lv_goto (tgt := 55) hx hb dX5_may_51 (by decide) ?_
            exact m_iret F G dX5_may_55 h
      · replace h := h.2 c_7
        refine lv_aload_n hx hb dX5_may_33 rfl (lv_at hl 0 rfl) ?_
        refine kM_hoursFit F G hl.1 ⟨Nat.le_of_ble_eq_true rfl, Nat.le_of_ble_eq_true rfl⟩ (Nat.le_of_ble_eq_true rfl) dX5_may_34 h (fun r_12 I_13 H locs G h => ?_)
        exact m_iret F G dX5_may_37 h
    · replace h := h.2 c_6
      refine lv_aload_n hx hb dX5_may_23 rfl (lv_at hl 0 rfl) ?_
      refine kM_manyFit F G hl.1 ⟨Nat.le_of_ble_eq_true rfl, Nat.le_of_ble_eq_true rfl⟩ (Nat.le_of_ble_eq_true rfl) dX5_may_24 h (fun r_14 I_15 H locs G h => ?_)
      exact m_iret F G dX5_may_27 h
  · replace h := h.2 c_3
    refine lv_ldc hx hb hown (hts _ q1296) dX5_may_12 ?_
    exact m_iret F G dX5_may_14 h

/-! next -/
def M_next_p33 (Q : Int32 → St → Prop)  (v1 : Int32) (I : St) : Prop := (60 < v1 → Q (-1000000005) I) ∧ (¬ 60 < v1 → Q v1 I)
def M_next_L2 (Q : Int32 → St → Prop)   : Nat → Int32 → St → Prop
  | 0, _, _ => False
  | n + 1, v1, I => (60 < v1 → M_next_p33 Q v1 I) ∧ (¬ 60 < v1 → M_timeNow  I (fun r_2 I_3 => M_totalAt (((r_2 + v1) - 1) - ((r_2 + v1) - 1) / 720 * 720) I_3 (fun r_4 I_5 => (¬ r_4 = 0 → M_next_p33 Q v1 I_5) ∧ (r_4 = 0 → M_next_L2 Q n (v1 + 1) I_5))))
def M_next  (I : St) (Q : Int32 → St → Prop) : Prop := ∃ k2, M_next_L2 Q k2 1 I
abbrev rmX5_next : Room := { frames := 5, cells := 0, slots := 0, locals := 119 }
set_option maxHeartbeats 4000000 in
set_option maxRecDepth 100000 in
theorem wM_next_p33 {p : Program} {l : Launch} {e : Env} {s : State} {m : MethodId} {args : Array Value} {below : List Frame} {meth : Method} {c : Code} {D : va_G} {cl : List vw_C} {a : Nat → Nat} {d : ClassId} {A : Nat → Prop} {Q : Int32 → St → Prop}  (F : FM p s m meth c args D cl d A cX5_next 2 (some .int)) (v1 : Int32) (I : St)  {H : Heap} {locs : List Loc} {ls : Array Slot} (G : GM D cl a d A s.heap I H locs) (hl : lv_has ls 2 [(1, .int v1)]) (h : M_next_p33 Q v1 I) : wMi p l e rmX5_next s m args below meth c D cl a d A Q H locs (F0 m 33 ls []) := by
  obtain ⟨hx, hb, hr, hml, hown, hts, hlocks, hA, hK, hcl⟩ := id F
  unfold M_next_p33 at h
  refine lv_iload_n hx hb dX5_next_33 rfl (lv_at hl 0 rfl) ?_
  refine lv_bipush (v := 60) hx hb dX5_next_34 (by decide) ?_
  refine lv_icmp_gt (tgt := 43) hx hb dX5_next_36 (by decide) (fun c_7 => ?_) (fun c_7 => ?_)
  · replace h := h.1 c_7
    refine lv_ldc hx hb hown (hts _ q1431) dX5_next_43 ?_
    exact m_iret F G dX5_next_45 h
  · replace h := h.2 c_7
    refine lv_iload_n hx hb dX5_next_39 rfl (lv_at hl 0 rfl) ?_
    refine lv_goto (tgt := 45) hx hb dX5_next_40 (by decide) ?_
    exact m_iret F G dX5_next_45 h
set_option maxHeartbeats 4000000 in
set_option maxRecDepth 100000 in
theorem wM_next_L2 {p : Program} {l : Launch} {e : Env} {s : State} {m : MethodId} {args : Array Value} {below : List Frame} {meth : Method} {c : Code} {D : va_G} {cl : List vw_C} {a : Nat → Nat} {d : ClassId} {A : Nat → Prop} {Q : Int32 → St → Prop}  (F : FM p s m meth c args D cl d A cX5_next 2 (some .int))   :
    ∀ (n : Nat) (v1 : Int32) (I : St) (H : Heap) (locs : List Loc) (ls : Array Slot), GM D cl a d A s.heap I H locs → lv_has ls 2 [(0, .ref (a 0)), (1, .int v1)] → M_next_L2 Q n v1 I → wMi p l e rmX5_next s m args below meth c D cl a d A Q H locs (F0 m 2 ls []) := by
  obtain ⟨hx, hb, hr, hml, hown, hts, hlocks, hA, hK, hcl⟩ := id F
  intro n
  induction n with
  | zero => intro v1 I H locs ls G hl h; exact absurd h (fun q => q)
  | succ n ih =>
    intro v1 I H locs ls G hl h
    unfold M_next_L2 at h
    refine lv_iload_n hx hb dX5_next_2 rfl (lv_at hl 1 rfl) ?_
    refine lv_bipush (v := 60) hx hb dX5_next_3 (by decide) ?_
    refine lv_icmp_gt (tgt := 33) hx hb dX5_next_5 (by decide) (fun c_1 => ?_) (fun c_1 => ?_)
    · replace h := h.1 c_1
      exact wM_next_p33 F v1 I  G (lv_sub hl [1] rfl) h
    · replace h := h.2 c_1
      refine lv_aload_n hx hb dX5_next_8 rfl (lv_at hl 0 rfl) ?_
      refine lv_aload_n hx hb dX5_next_9 rfl (lv_at hl 0 rfl) ?_
      refine kM_timeNow F G hl.1 ⟨Nat.le_of_ble_eq_true rfl, Nat.le_of_ble_eq_true rfl⟩ (Nat.le_of_ble_eq_true rfl) dX5_next_10 h (fun r_2 I_3 H locs G h => ?_)
      refine lv_iload_n hx hb dX5_next_13 rfl (lv_at hl 1 rfl) ?_
      refine lv_iadd hx hb dX5_next_14 ?_
      refine lv_iconst (v := 1) hx hb dX5_next_15 (by decide) ?_
      refine lv_isub hx hb dX5_next_16 ?_
      refine lv_sipush (v := 720) hx hb dX5_next_17 (by decide) ?_
      refine lv_irem hx hb dX5_next_20 (by decide) ?_
      refine kM_totalAt F G hl.1 ⟨Nat.le_of_ble_eq_true rfl, Nat.le_of_ble_eq_true rfl⟩ (Nat.le_of_ble_eq_true rfl) dX5_next_21 h (fun r_4 I_5 H locs G h => ?_)
      refine lv_if_ne (tgt := 33) hx hb dX5_next_24 (by decide) (fun c_6 => ?_) (fun c_6 => ?_)
      · replace h := h.1 c_6
        exact wM_next_p33 F v1 I_5  G (lv_sub hl [1] rfl) h
      · replace h := h.2 c_6
        refine lv_iinc (v := (v1 + 1)) (lv' := [(1, .int (v1 + 1)), (0, .ref (a 0))]) hx hb dX5_next_27 hl (k := 1) rfl rfl (by decide) rfl (fun ls hl => ?_)
        refine lv_goto (tgt := 2) hx hb dX5_next_30 (by decide) ?_
        exact ih (v1 + 1) I_5 _ _ _ G (lv_sub hl [1, 0] rfl) h
set_option maxHeartbeats 4000000 in
set_option maxRecDepth 100000 in
theorem wM_next {l : Launch} {D : va_G} {cl : List vw_C} {a : Nat → Nat} {d : ClassId} (hcl : cl[5]? = some (RX5, TX5, 32)) (sz : Nat)  (I : St) (Q : Int32 → St → Prop) (h : M_next  I Q) : MMi l D cl a d yX5_next cX5_next 2 .int rmX5_next [.ref (a 0)] sz I Q := by
  refine m_enter (Qc := fun A => va_Qi Q (BM D cl a d A) A) hcl (by decide) rfl (Nat.le_of_ble_eq_true rfl) ?_
  intro p e s m below meth c ls A F hG hl
  have G := hG
  have hl : lv_has ls 2 [(0, .ref (a 0))] := hl
  obtain ⟨hx, hb, hr, hml, hown, hts, hlocks, hA, hK, hcl⟩ := id F
  unfold M_next at h
  refine lv_iconst (v := 1) hx hb dX5_next_0 (by decide) ?_
  refine lv_istore_n (lv' := [(1, .int 1), (0, .ref (a 0))]) hx hb dX5_next_1 rfl hl (by decide) rfl (fun ls hl => ?_)
  obtain ⟨k2, h⟩ := h
  exact wM_next_L2 F   k2 1 I _ _ _ G (lv_sub hl [1, 0] rfl) h

/-! parts -/
def M_parts_p94 (Q : Int32 → St → Prop) (K19 : Int32 → Int32 → St → Prop) (v1 : Int32) (v2 : Int32) (v4 : Int32) (t0 : Int32) (t1 : Int32) (I : St) : Prop := ∀ x_11 : Int32, x_11 = (t1 + t0) → K19 x_11 (v4 + 1) I
def M_parts_p73 (Q : Int32 → St → Prop) (K19 : Int32 → Int32 → St → Prop) (K38 : Int32 → Int32 → St → Prop) (v1 : Int32) (v2 : Int32) (v3 : Int32) (v4 : Int32) (v6 : Int32) (t0 : Int32) (t1 : Int32) (I : St) : Prop := ∀ x_12 : Int32, x_12 = (t1 + t0) → K38 x_12 (v6 + 1) I
def M_parts_L38 (Q : Int32 → St → Prop) (K19 : Int32 → Int32 → St → Prop) (v1 : Int32) (v2 : Int32) (v3 : Int32) (v4 : Int32) : Nat → Int32 → Int32 → St → Prop
  | 0, _, _, _ => False
  | n + 1, v5, v6, I => ((I 1 0) ≤ v6 → (¬ v5 = v2 → M_parts_p94 Q K19 v1 v2 v4 0 v3 I) ∧ (v5 = v2 → M_parts_p94 Q K19 v1 v2 v4 1 v3 I)) ∧ (¬ (I 1 0) ≤ v6 → (¬ ((v4 >>> (v6 &&& 31)) &&& 1) = 1 → M_parts_p73 Q K19 (fun v5_ v6_ I_ => M_parts_L38 Q K19 v1 v2 v3 v4 n v5_ v6_ I_) v1 v2 v3 v4 v6 0 v5 I) ∧ (((v4 >>> (v6 &&& 31)) &&& 1) = 1 → M_strikes v6 v1 I (fun r_9 I_10 => M_parts_p73 Q K19 (fun v5_ v6_ I_ => M_parts_L38 Q K19 v1 v2 v3 v4 n v5_ v6_ I_) v1 v2 v3 v4 v6 r_9 v5 I_10)))
def M_parts_L19 (Q : Int32 → St → Prop)  (v1 : Int32) (v2 : Int32) : Nat → Int32 → Int32 → St → Prop
  | 0, _, _, _ => False
  | n + 1, v3, v4, I => ((1 <<< ((I 1 0) &&& 31)) ≤ v4 → Q v3 I) ∧ (¬ (1 <<< ((I 1 0) &&& 31)) ≤ v4 → ∃ k38, M_parts_L38 Q (fun v3_ v4_ I_ => M_parts_L19 Q v1 v2 n v3_ v4_ I_) v1 v2 v3 v4 k38 0 0 I)
def M_parts (v1 : Int32) (v2 : Int32) (I : St) (Q : Int32 → St → Prop) : Prop := M_isTime v1 I (fun r_1 I_2 => (r_1 = 0 → Q (-1000000001) I_2) ∧ (¬ r_1 = 0 → (0 ≤ v2 → ∃ k19, M_parts_L19 Q v1 v2 k19 0 0 I_2) ∧ (¬ 0 ≤ v2 → Q (-1000000001) I_2)))
abbrev rmX5_parts : Room := { frames := 4, cells := 0, slots := 0, locals := 96 }
set_option maxHeartbeats 4000000 in
set_option maxRecDepth 100000 in
theorem wM_parts_p94 {p : Program} {l : Launch} {e : Env} {s : State} {m : MethodId} {args : Array Value} {below : List Frame} {meth : Method} {c : Code} {D : va_G} {cl : List vw_C} {a : Nat → Nat} {d : ClassId} {A : Nat → Prop} {Q : Int32 → St → Prop} {K19 : Int32 → Int32 → St → Prop} (F : FM p s m meth c args D cl d A cX5_parts 7 (some .int)) (v1 : Int32) (v2 : Int32) (v4 : Int32) (t0 : Int32) (t1 : Int32) (I : St) (hK19 : ∀ (v3 : Int32) (v4 : Int32) (I : St) (H : Heap) (locs : List Loc) (ls : Array Slot), GM D cl a d A s.heap I H locs → lv_has ls 7 [(0, .ref (a 0)), (1, .int v1), (2, .int v2), (3, .int v3), (4, .int v4)] → K19 v3 v4 I → wMi p l e rmX5_parts s m args below meth c D cl a d A Q H locs (F0 m 19 ls [])) {H : Heap} {locs : List Loc} {ls : Array Slot} (G : GM D cl a d A s.heap I H locs) (hl : lv_has ls 7 [(0, .ref (a 0)), (1, .int v1), (2, .int v2), (4, .int v4)]) (h : M_parts_p94 Q K19 v1 v2 v4 t0 t1 I) : wMi p l e rmX5_parts s m args below meth c D cl a d A Q H locs (F0 m 94 ls [.int t0, .int t1]) := by
  obtain ⟨hx, hb, hr, hml, hown, hts, hlocks, hA, hK, hcl⟩ := id F
  unfold M_parts_p94 at h
  refine lv_iadd hx hb dX5_parts_94 ?_
  refine lv_topi (fun x_11 ex_11 => ?_)
  replace h := h x_11 ex_11
  refine lv_istore_n (lv' := [(3, .int x_11), (0, .ref (a 0)), (1, .int v1), (2, .int v2), (4, .int v4)]) hx hb dX5_parts_95 rfl hl (by decide) rfl (fun ls hl => ?_)
  refine lv_iinc (v := (v4 + 1)) (lv' := [(4, .int (v4 + 1)), (3, .int x_11), (0, .ref (a 0)), (1, .int v1), (2, .int v2)]) hx hb dX5_parts_96 hl (k := 4) rfl rfl (by decide) rfl (fun ls hl => ?_)
  refine lv_goto (tgt := 19) hx hb dX5_parts_99 (by decide) ?_
  exact hK19 x_11 (v4 + 1) I _ _ _ G (lv_sub hl [2, 3, 4, 1, 0] rfl) h
set_option maxHeartbeats 4000000 in
set_option maxRecDepth 100000 in
theorem wM_parts_p73 {p : Program} {l : Launch} {e : Env} {s : State} {m : MethodId} {args : Array Value} {below : List Frame} {meth : Method} {c : Code} {D : va_G} {cl : List vw_C} {a : Nat → Nat} {d : ClassId} {A : Nat → Prop} {Q : Int32 → St → Prop} {K19 : Int32 → Int32 → St → Prop} {K38 : Int32 → Int32 → St → Prop} (F : FM p s m meth c args D cl d A cX5_parts 7 (some .int)) (v1 : Int32) (v2 : Int32) (v3 : Int32) (v4 : Int32) (v6 : Int32) (t0 : Int32) (t1 : Int32) (I : St) (hK19 : ∀ (v3 : Int32) (v4 : Int32) (I : St) (H : Heap) (locs : List Loc) (ls : Array Slot), GM D cl a d A s.heap I H locs → lv_has ls 7 [(0, .ref (a 0)), (1, .int v1), (2, .int v2), (3, .int v3), (4, .int v4)] → K19 v3 v4 I → wMi p l e rmX5_parts s m args below meth c D cl a d A Q H locs (F0 m 19 ls [])) (hK38 : ∀ (v5 : Int32) (v6 : Int32) (I : St) (H : Heap) (locs : List Loc) (ls : Array Slot), GM D cl a d A s.heap I H locs → lv_has ls 7 [(0, .ref (a 0)), (1, .int v1), (2, .int v2), (3, .int v3), (4, .int v4), (5, .int v5), (6, .int v6)] → K38 v5 v6 I → wMi p l e rmX5_parts s m args below meth c D cl a d A Q H locs (F0 m 38 ls [])) {H : Heap} {locs : List Loc} {ls : Array Slot} (G : GM D cl a d A s.heap I H locs) (hl : lv_has ls 7 [(0, .ref (a 0)), (1, .int v1), (2, .int v2), (3, .int v3), (4, .int v4), (6, .int v6)]) (h : M_parts_p73 Q K19 K38 v1 v2 v3 v4 v6 t0 t1 I) : wMi p l e rmX5_parts s m args below meth c D cl a d A Q H locs (F0 m 73 ls [.int t0, .int t1]) := by
  obtain ⟨hx, hb, hr, hml, hown, hts, hlocks, hA, hK, hcl⟩ := id F
  unfold M_parts_p73 at h
  refine lv_iadd hx hb dX5_parts_73 ?_
  refine lv_topi (fun x_12 ex_12 => ?_)
  replace h := h x_12 ex_12
  refine lv_istore (lv' := [(5, .int x_12), (0, .ref (a 0)), (1, .int v1), (2, .int v2), (3, .int v3), (4, .int v4), (6, .int v6)]) hx hb dX5_parts_74 hl (by decide) rfl (fun ls hl => ?_)
  refine lv_iinc (v := (v6 + 1)) (lv' := [(6, .int (v6 + 1)), (5, .int x_12), (0, .ref (a 0)), (1, .int v1), (2, .int v2), (3, .int v3), (4, .int v4)]) hx hb dX5_parts_76 hl (k := 6) rfl rfl (by decide) rfl (fun ls hl => ?_)
  refine lv_goto (tgt := 38) hx hb dX5_parts_79 (by decide) ?_
  exact hK38 x_12 (v6 + 1) I _ _ _ G (lv_sub hl [2, 3, 4, 5, 6, 1, 0] rfl) h
set_option maxHeartbeats 4000000 in
set_option maxRecDepth 100000 in
theorem wM_parts_L38 {p : Program} {l : Launch} {e : Env} {s : State} {m : MethodId} {args : Array Value} {below : List Frame} {meth : Method} {c : Code} {D : va_G} {cl : List vw_C} {a : Nat → Nat} {d : ClassId} {A : Nat → Prop} {Q : Int32 → St → Prop} {K19 : Int32 → Int32 → St → Prop} (F : FM p s m meth c args D cl d A cX5_parts 7 (some .int)) (v1 : Int32) (v2 : Int32) (v3 : Int32) (v4 : Int32) (hK19 : ∀ (v3 : Int32) (v4 : Int32) (I : St) (H : Heap) (locs : List Loc) (ls : Array Slot), GM D cl a d A s.heap I H locs → lv_has ls 7 [(0, .ref (a 0)), (1, .int v1), (2, .int v2), (3, .int v3), (4, .int v4)] → K19 v3 v4 I → wMi p l e rmX5_parts s m args below meth c D cl a d A Q H locs (F0 m 19 ls [])) :
    ∀ (n : Nat) (v5 : Int32) (v6 : Int32) (I : St) (H : Heap) (locs : List Loc) (ls : Array Slot), GM D cl a d A s.heap I H locs → lv_has ls 7 [(0, .ref (a 0)), (1, .int v1), (2, .int v2), (3, .int v3), (4, .int v4), (5, .int v5), (6, .int v6)] → M_parts_L38 Q K19 v1 v2 v3 v4 n v5 v6 I → wMi p l e rmX5_parts s m args below meth c D cl a d A Q H locs (F0 m 38 ls []) := by
  obtain ⟨hx, hb, hr, hml, hown, hts, hlocks, hA, hK, hcl⟩ := id F
  intro n
  induction n with
  | zero => intro v5 v6 I H locs ls G hl h; exact absurd h (fun q => q)
  | succ n ih =>
    intro v5 v6 I H locs ls G hl h
    unfold M_parts_L38 at h
    refine lv_iload hx hb dX5_parts_38 (lv_at hl 6 rfl) ?_
    refine lv_aload_n hx hb dX5_parts_40 rfl (lv_at hl 0 rfl) ?_
    refine mg_s F G dX5_parts_41 ?_
    refine lv_iconst (v := 0) hx hb dX5_parts_44 (by decide) ?_
    refine m_ld F G mA_1 (by unfold vp_in; decide) dX5_parts_45 ?_
    refine lv_icmp_ge (tgt := 82) hx hb dX5_parts_46 (by decide) (fun c_6 => ?_) (fun c_6 => ?_)
    · replace h := h.1 c_6
      refine lv_iload_n hx hb dX5_parts_82 rfl (lv_at hl 3 rfl) ?_
      refine lv_iload hx hb dX5_parts_83 (lv_at hl 5 rfl) ?_
      refine lv_iload_n hx hb dX5_parts_85 rfl (lv_at hl 2 rfl) ?_
      refine lv_icmp_ne (tgt := 93) hx hb dX5_parts_86 (by decide) (fun c_7 => ?_) (fun c_7 => ?_)
      · replace h := h.1 c_7
        refine lv_iconst (v := 0) hx hb dX5_parts_93 (by decide) ?_
        exact wM_parts_p94 F v1 v2 v4 0 v3 I hK19 G (lv_sub hl [0, 1, 2, 4] rfl) h
      · replace h := h.2 c_7
        refine lv_iconst (v := 1) hx hb dX5_parts_89 (by decide) ?_
        refine lv_goto (tgt := 94) hx hb dX5_parts_90 (by decide) ?_
        exact wM_parts_p94 F v1 v2 v4 1 v3 I hK19 G (lv_sub hl [0, 1, 2, 4] rfl) h
    · replace h := h.2 c_6
      refine lv_iload hx hb dX5_parts_49 (lv_at hl 5 rfl) ?_
      refine lv_iload hx hb dX5_parts_51 (lv_at hl 4 rfl) ?_
      refine lv_iload hx hb dX5_parts_53 (lv_at hl 6 rfl) ?_
      refine lv_ishr hx hb dX5_parts_55 ?_
      refine lv_iconst (v := 1) hx hb dX5_parts_56 (by decide) ?_
      refine lv_iand hx hb dX5_parts_57 ?_
      refine lv_iconst (v := 1) hx hb dX5_parts_58 (by decide) ?_
      refine lv_icmp_ne (tgt := 72) hx hb dX5_parts_59 (by decide) (fun c_8 => ?_) (fun c_8 => ?_)
      · replace h := h.1 c_8
        refine lv_iconst (v := 0) hx hb dX5_parts_72 (by decide) ?_
        exact wM_parts_p73 F v1 v2 v3 v4 v6 0 v5 I hK19 ih G (lv_sub hl [0, 1, 2, 3, 4, 6] rfl) h
      · replace h := h.2 c_8
        refine lv_aload_n hx hb dX5_parts_62 rfl (lv_at hl 0 rfl) ?_
        refine lv_iload hx hb dX5_parts_63 (lv_at hl 6 rfl) ?_
        refine lv_iload_n hx hb dX5_parts_65 rfl (lv_at hl 1 rfl) ?_
        refine kM_strikes F G hl.1 ⟨Nat.le_of_ble_eq_true rfl, Nat.le_of_ble_eq_true rfl⟩ (Nat.le_of_ble_eq_true rfl) dX5_parts_66 h (fun r_9 I_10 H locs G h => ?_)
        refine lv_goto (tgt := 73) hx hb dX5_parts_69 (by decide) ?_
        exact wM_parts_p73 F v1 v2 v3 v4 v6 r_9 v5 I_10 hK19 ih G (lv_sub hl [0, 1, 2, 3, 4, 6] rfl) h
set_option maxHeartbeats 4000000 in
set_option maxRecDepth 100000 in
theorem wM_parts_L19 {p : Program} {l : Launch} {e : Env} {s : State} {m : MethodId} {args : Array Value} {below : List Frame} {meth : Method} {c : Code} {D : va_G} {cl : List vw_C} {a : Nat → Nat} {d : ClassId} {A : Nat → Prop} {Q : Int32 → St → Prop}  (F : FM p s m meth c args D cl d A cX5_parts 7 (some .int)) (v1 : Int32) (v2 : Int32)  :
    ∀ (n : Nat) (v3 : Int32) (v4 : Int32) (I : St) (H : Heap) (locs : List Loc) (ls : Array Slot), GM D cl a d A s.heap I H locs → lv_has ls 7 [(0, .ref (a 0)), (1, .int v1), (2, .int v2), (3, .int v3), (4, .int v4)] → M_parts_L19 Q v1 v2 n v3 v4 I → wMi p l e rmX5_parts s m args below meth c D cl a d A Q H locs (F0 m 19 ls []) := by
  obtain ⟨hx, hb, hr, hml, hown, hts, hlocks, hA, hK, hcl⟩ := id F
  intro n
  induction n with
  | zero => intro v3 v4 I H locs ls G hl h; exact absurd h (fun q => q)
  | succ n ih =>
    intro v3 v4 I H locs ls G hl h
    unfold M_parts_L19 at h
    refine lv_iload hx hb dX5_parts_19 (lv_at hl 4 rfl) ?_
    refine lv_iconst (v := 1) hx hb dX5_parts_21 (by decide) ?_
    refine lv_aload_n hx hb dX5_parts_22 rfl (lv_at hl 0 rfl) ?_
    refine mg_s F G dX5_parts_23 ?_
    refine lv_iconst (v := 0) hx hb dX5_parts_26 (by decide) ?_
    refine m_ld F G mA_1 (by unfold vp_in; decide) dX5_parts_27 ?_
    refine lv_ishl hx hb dX5_parts_28 ?_
    refine lv_icmp_ge (tgt := 102) hx hb dX5_parts_29 (by decide) (fun c_5 => ?_) (fun c_5 => ?_)
    · replace h := h.1 c_5
      refine lv_iload_n hx hb dX5_parts_102 rfl (lv_at hl 3 rfl) ?_
      exact m_iret F G dX5_parts_103 h
    · replace h := h.2 c_5
      refine lv_iconst (v := 0) hx hb dX5_parts_32 (by decide) ?_
      refine lv_istore (lv' := [(5, .int 0), (0, .ref (a 0)), (1, .int v1), (2, .int v2), (3, .int v3), (4, .int v4)]) hx hb dX5_parts_33 hl (by decide) rfl (fun ls hl => ?_)
      refine lv_iconst (v := 0) hx hb dX5_parts_35 (by decide) ?_
      refine lv_istore (lv' := [(6, .int 0), (5, .int 0), (0, .ref (a 0)), (1, .int v1), (2, .int v2), (3, .int v3), (4, .int v4)]) hx hb dX5_parts_36 hl (by decide) rfl (fun ls hl => ?_)
      obtain ⟨k38, h⟩ := h
      exact wM_parts_L38 F v1 v2 v3 v4 ih k38 0 0 I _ _ _ G (lv_sub hl [2, 3, 4, 5, 6, 1, 0] rfl) h
set_option maxHeartbeats 4000000 in
set_option maxRecDepth 100000 in
theorem wM_parts {l : Launch} {D : va_G} {cl : List vw_C} {a : Nat → Nat} {d : ClassId} (hcl : cl[5]? = some (RX5, TX5, 32)) (sz : Nat) (v1 : Int32) (v2 : Int32) (I : St) (Q : Int32 → St → Prop) (h : M_parts v1 v2 I Q) : MMi l D cl a d yX5_parts cX5_parts 7 .int rmX5_parts [.ref (a 0), .int v1, .int v2] sz I Q := by
  refine m_enter (Qc := fun A => va_Qi Q (BM D cl a d A) A) hcl (by decide) rfl (Nat.le_of_ble_eq_true rfl) ?_
  intro p e s m below meth c ls A F hG hl
  have G := hG
  have hl : lv_has ls 7 [(0, .ref (a 0)), (1, .int v1), (2, .int v2)] := hl
  obtain ⟨hx, hb, hr, hml, hown, hts, hlocks, hA, hK, hcl⟩ := id F
  unfold M_parts at h
  refine lv_iload_n hx hb dX5_parts_0 rfl (lv_at hl 1 rfl) ?_
  refine kM_isTime F G hl.1 ⟨Nat.le_of_ble_eq_true rfl, Nat.le_of_ble_eq_true rfl⟩ (Nat.le_of_ble_eq_true rfl) dX5_parts_1 h (fun r_1 I_2 H locs G h => ?_)
  refine lv_if_eq (tgt := 11) hx hb dX5_parts_4 (by decide) (fun c_3 => ?_) (fun c_3 => ?_)
  · replace h := h.1 c_3
    refine lv_ldc hx hb hown (hts _ q1296) dX5_parts_11 ?_
    exact m_iret F G dX5_parts_13 h
  · replace h := h.2 c_3
    refine lv_iload_n hx hb dX5_parts_7 rfl (lv_at hl 2 rfl) ?_
    refine lv_if_ge (tgt := 14) hx hb dX5_parts_8 (by decide) (fun c_4 => ?_) (fun c_4 => ?_)
    · replace h := h.1 c_4
      refine lv_iconst (v := 0) hx hb dX5_parts_14 (by decide) ?_
      refine lv_istore_n (lv' := [(3, .int 0), (0, .ref (a 0)), (1, .int v1), (2, .int v2)]) hx hb dX5_parts_15 rfl hl (by decide) rfl (fun ls hl => ?_)
      refine lv_iconst (v := 0) hx hb dX5_parts_16 (by decide) ?_
      refine lv_istore (lv' := [(4, .int 0), (3, .int 0), (0, .ref (a 0)), (1, .int v1), (2, .int v2)]) hx hb dX5_parts_17 hl (by decide) rfl (fun ls hl => ?_)
      obtain ⟨k19, h⟩ := h
      exact wM_parts_L19 F v1 v2  k19 0 0 I_2 _ _ _ G (lv_sub hl [2, 3, 4, 1, 0] rfl) h
    · replace h := h.2 c_4
      refine lv_ldc hx hb hown (hts _ q1296) dX5_parts_11 ?_
      exact m_iret F G dX5_parts_13 h

/-! findMore -/
def M_findMore_L2 (Q : St → Prop)  (v1 : Int32) (v2 : Int32) : Nat → Int32 → St → Prop
  | 0, _, _ => False
  | n + 1, v3, I => (720 ≤ v3 → Q I) ∧ (¬ 720 ≤ v3 → vp_in v3 720 ∧ (M_strikes v1 v3 I (fun r_3 I_4 => vp_in v3 720 ∧ (M_findMore_L2 Q v1 v2 n (v3 + 1) (sA I_4 12 v3 ((I 12 (v3.toNatClampNeg)) + (v2 * r_3)))))))
def M_findMore (v1 : Int32) (v2 : Int32) (I : St) (Q : St → Prop) : Prop := ∃ k2, M_findMore_L2 Q v1 v2 k2 0 I
abbrev rmX5_findMore : Room := { frames := 4, cells := 0, slots := 0, locals := 96 }
set_option maxHeartbeats 4000000 in
set_option maxRecDepth 100000 in
theorem wM_findMore_L2 {p : Program} {l : Launch} {e : Env} {s : State} {m : MethodId} {args : Array Value} {below : List Frame} {meth : Method} {c : Code} {D : va_G} {cl : List vw_C} {a : Nat → Nat} {d : ClassId} {A : Nat → Prop} {Q : St → Prop}  (F : FM p s m meth c args D cl d A cX5_findMore 4 none) (v1 : Int32) (v2 : Int32)  :
    ∀ (n : Nat) (v3 : Int32) (I : St) (H : Heap) (locs : List Loc) (ls : Array Slot), GM D cl a d A s.heap I H locs → lv_has ls 4 [(0, .ref (a 0)), (1, .int v1), (2, .int v2), (3, .int v3)] → M_findMore_L2 Q v1 v2 n v3 I → wMv p l e rmX5_findMore s m args below meth c D cl a d A Q H locs (F0 m 2 ls []) := by
  obtain ⟨hx, hb, hr, hml, hown, hts, hlocks, hA, hK, hcl⟩ := id F
  intro n
  induction n with
  | zero => intro v3 I H locs ls G hl h; exact absurd h (fun q => q)
  | succ n ih =>
    intro v3 I H locs ls G hl h
    unfold M_findMore_L2 at h
    refine lv_iload_n hx hb dX5_findMore_2 rfl (lv_at hl 3 rfl) ?_
    refine lv_sipush (v := 720) hx hb dX5_findMore_3 (by decide) ?_
    refine lv_icmp_ge (tgt := 32) hx hb dX5_findMore_6 (by decide) (fun c_1 => ?_) (fun c_1 => ?_)
    · replace h := h.1 c_1
      exact m_vret F G dX5_findMore_32 h
    · replace h := h.2 c_1
      refine lv_aload_n hx hb dX5_findMore_9 rfl (lv_at hl 0 rfl) ?_
      refine mg_all F G dX5_findMore_10 ?_
      refine lv_iload_n hx hb dX5_findMore_13 rfl (lv_at hl 3 rfl) ?_
      refine lv_dup2_11 hx hb dX5_findMore_14 rfl rfl ?_
      obtain ⟨b_2, h⟩ := h
      refine m_ld F G mA_12 b_2 dX5_findMore_15 ?_
      refine lv_iload_n hx hb dX5_findMore_16 rfl (lv_at hl 2 rfl) ?_
      refine lv_aload_n hx hb dX5_findMore_17 rfl (lv_at hl 0 rfl) ?_
      refine lv_iload_n hx hb dX5_findMore_18 rfl (lv_at hl 1 rfl) ?_
      refine lv_iload_n hx hb dX5_findMore_19 rfl (lv_at hl 3 rfl) ?_
      refine kM_strikes F G hl.1 ⟨Nat.le_of_ble_eq_true rfl, Nat.le_of_ble_eq_true rfl⟩ (Nat.le_of_ble_eq_true rfl) dX5_findMore_20 h (fun r_3 I_4 H locs G h => ?_)
      refine lv_imul hx hb dX5_findMore_23 ?_
      refine lv_iadd hx hb dX5_findMore_24 ?_
      obtain ⟨b_5, h⟩ := h
      refine m_st F G mA_12 b_5 dX5_findMore_25 (fun H locs G => ?_)
      refine lv_iinc (v := (v3 + 1)) (lv' := [(3, .int (v3 + 1)), (0, .ref (a 0)), (1, .int v1), (2, .int v2)]) hx hb dX5_findMore_26 hl (k := 3) rfl rfl (by decide) rfl (fun ls hl => ?_)
      refine lv_goto (tgt := 2) hx hb dX5_findMore_29 (by decide) ?_
      exact ih (v3 + 1) (sA I_4 12 v3 ((I 12 (v3.toNatClampNeg)) + (v2 * r_3))) _ _ _ G (lv_sub hl [1, 2, 3, 0] rfl) h
set_option maxHeartbeats 4000000 in
set_option maxRecDepth 100000 in
theorem wM_findMore {l : Launch} {D : va_G} {cl : List vw_C} {a : Nat → Nat} {d : ClassId} (hcl : cl[5]? = some (RX5, TX5, 32)) (sz : Nat) (v1 : Int32) (v2 : Int32) (I : St) (Q : St → Prop) (h : M_findMore v1 v2 I Q) : MMv l D cl a d yX5_findMore cX5_findMore 4 rmX5_findMore [.ref (a 0), .int v1, .int v2] sz I Q := by
  refine m_enter (Qc := fun A => va_Qv Q (BM D cl a d A) A) hcl (by decide) rfl (Nat.le_of_ble_eq_true rfl) ?_
  intro p e s m below meth c ls A F hG hl
  have G := hG
  have hl : lv_has ls 4 [(0, .ref (a 0)), (1, .int v1), (2, .int v2)] := hl
  obtain ⟨hx, hb, hr, hml, hown, hts, hlocks, hA, hK, hcl⟩ := id F
  unfold M_findMore at h
  refine lv_iconst (v := 0) hx hb dX5_findMore_0 (by decide) ?_
  refine lv_istore_n (lv' := [(3, .int 0), (0, .ref (a 0)), (1, .int v1), (2, .int v2)]) hx hb dX5_findMore_1 rfl hl (by decide) rfl (fun ls hl => ?_)
  obtain ⟨k2, h⟩ := h
  exact wM_findMore_L2 F v1 v2  k2 0 I _ _ _ G (lv_sub hl [1, 2, 3, 0] rfl) h
set_option maxHeartbeats 4000000 in
set_option maxRecDepth 100000 in
theorem kM_findMore {p : Program} {l : Launch} {e : Env} {s : State} {m : MethodId} {R : Room} {args : Array Value} {below : List Frame} {meth : Method} {c : Code} {D : va_G} {cl : List vw_C} {a : Nat → Nat} {d : ClassId} {A : Nat → Prop} {Q : State → Prop} {cc : ByteArray} {nL pc : Nat} {ret : Option FieldType} {ls : Array Slot} {rest : List Value} {v1 : Int32} {v2 : Int32} {I : St} {H : Heap} {locs : List Loc} {Q1 : St → Prop} (F : FM p s m meth c args D cl d A cc nL ret) (G : GM D cl a d A s.heap I H locs) (hsz : ls.size = nL) (hR : rmX5_findMore.frames + 1 ≤ R.frames ∧ 8 + (4 + 11) + rmX5_findMore.locals ≤ R.locals) (hW : (rest.map fun v => v.category).sum ≤ 8) (hd : decode cc pc = .ok (.invokevirtual 171, 3)) (h : M_findMore v1 v2 I Q1) (k : ∀ (I1 : St) (H : Heap) (locs : List Loc), GM D cl a d A s.heap I1 H locs → Q1 I1 → W p l e R s m args below meth c H locs 0 0 Q (F0 m (pc + 3) ls rest)) : W p l e R s m args below meth c H locs 0 0 Q (F0 m pc ls (.int v2 :: .int v1 :: .ref (a 0) :: rest)) := by
  obtain ⟨hx, hb, hr, hml, hown, hts, hlocks, hA, hK, hcl⟩ := id F
  exact m_callVv (As := [.int v1, .int v2]) F G hsz (wM_findMore hcl H.size v1 v2 I Q1 h) (cwV 2 hts (lw_V q1472 q1474 qs60 q90 q1475) rfl rfl rfl (by decide +kernel) hR) rfl rfl hW hd k
/-! astray -/
def M_astray_p80 (Q : Int32 → St → Prop) (K24 : Int32 → Int32 → Int32 → St → Prop) (v1 : Int32) (v2 : Int32) (v4 : Int32) (t0 : Int32) (I : St) : Prop := K24 v2 t0 (v4 + 1) I
def M_astray_p67 (Q : Int32 → St → Prop) (K24 : Int32 → Int32 → Int32 → St → Prop) (v1 : Int32) (v3 : Int32) (v4 : Int32) (v5 : Int32) (t0 : Int32) (I : St) : Prop := (v5 ≤ v3 → M_astray_p80 Q K24 v1 t0 v4 v3 I) ∧ (¬ v5 ≤ v3 → M_astray_p80 Q K24 v1 t0 v4 v5 I)
def M_astray_L24 (Q : Int32 → St → Prop)  (v1 : Int32) : Nat → Int32 → Int32 → Int32 → St → Prop
  | 0, _, _, _, _ => False
  | n + 1, v2, v3, v4, I => ((I 1 0) ≤ v4 → (0 ≤ v2 → (¬ v1 = 0 → Q v3 I) ∧ (v1 = 0 → Q v2 I)) ∧ (¬ 0 ≤ v2 → Q (-1000000005) I)) ∧ (¬ (I 1 0) ≤ v4 → M_findMore v4 (-1) I (fun I_10 => M_manyFit  I_10 (fun r_11 I_12 => M_findMore v4 1 I_12 (fun I_14 => (r_11 ≤ v3 → M_astray_p67 Q (fun v2_ v3_ v4_ I_ => M_astray_L24 Q v1 n v2_ v3_ v4_ I_) v1 v3 v4 r_11 v2 I_14) ∧ (¬ r_11 ≤ v3 → M_astray_p67 Q (fun v2_ v3_ v4_ I_ => M_astray_L24 Q v1 n v2_ v3_ v4_ I_) v1 v3 v4 r_11 v4 I_14)))))
def M_astray (v1 : Int32) (I : St) (Q : Int32 → St → Prop) : Prop := M_isIn v1.toInt64 0 1 I (fun r_1 I_2 => (¬ r_1 = 0 → M_findAll  I_2 (fun I_5 => ∃ k24, M_astray_L24 Q v1 k24 (-1) (-1) 0 I_5)) ∧ (r_1 = 0 → Q (-1000000001) I_2))
abbrev rmX5_astray : Room := { frames := 6, cells := 0, slots := 0, locals := 140 }
set_option maxHeartbeats 4000000 in
set_option maxRecDepth 100000 in
theorem wM_astray_p80 {p : Program} {l : Launch} {e : Env} {s : State} {m : MethodId} {args : Array Value} {below : List Frame} {meth : Method} {c : Code} {D : va_G} {cl : List vw_C} {a : Nat → Nat} {d : ClassId} {A : Nat → Prop} {Q : Int32 → St → Prop} {K24 : Int32 → Int32 → Int32 → St → Prop} (F : FM p s m meth c args D cl d A cX5_astray 6 (some .int)) (v1 : Int32) (v2 : Int32) (v4 : Int32) (t0 : Int32) (I : St) (hK24 : ∀ (v2 : Int32) (v3 : Int32) (v4 : Int32) (I : St) (H : Heap) (locs : List Loc) (ls : Array Slot), GM D cl a d A s.heap I H locs → lv_has ls 6 [(0, .ref (a 0)), (1, .int v1), (2, .int v2), (3, .int v3), (4, .int v4)] → K24 v2 v3 v4 I → wMi p l e rmX5_astray s m args below meth c D cl a d A Q H locs (F0 m 24 ls [])) {H : Heap} {locs : List Loc} {ls : Array Slot} (G : GM D cl a d A s.heap I H locs) (hl : lv_has ls 6 [(0, .ref (a 0)), (1, .int v1), (2, .int v2), (4, .int v4)]) (h : M_astray_p80 Q K24 v1 v2 v4 t0 I) : wMi p l e rmX5_astray s m args below meth c D cl a d A Q H locs (F0 m 80 ls [.int t0]) := by
  obtain ⟨hx, hb, hr, hml, hown, hts, hlocks, hA, hK, hcl⟩ := id F
  unfold M_astray_p80 at h
  refine lv_istore_n (lv' := [(3, .int t0), (0, .ref (a 0)), (1, .int v1), (2, .int v2), (4, .int v4)]) hx hb dX5_astray_80 rfl hl (by decide) rfl (fun ls hl => ?_)
  refine lv_iinc (v := (v4 + 1)) (lv' := [(4, .int (v4 + 1)), (3, .int t0), (0, .ref (a 0)), (1, .int v1), (2, .int v2)]) hx hb dX5_astray_81 hl (k := 4) rfl rfl (by decide) rfl (fun ls hl => ?_)
  refine lv_goto (tgt := 24) hx hb dX5_astray_84 (by decide) ?_
  exact hK24 v2 t0 (v4 + 1) I _ _ _ G (lv_sub hl [2, 3, 4, 1, 0] rfl) h
set_option maxHeartbeats 4000000 in
set_option maxRecDepth 100000 in
theorem wM_astray_p67 {p : Program} {l : Launch} {e : Env} {s : State} {m : MethodId} {args : Array Value} {below : List Frame} {meth : Method} {c : Code} {D : va_G} {cl : List vw_C} {a : Nat → Nat} {d : ClassId} {A : Nat → Prop} {Q : Int32 → St → Prop} {K24 : Int32 → Int32 → Int32 → St → Prop} (F : FM p s m meth c args D cl d A cX5_astray 6 (some .int)) (v1 : Int32) (v3 : Int32) (v4 : Int32) (v5 : Int32) (t0 : Int32) (I : St) (hK24 : ∀ (v2 : Int32) (v3 : Int32) (v4 : Int32) (I : St) (H : Heap) (locs : List Loc) (ls : Array Slot), GM D cl a d A s.heap I H locs → lv_has ls 6 [(0, .ref (a 0)), (1, .int v1), (2, .int v2), (3, .int v3), (4, .int v4)] → K24 v2 v3 v4 I → wMi p l e rmX5_astray s m args below meth c D cl a d A Q H locs (F0 m 24 ls [])) {H : Heap} {locs : List Loc} {ls : Array Slot} (G : GM D cl a d A s.heap I H locs) (hl : lv_has ls 6 [(0, .ref (a 0)), (1, .int v1), (3, .int v3), (4, .int v4), (5, .int v5)]) (h : M_astray_p67 Q K24 v1 v3 v4 v5 t0 I) : wMi p l e rmX5_astray s m args below meth c D cl a d A Q H locs (F0 m 67 ls [.int t0]) := by
  obtain ⟨hx, hb, hr, hml, hown, hts, hlocks, hA, hK, hcl⟩ := id F
  unfold M_astray_p67 at h
  refine lv_istore_n (lv' := [(2, .int t0), (0, .ref (a 0)), (1, .int v1), (3, .int v3), (4, .int v4), (5, .int v5)]) hx hb dX5_astray_67 rfl hl (by decide) rfl (fun ls hl => ?_)
  refine lv_iload hx hb dX5_astray_68 (lv_at hl 5 rfl) ?_
  refine lv_iload_n hx hb dX5_astray_70 rfl (lv_at hl 3 rfl) ?_
  refine lv_icmp_le (tgt := 79) hx hb dX5_astray_71 (by decide) (fun c_16 => ?_) (fun c_16 => ?_)
  · replace h := h.1 c_16
    refine lv_iload_n hx hb dX5_astray_79 rfl (lv_at hl 3 rfl) ?_
    exact wM_astray_p80 F v1 t0 v4 v3 I hK24 G (lv_sub hl [1, 2, 0, 4] rfl) h
  · replace h := h.2 c_16
    refine lv_iload hx hb dX5_astray_74 (lv_at hl 5 rfl) ?_
    refine lv_goto (tgt := 80) hx hb dX5_astray_76 (by decide) ?_
    exact wM_astray_p80 F v1 t0 v4 v5 I hK24 G (lv_sub hl [1, 2, 0, 4] rfl) h
set_option maxHeartbeats 4000000 in
set_option maxRecDepth 100000 in
theorem wM_astray_L24 {p : Program} {l : Launch} {e : Env} {s : State} {m : MethodId} {args : Array Value} {below : List Frame} {meth : Method} {c : Code} {D : va_G} {cl : List vw_C} {a : Nat → Nat} {d : ClassId} {A : Nat → Prop} {Q : Int32 → St → Prop}  (F : FM p s m meth c args D cl d A cX5_astray 6 (some .int)) (v1 : Int32)  :
    ∀ (n : Nat) (v2 : Int32) (v3 : Int32) (v4 : Int32) (I : St) (H : Heap) (locs : List Loc) (ls : Array Slot), GM D cl a d A s.heap I H locs → lv_has ls 6 [(0, .ref (a 0)), (1, .int v1), (2, .int v2), (3, .int v3), (4, .int v4)] → M_astray_L24 Q v1 n v2 v3 v4 I → wMi p l e rmX5_astray s m args below meth c D cl a d A Q H locs (F0 m 24 ls []) := by
  obtain ⟨hx, hb, hr, hml, hown, hts, hlocks, hA, hK, hcl⟩ := id F
  intro n
  induction n with
  | zero => intro v2 v3 v4 I H locs ls G hl h; exact absurd h (fun q => q)
  | succ n ih =>
    intro v2 v3 v4 I H locs ls G hl h
    unfold M_astray_L24 at h
    refine lv_iload hx hb dX5_astray_24 (lv_at hl 4 rfl) ?_
    refine lv_aload_n hx hb dX5_astray_26 rfl (lv_at hl 0 rfl) ?_
    refine mg_s F G dX5_astray_27 ?_
    refine lv_iconst (v := 0) hx hb dX5_astray_30 (by decide) ?_
    refine m_ld F G mA_1 (by unfold vp_in; decide) dX5_astray_31 ?_
    refine lv_icmp_ge (tgt := 87) hx hb dX5_astray_32 (by decide) (fun c_6 => ?_) (fun c_6 => ?_)
    · replace h := h.1 c_6
      refine lv_iload_n hx hb dX5_astray_87 rfl (lv_at hl 2 rfl) ?_
      refine lv_if_ge (tgt := 96) hx hb dX5_astray_88 (by decide) (fun c_7 => ?_) (fun c_7 => ?_)
      · replace h := h.1 c_7
        refine lv_iload_n hx hb dX5_astray_96 rfl (lv_at hl 1 rfl) ?_
        refine lv_if_ne (tgt := 104) hx hb dX5_astray_97 (by decide) (fun c_8 => ?_) (fun c_8 => ?_)
        · replace h := h.1 c_8
          refine lv_iload_n hx hb dX5_astray_104 rfl (lv_at hl 3 rfl) ?_
          exact m_iret F G dX5_astray_105 h
        · replace h := h.2 c_8
          refine lv_iload_n hx hb dX5_astray_100 rfl (lv_at hl 2 rfl) ?_
          refine lv_goto (tgt := 105) hx hb dX5_astray_101 (by decide) ?_
          exact m_iret F G dX5_astray_105 h
      · replace h := h.2 c_7
        refine lv_ldc hx hb hown (hts _ q1431) dX5_astray_91 ?_
        refine lv_goto (tgt := 105) hx hb dX5_astray_93 (by decide) ?_
        exact m_iret F G dX5_astray_105 h
    · replace h := h.2 c_6
      refine lv_aload_n hx hb dX5_astray_35 rfl (lv_at hl 0 rfl) ?_
      refine lv_iload hx hb dX5_astray_36 (lv_at hl 4 rfl) ?_
      refine lv_iconst (v := (-1)) hx hb dX5_astray_38 (by decide) ?_
      refine kM_findMore F G hl.1 ⟨Nat.le_of_ble_eq_true rfl, Nat.le_of_ble_eq_true rfl⟩ (Nat.le_of_ble_eq_true rfl) dX5_astray_39 h (fun I_10 H locs G h => ?_)
      refine lv_aload_n hx hb dX5_astray_42 rfl (lv_at hl 0 rfl) ?_
      refine kM_manyFit F G hl.1 ⟨Nat.le_of_ble_eq_true rfl, Nat.le_of_ble_eq_true rfl⟩ (Nat.le_of_ble_eq_true rfl) dX5_astray_43 h (fun r_11 I_12 H locs G h => ?_)
      refine lv_istore (lv' := [(5, .int r_11), (0, .ref (a 0)), (1, .int v1), (2, .int v2), (3, .int v3), (4, .int v4)]) hx hb dX5_astray_46 hl (by decide) rfl (fun ls hl => ?_)
      refine lv_aload_n hx hb dX5_astray_48 rfl (lv_at hl 1 rfl) ?_
      refine lv_iload hx hb dX5_astray_49 (lv_at hl 5 rfl) ?_
      refine lv_iconst (v := 1) hx hb dX5_astray_51 (by decide) ?_
      refine kM_findMore F G hl.1 ⟨Nat.le_of_ble_eq_true rfl, Nat.le_of_ble_eq_true rfl⟩ (Nat.le_of_ble_eq_true rfl) dX5_astray_52 h (fun I_14 H locs G h => ?_)
      refine lv_iload hx hb dX5_astray_55 (lv_at hl 0 rfl) ?_
      refine lv_iload_n hx hb dX5_astray_57 rfl (lv_at hl 4 rfl) ?_
      refine lv_icmp_le (tgt := 66) hx hb dX5_astray_58 (by decide) (fun c_15 => ?_) (fun c_15 => ?_)
      · replace h := h.1 c_15
        refine lv_iload_n hx hb dX5_astray_66 rfl (lv_at hl 3 rfl) ?_
        exact wM_astray_p67 F v1 v3 v4 r_11 v2 I_14 ih G (lv_sub hl [1, 2, 4, 5, 0] rfl) h
      · replace h := h.2 c_15
        refine lv_iload hx hb dX5_astray_61 (lv_at hl 5 rfl) ?_
        refine lv_goto (tgt := 67) hx hb dX5_astray_63 (by decide) ?_
        exact wM_astray_p67 F v1 v3 v4 r_11 v4 I_14 ih G (lv_sub hl [1, 2, 4, 5, 0] rfl) h
set_option maxHeartbeats 4000000 in
set_option maxRecDepth 100000 in
theorem wM_astray {l : Launch} {D : va_G} {cl : List vw_C} {a : Nat → Nat} {d : ClassId} (hcl : cl[5]? = some (RX5, TX5, 32)) (sz : Nat) (v1 : Int32) (I : St) (Q : Int32 → St → Prop) (h : M_astray v1 I Q) : MMi l D cl a d yX5_astray cX5_astray 6 .int rmX5_astray [.ref (a 0), .int v1] sz I Q := by
  refine m_enter (Qc := fun A => va_Qi Q (BM D cl a d A) A) hcl (by decide) rfl (Nat.le_of_ble_eq_true rfl) ?_
  intro p e s m below meth c ls A F hG hl
  have G := hG
  have hl : lv_has ls 6 [(0, .ref (a 0)), (1, .int v1)] := hl
  obtain ⟨hx, hb, hr, hml, hown, hts, hlocks, hA, hK, hcl⟩ := id F
  unfold M_astray at h
  refine lv_iload_n hx hb dX5_astray_0 rfl (lv_at hl 1 rfl) ?_
  refine lv_i2l (v := v1.toInt64) hx hb dX5_astray_1 rfl ?_
  refine lv_lconst (v := 0) hx hb dX5_astray_2 (by decide) ?_
  refine lv_lconst (v := 1) hx hb dX5_astray_3 (by decide) ?_
  refine kM_isIn F G hl.1 ⟨Nat.le_of_ble_eq_true rfl, Nat.le_of_ble_eq_true rfl⟩ (Nat.le_of_ble_eq_true rfl) dX5_astray_4 h (fun r_1 I_2 H locs G h => ?_)
  refine lv_if_ne (tgt := 13) hx hb dX5_astray_7 (by decide) (fun c_3 => ?_) (fun c_3 => ?_)
  · replace h := h.1 c_3
    refine lv_aload_n hx hb dX5_astray_13 rfl (lv_at hl 0 rfl) ?_
    refine kM_findAll F G hl.1 ⟨Nat.le_of_ble_eq_true rfl, Nat.le_of_ble_eq_true rfl⟩ (Nat.le_of_ble_eq_true rfl) dX5_astray_14 h (fun I_5 H locs G h => ?_)
    refine lv_iconst (v := (-1)) hx hb dX5_astray_17 (by decide) ?_
    refine lv_istore_n (lv' := [(2, .int (-1)), (0, .ref (a 0)), (1, .int v1)]) hx hb dX5_astray_18 rfl hl (by decide) rfl (fun ls hl => ?_)
    refine lv_iconst (v := (-1)) hx hb dX5_astray_19 (by decide) ?_
    refine lv_istore_n (lv' := [(3, .int (-1)), (2, .int (-1)), (0, .ref (a 0)), (1, .int v1)]) hx hb dX5_astray_20 rfl hl (by decide) rfl (fun ls hl => ?_)
    refine lv_iconst (v := 0) hx hb dX5_astray_21 (by decide) ?_
    refine lv_istore (lv' := [(4, .int 0), (3, .int (-1)), (2, .int (-1)), (0, .ref (a 0)), (1, .int v1)]) hx hb dX5_astray_22 hl (by decide) rfl (fun ls hl => ?_)
    obtain ⟨k24, h⟩ := h
    exact wM_astray_L24 F v1  k24 (-1) (-1) 0 I_5 _ _ _ G (lv_sub hl [3, 4, 2, 1, 0] rfl) h
  · replace h := h.2 c_3
    refine lv_ldc hx hb hown (hts _ q1296) dX5_astray_10 ?_
    exact m_iret F G dX5_astray_12 h

/-! right -/
def M_right_p105 (Q : Int32 → St → Prop) (K47 : Int32 → Int32 → Int32 → St → Prop) (v1 : Int32) (v2 : Int32) (v3 : Int32) (v4 : Int32) (v5 : Int32) (v6 : Int32) (I : St) : Prop := K47 v4 v5 (v6 + 1) I
def M_right_p97 (Q : Int32 → St → Prop) (K47 : Int32 → Int32 → Int32 → St → Prop) (v1 : Int32) (v2 : Int32) (v3 : Int32) (v6 : Int32) (v7 : Int32) (I : St) : Prop := M_right_p105 Q K47 v1 v2 v3 v6 v7 v6 I
def M_right_L47 (Q : Int32 → St → Prop)  (v1 : Int32) (v2 : Int32) (v3 : Int32) : Nat → Int32 → Int32 → Int32 → St → Prop
  | 0, _, _, _, _ => False
  | n + 1, v4, v5, v6, I => (59 < v6 → M_sets v1 1 v3 I (fun I_15 => (0 ≤ v4 → (¬ v2 = 0 → Q v5 I_15) ∧ (v2 = 0 → Q v4 I_15)) ∧ (¬ 0 ≤ v4 → Q (-1000000005) I_15))) ∧ (¬ 59 < v6 → M_sets v1 1 v6 I (fun I_19 => M_findMore v1 1 I_19 (fun I_21 => M_manyFit  I_21 (fun r_22 I_23 => M_findMore v1 (-1) I_23 (fun I_25 => (r_22 ≤ 0 → M_right_p105 Q (fun v4_ v5_ v6_ I_ => M_right_L47 Q v1 v2 v3 n v4_ v5_ v6_ I_) v1 v2 v3 v4 v5 v6 I_25) ∧ (¬ r_22 ≤ 0 → (v4 < 0 → M_right_p97 Q (fun v4_ v5_ v6_ I_ => M_right_L47 Q v1 v2 v3 n v4_ v5_ v6_ I_) v1 v2 v3 v6 r_22 I_25) ∧ (¬ v4 < 0 → (v5 ≤ r_22 → M_right_p105 Q (fun v4_ v5_ v6_ I_ => M_right_L47 Q v1 v2 v3 n v4_ v5_ v6_ I_) v1 v2 v3 v4 v5 v6 I_25) ∧ (¬ v5 ≤ r_22 → M_right_p97 Q (fun v4_ v5_ v6_ I_ => M_right_L47 Q v1 v2 v3 n v4_ v5_ v6_ I_) v1 v2 v3 v6 r_22 I_25))))))))
def M_right (v1 : Int32) (v2 : Int32) (I : St) (Q : Int32 → St → Prop) : Prop := M_isClock v1 I (fun r_1 I_2 => (r_1 = 0 → Q (-1000000001) I_2) ∧ (¬ r_1 = 0 → M_isIn v2.toInt64 0 1 I_2 (fun r_4 I_5 => (¬ r_4 = 0 → M_findAll  I_5 (fun I_8 => M_of v1 1 I_8 (fun r_9 I_10 => M_findMore v1 (-1) I_10 (fun I_12 => ∃ k47, M_right_L47 Q v1 v2 r_9 k47 (-1) 0 0 I_12)))) ∧ (r_4 = 0 → Q (-1000000001) I_5))))
abbrev rmX5_right : Room := { frames := 6, cells := 0, slots := 0, locals := 140 }
set_option maxHeartbeats 4000000 in
set_option maxRecDepth 100000 in
theorem wM_right_p105 {p : Program} {l : Launch} {e : Env} {s : State} {m : MethodId} {args : Array Value} {below : List Frame} {meth : Method} {c : Code} {D : va_G} {cl : List vw_C} {a : Nat → Nat} {d : ClassId} {A : Nat → Prop} {Q : Int32 → St → Prop} {K47 : Int32 → Int32 → Int32 → St → Prop} (F : FM p s m meth c args D cl d A cX5_right 8 (some .int)) (v1 : Int32) (v2 : Int32) (v3 : Int32) (v4 : Int32) (v5 : Int32) (v6 : Int32) (I : St) (hK47 : ∀ (v4 : Int32) (v5 : Int32) (v6 : Int32) (I : St) (H : Heap) (locs : List Loc) (ls : Array Slot), GM D cl a d A s.heap I H locs → lv_has ls 8 [(0, .ref (a 0)), (1, .int v1), (2, .int v2), (3, .int v3), (4, .int v4), (5, .int v5), (6, .int v6)] → K47 v4 v5 v6 I → wMi p l e rmX5_right s m args below meth c D cl a d A Q H locs (F0 m 47 ls [])) {H : Heap} {locs : List Loc} {ls : Array Slot} (G : GM D cl a d A s.heap I H locs) (hl : lv_has ls 8 [(0, .ref (a 0)), (1, .int v1), (2, .int v2), (3, .int v3), (4, .int v4), (5, .int v5), (6, .int v6)]) (h : M_right_p105 Q K47 v1 v2 v3 v4 v5 v6 I) : wMi p l e rmX5_right s m args below meth c D cl a d A Q H locs (F0 m 105 ls []) := by
  obtain ⟨hx, hb, hr, hml, hown, hts, hlocks, hA, hK, hcl⟩ := id F
  unfold M_right_p105 at h
  refine lv_iinc (v := (v6 + 1)) (lv' := [(6, .int (v6 + 1)), (0, .ref (a 0)), (1, .int v1), (2, .int v2), (3, .int v3), (4, .int v4), (5, .int v5)]) hx hb dX5_right_105 hl (k := 6) rfl rfl (by decide) rfl (fun ls hl => ?_)
  refine lv_goto (tgt := 47) hx hb dX5_right_108 (by decide) ?_
  exact hK47 v4 v5 (v6 + 1) I _ _ _ G (lv_sub hl [1, 2, 3, 4, 5, 6, 0] rfl) h
set_option maxHeartbeats 4000000 in
set_option maxRecDepth 100000 in
theorem wM_right_p97 {p : Program} {l : Launch} {e : Env} {s : State} {m : MethodId} {args : Array Value} {below : List Frame} {meth : Method} {c : Code} {D : va_G} {cl : List vw_C} {a : Nat → Nat} {d : ClassId} {A : Nat → Prop} {Q : Int32 → St → Prop} {K47 : Int32 → Int32 → Int32 → St → Prop} (F : FM p s m meth c args D cl d A cX5_right 8 (some .int)) (v1 : Int32) (v2 : Int32) (v3 : Int32) (v6 : Int32) (v7 : Int32) (I : St) (hK47 : ∀ (v4 : Int32) (v5 : Int32) (v6 : Int32) (I : St) (H : Heap) (locs : List Loc) (ls : Array Slot), GM D cl a d A s.heap I H locs → lv_has ls 8 [(0, .ref (a 0)), (1, .int v1), (2, .int v2), (3, .int v3), (4, .int v4), (5, .int v5), (6, .int v6)] → K47 v4 v5 v6 I → wMi p l e rmX5_right s m args below meth c D cl a d A Q H locs (F0 m 47 ls [])) {H : Heap} {locs : List Loc} {ls : Array Slot} (G : GM D cl a d A s.heap I H locs) (hl : lv_has ls 8 [(0, .ref (a 0)), (1, .int v1), (2, .int v2), (3, .int v3), (6, .int v6), (7, .int v7)]) (h : M_right_p97 Q K47 v1 v2 v3 v6 v7 I) : wMi p l e rmX5_right s m args below meth c D cl a d A Q H locs (F0 m 97 ls []) := by
  obtain ⟨hx, hb, hr, hml, hown, hts, hlocks, hA, hK, hcl⟩ := id F
  unfold M_right_p97 at h
  refine lv_iload hx hb dX5_right_97 (lv_at hl 4 rfl) ?_
  refine lv_istore (lv' := [(4, .int v6), (0, .ref (a 0)), (1, .int v1), (2, .int v2), (3, .int v3), (6, .int v6), (7, .int v7)]) hx hb dX5_right_99 hl (by decide) rfl (fun ls hl => ?_)
  refine lv_iload hx hb dX5_right_101 (lv_at hl 6 rfl) ?_
  refine lv_istore (lv' := [(5, .int v7), (4, .int v6), (0, .ref (a 0)), (1, .int v1), (2, .int v2), (3, .int v3), (6, .int v6), (7, .int v7)]) hx hb dX5_right_103 hl (by decide) rfl (fun ls hl => ?_)
  exact wM_right_p105 F v1 v2 v3 v6 v7 v6 I hK47 G (lv_sub hl [2, 3, 4, 5, 1, 0, 6] rfl) h
set_option maxHeartbeats 4000000 in
set_option maxRecDepth 100000 in
theorem wM_right_L47 {p : Program} {l : Launch} {e : Env} {s : State} {m : MethodId} {args : Array Value} {below : List Frame} {meth : Method} {c : Code} {D : va_G} {cl : List vw_C} {a : Nat → Nat} {d : ClassId} {A : Nat → Prop} {Q : Int32 → St → Prop}  (F : FM p s m meth c args D cl d A cX5_right 8 (some .int)) (v1 : Int32) (v2 : Int32) (v3 : Int32)  :
    ∀ (n : Nat) (v4 : Int32) (v5 : Int32) (v6 : Int32) (I : St) (H : Heap) (locs : List Loc) (ls : Array Slot), GM D cl a d A s.heap I H locs → lv_has ls 8 [(0, .ref (a 0)), (1, .int v1), (2, .int v2), (3, .int v3), (4, .int v4), (5, .int v5), (6, .int v6)] → M_right_L47 Q v1 v2 v3 n v4 v5 v6 I → wMi p l e rmX5_right s m args below meth c D cl a d A Q H locs (F0 m 47 ls []) := by
  obtain ⟨hx, hb, hr, hml, hown, hts, hlocks, hA, hK, hcl⟩ := id F
  intro n
  induction n with
  | zero => intro v4 v5 v6 I H locs ls G hl h; exact absurd h (fun q => q)
  | succ n ih =>
    intro v4 v5 v6 I H locs ls G hl h
    unfold M_right_L47 at h
    refine lv_iload hx hb dX5_right_47 (lv_at hl 6 rfl) ?_
    refine lv_bipush (v := 59) hx hb dX5_right_49 (by decide) ?_
    refine lv_icmp_gt (tgt := 111) hx hb dX5_right_51 (by decide) (fun c_13 => ?_) (fun c_13 => ?_)
    · replace h := h.1 c_13
      refine lv_aload_n hx hb dX5_right_111 rfl (lv_at hl 0 rfl) ?_
      refine lv_iload_n hx hb dX5_right_112 rfl (lv_at hl 1 rfl) ?_
      refine lv_iconst (v := 1) hx hb dX5_right_113 (by decide) ?_
      refine lv_iload_n hx hb dX5_right_114 rfl (lv_at hl 3 rfl) ?_
      refine kM_sets F G hl.1 ⟨Nat.le_of_ble_eq_true rfl, Nat.le_of_ble_eq_true rfl⟩ (Nat.le_of_ble_eq_true rfl) dX5_right_115 h (fun I_15 H locs G h => ?_)
      refine lv_iload hx hb dX5_right_118 (lv_at hl 4 rfl) ?_
      refine lv_if_ge (tgt := 128) hx hb dX5_right_120 (by decide) (fun c_16 => ?_) (fun c_16 => ?_)
      · replace h := h.1 c_16
        refine lv_iload_n hx hb dX5_right_128 rfl (lv_at hl 2 rfl) ?_
        refine lv_if_ne (tgt := 137) hx hb dX5_right_129 (by decide) (fun c_17 => ?_) (fun c_17 => ?_)
        · replace h := h.1 c_17
          refine lv_iload hx hb dX5_right_137 (lv_at hl 5 rfl) ?_
          exact m_iret F G dX5_right_139 h
        · replace h := h.2 c_17
          refine lv_iload hx hb dX5_right_132 (lv_at hl 4 rfl) ?_
          refine lv_goto (tgt := 139) hx hb dX5_right_134 (by decide) ?_
          exact m_iret F G dX5_right_139 h
      · replace h := h.2 c_16
        refine lv_ldc hx hb hown (hts _ q1431) dX5_right_123 ?_
        refine lv_goto (tgt := 139) hx hb dX5_right_125 (by decide) ?_
        exact m_iret F G dX5_right_139 h
    · replace h := h.2 c_13
      refine lv_aload_n hx hb dX5_right_54 rfl (lv_at hl 0 rfl) ?_
      refine lv_iload_n hx hb dX5_right_55 rfl (lv_at hl 1 rfl) ?_
      refine lv_iconst (v := 1) hx hb dX5_right_56 (by decide) ?_
      refine lv_iload hx hb dX5_right_57 (lv_at hl 6 rfl) ?_
      refine kM_sets F G hl.1 ⟨Nat.le_of_ble_eq_true rfl, Nat.le_of_ble_eq_true rfl⟩ (Nat.le_of_ble_eq_true rfl) dX5_right_59 h (fun I_19 H locs G h => ?_)
      refine lv_aload_n hx hb dX5_right_62 rfl (lv_at hl 0 rfl) ?_
      refine lv_iload_n hx hb dX5_right_63 rfl (lv_at hl 1 rfl) ?_
      refine lv_iconst (v := 1) hx hb dX5_right_64 (by decide) ?_
      refine kM_findMore F G hl.1 ⟨Nat.le_of_ble_eq_true rfl, Nat.le_of_ble_eq_true rfl⟩ (Nat.le_of_ble_eq_true rfl) dX5_right_65 h (fun I_21 H locs G h => ?_)
      refine lv_aload_n hx hb dX5_right_68 rfl (lv_at hl 0 rfl) ?_
      refine kM_manyFit F G hl.1 ⟨Nat.le_of_ble_eq_true rfl, Nat.le_of_ble_eq_true rfl⟩ (Nat.le_of_ble_eq_true rfl) dX5_right_69 h (fun r_22 I_23 H locs G h => ?_)
      refine lv_istore (lv' := [(7, .int r_22), (0, .ref (a 0)), (1, .int v1), (2, .int v2), (3, .int v3), (4, .int v4), (5, .int v5), (6, .int v6)]) hx hb dX5_right_72 hl (by decide) rfl (fun ls hl => ?_)
      refine lv_aload_n hx hb dX5_right_74 rfl (lv_at hl 1 rfl) ?_
      refine lv_iload_n hx hb dX5_right_75 rfl (lv_at hl 2 rfl) ?_
      refine lv_iconst (v := (-1)) hx hb dX5_right_76 (by decide) ?_
      refine kM_findMore F G hl.1 ⟨Nat.le_of_ble_eq_true rfl, Nat.le_of_ble_eq_true rfl⟩ (Nat.le_of_ble_eq_true rfl) dX5_right_77 h (fun I_25 H locs G h => ?_)
      refine lv_iload hx hb dX5_right_80 (lv_at hl 0 rfl) ?_
      refine lv_if_le (tgt := 105) hx hb dX5_right_82 (by decide) (fun c_26 => ?_) (fun c_26 => ?_)
      · replace h := h.1 c_26
        exact wM_right_p105 F v1 v2 v3 v4 v5 v6 I_25 ih G (lv_sub hl [1, 2, 3, 4, 5, 6, 7] rfl) h
      · replace h := h.2 c_26
        refine lv_iload hx hb dX5_right_85 (lv_at hl 5 rfl) ?_
        refine lv_if_lt (tgt := 97) hx hb dX5_right_87 (by decide) (fun c_27 => ?_) (fun c_27 => ?_)
        · replace h := h.1 c_27
          exact wM_right_p97 F v1 v2 v3 v6 r_22 I_25 ih G (lv_sub hl [1, 2, 3, 4, 7, 0] rfl) h
        · replace h := h.2 c_27
          refine lv_iload hx hb dX5_right_90 (lv_at hl 0 rfl) ?_
          refine lv_iload hx hb dX5_right_92 (lv_at hl 6 rfl) ?_
          refine lv_icmp_ge (tgt := 105) hx hb dX5_right_94 (by decide) (fun c_28 => ?_) (fun c_28 => ?_)
          · replace h := h.1 c_28
            exact wM_right_p105 F v1 v2 v3 v4 v5 v6 I_25 ih G (lv_sub hl [1, 2, 3, 4, 5, 6, 7] rfl) h
          · replace h := h.2 c_28
            exact wM_right_p97 F v1 v2 v3 v6 r_22 I_25 ih G (lv_sub hl [1, 2, 3, 4, 7, 0] rfl) h
set_option maxHeartbeats 4000000 in
set_option maxRecDepth 100000 in
theorem wM_right {l : Launch} {D : va_G} {cl : List vw_C} {a : Nat → Nat} {d : ClassId} (hcl : cl[5]? = some (RX5, TX5, 32)) (sz : Nat) (v1 : Int32) (v2 : Int32) (I : St) (Q : Int32 → St → Prop) (h : M_right v1 v2 I Q) : MMi l D cl a d yX5_right cX5_right 8 .int rmX5_right [.ref (a 0), .int v1, .int v2] sz I Q := by
  refine m_enter (Qc := fun A => va_Qi Q (BM D cl a d A) A) hcl (by decide) rfl (Nat.le_of_ble_eq_true rfl) ?_
  intro p e s m below meth c ls A F hG hl
  have G := hG
  have hl : lv_has ls 8 [(0, .ref (a 0)), (1, .int v1), (2, .int v2)] := hl
  obtain ⟨hx, hb, hr, hml, hown, hts, hlocks, hA, hK, hcl⟩ := id F
  unfold M_right at h
  refine lv_aload_n hx hb dX5_right_0 rfl (lv_at hl 0 rfl) ?_
  refine lv_iload_n hx hb dX5_right_1 rfl (lv_at hl 1 rfl) ?_
  refine kM_isClock F G hl.1 ⟨Nat.le_of_ble_eq_true rfl, Nat.le_of_ble_eq_true rfl⟩ (Nat.le_of_ble_eq_true rfl) dX5_right_2 h (fun r_1 I_2 H locs G h => ?_)
  refine lv_if_eq (tgt := 18) hx hb dX5_right_5 (by decide) (fun c_3 => ?_) (fun c_3 => ?_)
  · replace h := h.1 c_3
    refine lv_ldc hx hb hown (hts _ q1296) dX5_right_18 ?_
    exact m_iret F G dX5_right_20 h
  · replace h := h.2 c_3
    refine lv_iload_n hx hb dX5_right_8 rfl (lv_at hl 2 rfl) ?_
    refine lv_i2l (v := v2.toInt64) hx hb dX5_right_9 rfl ?_
    refine lv_lconst (v := 0) hx hb dX5_right_10 (by decide) ?_
    refine lv_lconst (v := 1) hx hb dX5_right_11 (by decide) ?_
    refine kM_isIn F G hl.1 ⟨Nat.le_of_ble_eq_true rfl, Nat.le_of_ble_eq_true rfl⟩ (Nat.le_of_ble_eq_true rfl) dX5_right_12 h (fun r_4 I_5 H locs G h => ?_)
    refine lv_if_ne (tgt := 21) hx hb dX5_right_15 (by decide) (fun c_6 => ?_) (fun c_6 => ?_)
    · replace h := h.1 c_6
      refine lv_aload_n hx hb dX5_right_21 rfl (lv_at hl 0 rfl) ?_
      refine kM_findAll F G hl.1 ⟨Nat.le_of_ble_eq_true rfl, Nat.le_of_ble_eq_true rfl⟩ (Nat.le_of_ble_eq_true rfl) dX5_right_22 h (fun I_8 H locs G h => ?_)
      refine lv_aload_n hx hb dX5_right_25 rfl (lv_at hl 0 rfl) ?_
      refine lv_iload_n hx hb dX5_right_26 rfl (lv_at hl 1 rfl) ?_
      refine lv_iconst (v := 1) hx hb dX5_right_27 (by decide) ?_
      refine kM_of F G hl.1 ⟨Nat.le_of_ble_eq_true rfl, Nat.le_of_ble_eq_true rfl⟩ (Nat.le_of_ble_eq_true rfl) dX5_right_28 h (fun r_9 I_10 H locs G h => ?_)
      refine lv_istore_n (lv' := [(3, .int r_9), (0, .ref (a 0)), (1, .int v1), (2, .int v2)]) hx hb dX5_right_31 rfl hl (by decide) rfl (fun ls hl => ?_)
      refine lv_aload_n hx hb dX5_right_32 rfl (lv_at hl 1 rfl) ?_
      refine lv_iload_n hx hb dX5_right_33 rfl (lv_at hl 2 rfl) ?_
      refine lv_iconst (v := (-1)) hx hb dX5_right_34 (by decide) ?_
      refine kM_findMore F G hl.1 ⟨Nat.le_of_ble_eq_true rfl, Nat.le_of_ble_eq_true rfl⟩ (Nat.le_of_ble_eq_true rfl) dX5_right_35 h (fun I_12 H locs G h => ?_)
      refine lv_iconst (v := (-1)) hx hb dX5_right_38 (by decide) ?_
      refine lv_istore (lv' := [(4, .int (-1)), (3, .int r_9), (0, .ref (a 0)), (1, .int v1), (2, .int v2)]) hx hb dX5_right_39 hl (by decide) rfl (fun ls hl => ?_)
      refine lv_iconst (v := 0) hx hb dX5_right_41 (by decide) ?_
      refine lv_istore (lv' := [(5, .int 0), (4, .int (-1)), (3, .int r_9), (0, .ref (a 0)), (1, .int v1), (2, .int v2)]) hx hb dX5_right_42 hl (by decide) rfl (fun ls hl => ?_)
      refine lv_iconst (v := 0) hx hb dX5_right_44 (by decide) ?_
      refine lv_istore (lv' := [(6, .int 0), (5, .int 0), (4, .int (-1)), (3, .int r_9), (0, .ref (a 0)), (1, .int v1), (2, .int v2)]) hx hb dX5_right_45 hl (by decide) rfl (fun ls hl => ?_)
      obtain ⟨k47, h⟩ := h
      exact wM_right_L47 F v1 v2 r_9  k47 (-1) 0 0 I_12 _ _ _ G (lv_sub hl [4, 5, 6, 3, 2, 1, 0] rfl) h
    · replace h := h.2 c_6
      refine lv_ldc hx hb hown (hts _ q1296) dX5_right_18 ?_
      exact m_iret F G dX5_right_20 h

/-! telling -/
def M_telling_p116 (Q : Int32 → St → Prop) (K8 : Int32 → Int32 → St → Prop) (K22 : Int32 → Int32 → Int32 → St → Prop) (v2 : Int32) (v3 : Int32) (v4 : Int32) (t0 : Int32) (I : St) : Prop := K22 t0 v3 (v4 + 1) I
def M_telling_p104 (Q : Int32 → St → Prop) (K8 : Int32 → Int32 → St → Prop) (K22 : Int32 → Int32 → Int32 → St → Prop) (v1 : Int32) (v2 : Int32) (v3 : Int32) (v4 : Int32) (t0 : Int32) (I : St) : Prop := (t0 = 0 → M_telling_p116 Q K8 K22 v2 v3 v4 v1 I) ∧ (¬ t0 = 0 → M_telling_p116 Q K8 K22 v2 v3 v4 v3 I)
def M_telling_p103 (Q : Int32 → St → Prop) (K8 : Int32 → Int32 → St → Prop) (K22 : Int32 → Int32 → Int32 → St → Prop) (v1 : Int32) (v2 : Int32) (v3 : Int32) (v4 : Int32) (I : St) : Prop := M_telling_p104 Q K8 K22 v1 v2 v3 v4 0 I
def M_telling_p72 (Q : Int32 → St → Prop) (K8 : Int32 → Int32 → St → Prop) (K22 : Int32 → Int32 → Int32 → St → Prop) (v1 : Int32) (v2 : Int32) (v4 : Int32) (v5 : Int32) (v6 : Int32) (t0 : Int32) (I : St) : Prop := (v4 < 720 → M_telling_p103 Q K8 K22 v1 v2 t0 v4 I) ∧ (¬ v4 < 720 → ((v5 / 60) = (v6 / 60) → M_telling_p103 Q K8 K22 v1 v2 t0 v4 I) ∧ (¬ (v5 / 60) = (v6 / 60) → (t0 ≤ v1 → M_telling_p103 Q K8 K22 v1 v2 t0 v4 I) ∧ (¬ t0 ≤ v1 → M_telling_p104 Q K8 K22 v1 v2 t0 v4 1 I)))
def M_telling_L22 (Q : Int32 → St → Prop) (K8 : Int32 → Int32 → St → Prop) (v2 : Int32) : Nat → Int32 → Int32 → Int32 → St → Prop
  | 0, _, _, _, _ => False
  | n + 1, v1, v3, v4, I => (1440 ≤ v4 → K8 v1 (v2 + 1) I) ∧ (¬ 1440 ≤ v4 → ∀ x_6 : Int32, x_6 = (v4 - v4 / 720 * 720) → ∀ x_7 : Int32, x_7 = ((v4 - v2) - (v4 - v2) / 720 * 720) → vp_in x_6 720 ∧ (vp_in x_7 720 ∧ ((¬ (I 12 (x_6.toNatClampNeg)) = (I 12 (x_7.toNatClampNeg)) → M_telling_p72 Q K8 (fun v1_ v3_ v4_ I_ => M_telling_L22 Q K8 v2 n v1_ v3_ v4_ I_) v1 v2 v4 x_6 x_7 0 I) ∧ ((I 12 (x_6.toNatClampNeg)) = (I 12 (x_7.toNatClampNeg)) → M_telling_p72 Q K8 (fun v1_ v3_ v4_ I_ => M_telling_L22 Q K8 v2 n v1_ v3_ v4_ I_) v1 v2 v4 x_6 x_7 (v3 + 1) I))))
def M_telling_L8 (Q : Int32 → St → Prop)   : Nat → Int32 → Int32 → St → Prop
  | 0, _, _, _ => False
  | n + 1, v1, v2, I => (360 < v2 → (60 ≤ v1 → Q (-1000000005) I) ∧ (¬ 60 ≤ v1 → Q (v1 + 1) I)) ∧ (¬ 360 < v2 → ∃ k22, M_telling_L22 Q (fun v1_ v2_ I_ => M_telling_L8 Q n v1_ v2_ I_) v2 k22 v1 0 660 I)
def M_telling  (I : St) (Q : Int32 → St → Prop) : Prop := M_findAll  I (fun I_2 => ∃ k8, M_telling_L8 Q k8 0 1 I_2)
abbrev rmX5_telling : Room := { frames := 6, cells := 0, slots := 0, locals := 140 }
set_option maxHeartbeats 4000000 in
set_option maxRecDepth 100000 in
theorem wM_telling_p116 {p : Program} {l : Launch} {e : Env} {s : State} {m : MethodId} {args : Array Value} {below : List Frame} {meth : Method} {c : Code} {D : va_G} {cl : List vw_C} {a : Nat → Nat} {d : ClassId} {A : Nat → Prop} {Q : Int32 → St → Prop} {K8 : Int32 → Int32 → St → Prop} {K22 : Int32 → Int32 → Int32 → St → Prop} (F : FM p s m meth c args D cl d A cX5_telling 8 (some .int)) (v2 : Int32) (v3 : Int32) (v4 : Int32) (t0 : Int32) (I : St) (hK8 : ∀ (v1 : Int32) (v2 : Int32) (I : St) (H : Heap) (locs : List Loc) (ls : Array Slot), GM D cl a d A s.heap I H locs → lv_has ls 8 [(0, .ref (a 0)), (1, .int v1), (2, .int v2)] → K8 v1 v2 I → wMi p l e rmX5_telling s m args below meth c D cl a d A Q H locs (F0 m 8 ls [])) (hK22 : ∀ (v1 : Int32) (v3 : Int32) (v4 : Int32) (I : St) (H : Heap) (locs : List Loc) (ls : Array Slot), GM D cl a d A s.heap I H locs → lv_has ls 8 [(0, .ref (a 0)), (1, .int v1), (2, .int v2), (3, .int v3), (4, .int v4)] → K22 v1 v3 v4 I → wMi p l e rmX5_telling s m args below meth c D cl a d A Q H locs (F0 m 22 ls [])) {H : Heap} {locs : List Loc} {ls : Array Slot} (G : GM D cl a d A s.heap I H locs) (hl : lv_has ls 8 [(0, .ref (a 0)), (2, .int v2), (3, .int v3), (4, .int v4)]) (h : M_telling_p116 Q K8 K22 v2 v3 v4 t0 I) : wMi p l e rmX5_telling s m args below meth c D cl a d A Q H locs (F0 m 116 ls [.int t0]) := by
  obtain ⟨hx, hb, hr, hml, hown, hts, hlocks, hA, hK, hcl⟩ := id F
  unfold M_telling_p116 at h
  refine lv_istore_n (lv' := [(1, .int t0), (0, .ref (a 0)), (2, .int v2), (3, .int v3), (4, .int v4)]) hx hb dX5_telling_116 rfl hl (by decide) rfl (fun ls hl => ?_)
  refine lv_iinc (v := (v4 + 1)) (lv' := [(4, .int (v4 + 1)), (1, .int t0), (0, .ref (a 0)), (2, .int v2), (3, .int v3)]) hx hb dX5_telling_117 hl (k := 4) rfl rfl (by decide) rfl (fun ls hl => ?_)
  refine lv_goto (tgt := 22) hx hb dX5_telling_120 (by decide) ?_
  exact hK22 t0 v3 (v4 + 1) I _ _ _ G (lv_sub hl [2, 1, 3, 4, 0] rfl) h
set_option maxHeartbeats 4000000 in
set_option maxRecDepth 100000 in
theorem wM_telling_p104 {p : Program} {l : Launch} {e : Env} {s : State} {m : MethodId} {args : Array Value} {below : List Frame} {meth : Method} {c : Code} {D : va_G} {cl : List vw_C} {a : Nat → Nat} {d : ClassId} {A : Nat → Prop} {Q : Int32 → St → Prop} {K8 : Int32 → Int32 → St → Prop} {K22 : Int32 → Int32 → Int32 → St → Prop} (F : FM p s m meth c args D cl d A cX5_telling 8 (some .int)) (v1 : Int32) (v2 : Int32) (v3 : Int32) (v4 : Int32) (t0 : Int32) (I : St) (hK8 : ∀ (v1 : Int32) (v2 : Int32) (I : St) (H : Heap) (locs : List Loc) (ls : Array Slot), GM D cl a d A s.heap I H locs → lv_has ls 8 [(0, .ref (a 0)), (1, .int v1), (2, .int v2)] → K8 v1 v2 I → wMi p l e rmX5_telling s m args below meth c D cl a d A Q H locs (F0 m 8 ls [])) (hK22 : ∀ (v1 : Int32) (v3 : Int32) (v4 : Int32) (I : St) (H : Heap) (locs : List Loc) (ls : Array Slot), GM D cl a d A s.heap I H locs → lv_has ls 8 [(0, .ref (a 0)), (1, .int v1), (2, .int v2), (3, .int v3), (4, .int v4)] → K22 v1 v3 v4 I → wMi p l e rmX5_telling s m args below meth c D cl a d A Q H locs (F0 m 22 ls [])) {H : Heap} {locs : List Loc} {ls : Array Slot} (G : GM D cl a d A s.heap I H locs) (hl : lv_has ls 8 [(0, .ref (a 0)), (1, .int v1), (2, .int v2), (3, .int v3), (4, .int v4)]) (h : M_telling_p104 Q K8 K22 v1 v2 v3 v4 t0 I) : wMi p l e rmX5_telling s m args below meth c D cl a d A Q H locs (F0 m 104 ls [.int t0]) := by
  obtain ⟨hx, hb, hr, hml, hown, hts, hlocks, hA, hK, hcl⟩ := id F
  unfold M_telling_p104 at h
  refine lv_istore (lv' := [(7, .int t0), (0, .ref (a 0)), (1, .int v1), (2, .int v2), (3, .int v3), (4, .int v4)]) hx hb dX5_telling_104 hl (by decide) rfl (fun ls hl => ?_)
  refine lv_iload hx hb dX5_telling_106 (lv_at hl 0 rfl) ?_
  refine lv_if_eq (tgt := 115) hx hb dX5_telling_108 (by decide) (fun c_14 => ?_) (fun c_14 => ?_)
  · replace h := h.1 c_14
    refine lv_iload_n hx hb dX5_telling_115 rfl (lv_at hl 2 rfl) ?_
    exact wM_telling_p116 F v2 v3 v4 v1 I hK8 hK22 G (lv_sub hl [1, 3, 4, 5] rfl) h
  · replace h := h.2 c_14
    refine lv_iload_n hx hb dX5_telling_111 rfl (lv_at hl 4 rfl) ?_
    refine lv_goto (tgt := 116) hx hb dX5_telling_112 (by decide) ?_
    exact wM_telling_p116 F v2 v3 v4 v3 I hK8 hK22 G (lv_sub hl [1, 3, 4, 5] rfl) h
set_option maxHeartbeats 4000000 in
set_option maxRecDepth 100000 in
theorem wM_telling_p103 {p : Program} {l : Launch} {e : Env} {s : State} {m : MethodId} {args : Array Value} {below : List Frame} {meth : Method} {c : Code} {D : va_G} {cl : List vw_C} {a : Nat → Nat} {d : ClassId} {A : Nat → Prop} {Q : Int32 → St → Prop} {K8 : Int32 → Int32 → St → Prop} {K22 : Int32 → Int32 → Int32 → St → Prop} (F : FM p s m meth c args D cl d A cX5_telling 8 (some .int)) (v1 : Int32) (v2 : Int32) (v3 : Int32) (v4 : Int32) (I : St) (hK8 : ∀ (v1 : Int32) (v2 : Int32) (I : St) (H : Heap) (locs : List Loc) (ls : Array Slot), GM D cl a d A s.heap I H locs → lv_has ls 8 [(0, .ref (a 0)), (1, .int v1), (2, .int v2)] → K8 v1 v2 I → wMi p l e rmX5_telling s m args below meth c D cl a d A Q H locs (F0 m 8 ls [])) (hK22 : ∀ (v1 : Int32) (v3 : Int32) (v4 : Int32) (I : St) (H : Heap) (locs : List Loc) (ls : Array Slot), GM D cl a d A s.heap I H locs → lv_has ls 8 [(0, .ref (a 0)), (1, .int v1), (2, .int v2), (3, .int v3), (4, .int v4)] → K22 v1 v3 v4 I → wMi p l e rmX5_telling s m args below meth c D cl a d A Q H locs (F0 m 22 ls [])) {H : Heap} {locs : List Loc} {ls : Array Slot} (G : GM D cl a d A s.heap I H locs) (hl : lv_has ls 8 [(0, .ref (a 0)), (1, .int v1), (2, .int v2), (3, .int v3), (4, .int v4)]) (h : M_telling_p103 Q K8 K22 v1 v2 v3 v4 I) : wMi p l e rmX5_telling s m args below meth c D cl a d A Q H locs (F0 m 103 ls []) := by
  obtain ⟨hx, hb, hr, hml, hown, hts, hlocks, hA, hK, hcl⟩ := id F
  unfold M_telling_p103 at h
  refine lv_iconst (v := 0) hx hb dX5_telling_103 (by decide) ?_
  exact wM_telling_p104 F v1 v2 v3 v4 0 I hK8 hK22 G (lv_sub hl [0, 1, 2, 3, 4] rfl) h
set_option maxHeartbeats 4000000 in
set_option maxRecDepth 100000 in
theorem wM_telling_p72 {p : Program} {l : Launch} {e : Env} {s : State} {m : MethodId} {args : Array Value} {below : List Frame} {meth : Method} {c : Code} {D : va_G} {cl : List vw_C} {a : Nat → Nat} {d : ClassId} {A : Nat → Prop} {Q : Int32 → St → Prop} {K8 : Int32 → Int32 → St → Prop} {K22 : Int32 → Int32 → Int32 → St → Prop} (F : FM p s m meth c args D cl d A cX5_telling 8 (some .int)) (v1 : Int32) (v2 : Int32) (v4 : Int32) (v5 : Int32) (v6 : Int32) (t0 : Int32) (I : St) (hK8 : ∀ (v1 : Int32) (v2 : Int32) (I : St) (H : Heap) (locs : List Loc) (ls : Array Slot), GM D cl a d A s.heap I H locs → lv_has ls 8 [(0, .ref (a 0)), (1, .int v1), (2, .int v2)] → K8 v1 v2 I → wMi p l e rmX5_telling s m args below meth c D cl a d A Q H locs (F0 m 8 ls [])) (hK22 : ∀ (v1 : Int32) (v3 : Int32) (v4 : Int32) (I : St) (H : Heap) (locs : List Loc) (ls : Array Slot), GM D cl a d A s.heap I H locs → lv_has ls 8 [(0, .ref (a 0)), (1, .int v1), (2, .int v2), (3, .int v3), (4, .int v4)] → K22 v1 v3 v4 I → wMi p l e rmX5_telling s m args below meth c D cl a d A Q H locs (F0 m 22 ls [])) {H : Heap} {locs : List Loc} {ls : Array Slot} (G : GM D cl a d A s.heap I H locs) (hl : lv_has ls 8 [(0, .ref (a 0)), (1, .int v1), (2, .int v2), (4, .int v4), (5, .int v5), (6, .int v6)]) (h : M_telling_p72 Q K8 K22 v1 v2 v4 v5 v6 t0 I) : wMi p l e rmX5_telling s m args below meth c D cl a d A Q H locs (F0 m 72 ls [.int t0]) := by
  obtain ⟨hx, hb, hr, hml, hown, hts, hlocks, hA, hK, hcl⟩ := id F
  unfold M_telling_p72 at h
  refine lv_istore_n (lv' := [(3, .int t0), (0, .ref (a 0)), (1, .int v1), (2, .int v2), (4, .int v4), (5, .int v5), (6, .int v6)]) hx hb dX5_telling_72 rfl hl (by decide) rfl (fun ls hl => ?_)
  refine lv_iload hx hb dX5_telling_73 (lv_at hl 4 rfl) ?_
  refine lv_sipush (v := 720) hx hb dX5_telling_75 (by decide) ?_
  refine lv_icmp_lt (tgt := 103) hx hb dX5_telling_78 (by decide) (fun c_11 => ?_) (fun c_11 => ?_)
  · replace h := h.1 c_11
    exact wM_telling_p103 F v1 v2 t0 v4 I hK8 hK22 G (lv_sub hl [1, 2, 3, 0, 4] rfl) h
  · replace h := h.2 c_11
    refine lv_iload hx hb dX5_telling_81 (lv_at hl 5 rfl) ?_
    refine lv_bipush (v := 60) hx hb dX5_telling_83 (by decide) ?_
    refine lv_idiv hx hb dX5_telling_85 (by decide) ?_
    refine lv_iload hx hb dX5_telling_86 (lv_at hl 6 rfl) ?_
    refine lv_bipush (v := 60) hx hb dX5_telling_88 (by decide) ?_
    refine lv_idiv hx hb dX5_telling_90 (by decide) ?_
    refine lv_icmp_eq (tgt := 103) hx hb dX5_telling_91 (by decide) (fun c_12 => ?_) (fun c_12 => ?_)
    · replace h := h.1 c_12
      exact wM_telling_p103 F v1 v2 t0 v4 I hK8 hK22 G (lv_sub hl [1, 2, 3, 0, 4] rfl) h
    · replace h := h.2 c_12
      refine lv_iload_n hx hb dX5_telling_94 rfl (lv_at hl 0 rfl) ?_
      refine lv_iload_n hx hb dX5_telling_95 rfl (lv_at hl 2 rfl) ?_
      refine lv_icmp_le (tgt := 103) hx hb dX5_telling_96 (by decide) (fun c_13 => ?_) (fun c_13 => ?_)
      · replace h := h.1 c_13
        exact wM_telling_p103 F v1 v2 t0 v4 I hK8 hK22 G (lv_sub hl [1, 2, 3, 0, 4] rfl) h
      · replace h := h.2 c_13
        refine lv_iconst (v := 1) hx hb dX5_telling_99 (by decide) ?_
        refine lv_goto (tgt := 104) hx hb dX5_telling_100 (by decide) ?_
        exact wM_telling_p104 F v1 v2 t0 v4 1 I hK8 hK22 G (lv_sub hl [1, 2, 3, 0, 4] rfl) h
set_option maxHeartbeats 4000000 in
set_option maxRecDepth 100000 in
theorem wM_telling_L22 {p : Program} {l : Launch} {e : Env} {s : State} {m : MethodId} {args : Array Value} {below : List Frame} {meth : Method} {c : Code} {D : va_G} {cl : List vw_C} {a : Nat → Nat} {d : ClassId} {A : Nat → Prop} {Q : Int32 → St → Prop} {K8 : Int32 → Int32 → St → Prop} (F : FM p s m meth c args D cl d A cX5_telling 8 (some .int)) (v2 : Int32) (hK8 : ∀ (v1 : Int32) (v2 : Int32) (I : St) (H : Heap) (locs : List Loc) (ls : Array Slot), GM D cl a d A s.heap I H locs → lv_has ls 8 [(0, .ref (a 0)), (1, .int v1), (2, .int v2)] → K8 v1 v2 I → wMi p l e rmX5_telling s m args below meth c D cl a d A Q H locs (F0 m 8 ls [])) :
    ∀ (n : Nat) (v1 : Int32) (v3 : Int32) (v4 : Int32) (I : St) (H : Heap) (locs : List Loc) (ls : Array Slot), GM D cl a d A s.heap I H locs → lv_has ls 8 [(0, .ref (a 0)), (1, .int v1), (2, .int v2), (3, .int v3), (4, .int v4)] → M_telling_L22 Q K8 v2 n v1 v3 v4 I → wMi p l e rmX5_telling s m args below meth c D cl a d A Q H locs (F0 m 22 ls []) := by
  obtain ⟨hx, hb, hr, hml, hown, hts, hlocks, hA, hK, hcl⟩ := id F
  intro n
  induction n with
  | zero => intro v1 v3 v4 I H locs ls G hl h; exact absurd h (fun q => q)
  | succ n ih =>
    intro v1 v3 v4 I H locs ls G hl h
    unfold M_telling_L22 at h
    refine lv_iload hx hb dX5_telling_22 (lv_at hl 4 rfl) ?_
    refine lv_sipush (v := 1440) hx hb dX5_telling_24 (by decide) ?_
    refine lv_icmp_ge (tgt := 123) hx hb dX5_telling_27 (by decide) (fun c_5 => ?_) (fun c_5 => ?_)
    · replace h := h.1 c_5
      refine lv_iinc (v := (v2 + 1)) (lv' := [(2, .int (v2 + 1)), (0, .ref (a 0)), (1, .int v1), (3, .int v3), (4, .int v4)]) hx hb dX5_telling_123 hl (k := 2) rfl rfl (by decide) rfl (fun ls hl => ?_)
      refine lv_goto (tgt := 8) hx hb dX5_telling_126 (by decide) ?_
      exact hK8 v1 (v2 + 1) I _ _ _ G (lv_sub hl [1, 2, 0] rfl) h
    · replace h := h.2 c_5
      refine lv_iload hx hb dX5_telling_30 (lv_at hl 4 rfl) ?_
      refine lv_sipush (v := 720) hx hb dX5_telling_32 (by decide) ?_
      refine lv_irem hx hb dX5_telling_35 (by decide) ?_
      refine lv_topi (fun x_6 ex_6 => ?_)
      replace h := h x_6 ex_6
      refine lv_istore (lv' := [(5, .int x_6), (0, .ref (a 0)), (1, .int v1), (2, .int v2), (3, .int v3), (4, .int v4)]) hx hb dX5_telling_36 hl (by decide) rfl (fun ls hl => ?_)
      refine lv_iload hx hb dX5_telling_38 (lv_at hl 5 rfl) ?_
      refine lv_iload_n hx hb dX5_telling_40 rfl (lv_at hl 3 rfl) ?_
      refine lv_isub hx hb dX5_telling_41 ?_
      refine lv_sipush (v := 720) hx hb dX5_telling_42 (by decide) ?_
      refine lv_irem hx hb dX5_telling_45 (by decide) ?_
      refine lv_topi (fun x_7 ex_7 => ?_)
      replace h := h x_7 ex_7
      refine lv_istore (lv' := [(6, .int x_7), (5, .int x_6), (0, .ref (a 0)), (1, .int v1), (2, .int v2), (3, .int v3), (4, .int v4)]) hx hb dX5_telling_46 hl (by decide) rfl (fun ls hl => ?_)
      refine lv_aload_n hx hb dX5_telling_48 rfl (lv_at hl 2 rfl) ?_
      refine mg_all F G dX5_telling_49 ?_
      refine lv_iload hx hb dX5_telling_52 (lv_at hl 1 rfl) ?_
      obtain ⟨b_8, h⟩ := h
      refine m_ld F G mA_12 b_8 dX5_telling_54 ?_
      refine lv_aload_n hx hb dX5_telling_55 rfl (lv_at hl 2 rfl) ?_
      refine mg_all F G dX5_telling_56 ?_
      refine lv_iload hx hb dX5_telling_59 (lv_at hl 0 rfl) ?_
      obtain ⟨b_9, h⟩ := h
      refine m_ld F G mA_12 b_9 dX5_telling_61 ?_
      refine lv_icmp_ne (tgt := 71) hx hb dX5_telling_62 (by decide) (fun c_10 => ?_) (fun c_10 => ?_)
      · replace h := h.1 c_10
        refine lv_iconst (v := 0) hx hb dX5_telling_71 (by decide) ?_
        exact wM_telling_p72 F v1 v2 v4 x_6 x_7 0 I hK8 ih G (lv_sub hl [2, 3, 4, 6, 1, 0] rfl) h
      · replace h := h.2 c_10
        refine lv_iload_n hx hb dX5_telling_65 rfl (lv_at hl 5 rfl) ?_
        refine lv_iconst (v := 1) hx hb dX5_telling_66 (by decide) ?_
        refine lv_iadd hx hb dX5_telling_67 ?_
        refine lv_goto (tgt := 72) hx hb dX5_telling_68 (by decide) ?_
        exact wM_telling_p72 F v1 v2 v4 x_6 x_7 (v3 + 1) I hK8 ih G (lv_sub hl [2, 3, 4, 6, 1, 0] rfl) h
set_option maxHeartbeats 4000000 in
set_option maxRecDepth 100000 in
theorem wM_telling_L8 {p : Program} {l : Launch} {e : Env} {s : State} {m : MethodId} {args : Array Value} {below : List Frame} {meth : Method} {c : Code} {D : va_G} {cl : List vw_C} {a : Nat → Nat} {d : ClassId} {A : Nat → Prop} {Q : Int32 → St → Prop}  (F : FM p s m meth c args D cl d A cX5_telling 8 (some .int))   :
    ∀ (n : Nat) (v1 : Int32) (v2 : Int32) (I : St) (H : Heap) (locs : List Loc) (ls : Array Slot), GM D cl a d A s.heap I H locs → lv_has ls 8 [(0, .ref (a 0)), (1, .int v1), (2, .int v2)] → M_telling_L8 Q n v1 v2 I → wMi p l e rmX5_telling s m args below meth c D cl a d A Q H locs (F0 m 8 ls []) := by
  obtain ⟨hx, hb, hr, hml, hown, hts, hlocks, hA, hK, hcl⟩ := id F
  intro n
  induction n with
  | zero => intro v1 v2 I H locs ls G hl h; exact absurd h (fun q => q)
  | succ n ih =>
    intro v1 v2 I H locs ls G hl h
    unfold M_telling_L8 at h
    refine lv_iload_n hx hb dX5_telling_8 rfl (lv_at hl 2 rfl) ?_
    refine lv_sipush (v := 360) hx hb dX5_telling_9 (by decide) ?_
    refine lv_icmp_gt (tgt := 129) hx hb dX5_telling_12 (by decide) (fun c_3 => ?_) (fun c_3 => ?_)
    · replace h := h.1 c_3
      refine lv_iload_n hx hb dX5_telling_129 rfl (lv_at hl 1 rfl) ?_
      refine lv_bipush (v := 60) hx hb dX5_telling_130 (by decide) ?_
      refine lv_icmp_ge (tgt := 141) hx hb dX5_telling_132 (by decide) (fun c_4 => ?_) (fun c_4 => ?_)
      · replace h := h.1 c_4
        refine lv_ldc hx hb hown (hts _ q1431) dX5_telling_141 ?_
        exact m_iret F G dX5_telling_143 h
      · replace h := h.2 c_4
        refine lv_iload_n hx hb dX5_telling_135 rfl (lv_at hl 1 rfl) ?_
        refine lv_iconst (v := 1) hx hb dX5_telling_136 (by decide) ?_
        refine lv_iadd hx hb dX5_telling_137 ?_
        refine lv_goto (tgt := 143) hx hb dX5_telling_138 (by decide) ?_
        exact m_iret F G dX5_telling_143 h
    · replace h := h.2 c_3
      refine lv_iconst (v := 0) hx hb dX5_telling_15 (by decide) ?_
      refine lv_istore_n (lv' := [(3, .int 0), (0, .ref (a 0)), (1, .int v1), (2, .int v2)]) hx hb dX5_telling_16 rfl hl (by decide) rfl (fun ls hl => ?_)
      refine lv_sipush (v := 660) hx hb dX5_telling_17 (by decide) ?_
      refine lv_istore (lv' := [(4, .int 660), (3, .int 0), (0, .ref (a 0)), (1, .int v1), (2, .int v2)]) hx hb dX5_telling_20 hl (by decide) rfl (fun ls hl => ?_)
      obtain ⟨k22, h⟩ := h
      exact wM_telling_L22 F v2 ih k22 v1 0 660 I _ _ _ G (lv_sub hl [2, 3, 4, 1, 0] rfl) h
set_option maxHeartbeats 4000000 in
set_option maxRecDepth 100000 in
theorem wM_telling {l : Launch} {D : va_G} {cl : List vw_C} {a : Nat → Nat} {d : ClassId} (hcl : cl[5]? = some (RX5, TX5, 32)) (sz : Nat)  (I : St) (Q : Int32 → St → Prop) (h : M_telling  I Q) : MMi l D cl a d yX5_telling cX5_telling 8 .int rmX5_telling [.ref (a 0)] sz I Q := by
  refine m_enter (Qc := fun A => va_Qi Q (BM D cl a d A) A) hcl (by decide) rfl (Nat.le_of_ble_eq_true rfl) ?_
  intro p e s m below meth c ls A F hG hl
  have G := hG
  have hl : lv_has ls 8 [(0, .ref (a 0))] := hl
  obtain ⟨hx, hb, hr, hml, hown, hts, hlocks, hA, hK, hcl⟩ := id F
  unfold M_telling at h
  refine lv_aload_n hx hb dX5_telling_0 rfl (lv_at hl 0 rfl) ?_
  refine kM_findAll F G hl.1 ⟨Nat.le_of_ble_eq_true rfl, Nat.le_of_ble_eq_true rfl⟩ (Nat.le_of_ble_eq_true rfl) dX5_telling_1 h (fun I_2 H locs G h => ?_)
  refine lv_iconst (v := 0) hx hb dX5_telling_4 (by decide) ?_
  refine lv_istore_n (lv' := [(1, .int 0), (0, .ref (a 0))]) hx hb dX5_telling_5 rfl hl (by decide) rfl (fun ls hl => ?_)
  refine lv_iconst (v := 1) hx hb dX5_telling_6 (by decide) ?_
  refine lv_istore_n (lv' := [(2, .int 1), (1, .int 0), (0, .ref (a 0))]) hx hb dX5_telling_7 rfl hl (by decide) rfl (fun ls hl => ?_)
  obtain ⟨k8, h⟩ := h
  exact wM_telling_L8 F   k8 0 1 I_2 _ _ _ G (lv_sub hl [2, 1, 0] rfl) h

/-! isSheet -/
def M_isSheet (v0 : Int32) (I : St) (Q : Int32 → St → Prop) : Prop := M_isIn v0.toInt64 0 3 I (fun r_1 I_2 => zb r_1 ∧ Q r_1 I_2)
abbrev rmX5_isSheet : Room := { frames := 1, cells := 0, slots := 0, locals := 25 }
set_option maxHeartbeats 4000000 in
set_option maxRecDepth 100000 in
theorem wM_isSheet {l : Launch} {D : va_G} {cl : List vw_C} {a : Nat → Nat} {d : ClassId} (hcl : cl[5]? = some (RX5, TX5, 32)) (sz : Nat) (v0 : Int32) (I : St) (Q : Int32 → St → Prop) (h : M_isSheet v0 I Q) : MMi l D cl a d yX5_isSheet cX5_isSheet 1 .boolean rmX5_isSheet [.int v0] sz I Q := by
  refine m_enter (Qc := fun A => va_Qi Q (BM D cl a d A) A) hcl (by decide) rfl (Nat.le_of_ble_eq_true rfl) ?_
  intro p e s m below meth c ls A F hG hl
  have G := hG
  have hl : lv_has ls 1 [(0, .int v0)] := hl
  obtain ⟨hx, hb, hr, hml, hown, hts, hlocks, hA, hK, hcl⟩ := id F
  unfold M_isSheet at h
  refine lv_iload_n hx hb dX5_isSheet_0 rfl (lv_at hl 0 rfl) ?_
  refine lv_i2l (v := v0.toInt64) hx hb dX5_isSheet_1 rfl ?_
  refine lv_lconst (v := 0) hx hb dX5_isSheet_2 (by decide) ?_
  refine lv_ldc2 hx hb hown (hts _ q1425) dX5_isSheet_3 ?_
  refine kM_isIn F G hl.1 ⟨Nat.le_of_ble_eq_true rfl, Nat.le_of_ble_eq_true rfl⟩ (Nat.le_of_ble_eq_true rfl) dX5_isSheet_6 h (fun r_1 I_2 H locs G h => ?_)
  exact m_zret F G h.1 dX5_isSheet_9 h.2
set_option maxHeartbeats 4000000 in
set_option maxRecDepth 100000 in
theorem kM_isSheet {p : Program} {l : Launch} {e : Env} {s : State} {m : MethodId} {R : Room} {args : Array Value} {below : List Frame} {meth : Method} {c : Code} {D : va_G} {cl : List vw_C} {a : Nat → Nat} {d : ClassId} {A : Nat → Prop} {Q : State → Prop} {cc : ByteArray} {nL pc : Nat} {ret : Option FieldType} {ls : Array Slot} {rest : List Value} {v0 : Int32} {I : St} {H : Heap} {locs : List Loc} {Q1 : Int32 → St → Prop} (F : FM p s m meth c args D cl d A cc nL ret) (G : GM D cl a d A s.heap I H locs) (hsz : ls.size = nL) (hR : rmX5_isSheet.frames + 1 ≤ R.frames ∧ 8 + (1 + 11) + rmX5_isSheet.locals ≤ R.locals) (hW : (rest.map fun v => v.category).sum ≤ 8) (hd : decode cc pc = .ok (.invokestatic 178, 3)) (h : M_isSheet v0 I Q1) (k : ∀ (r : Int32) (I1 : St) (H : Heap) (locs : List Loc), GM D cl a d A s.heap I1 H locs → Q1 r I1 → W p l e R s m args below meth c H locs 0 0 Q (F0 m (pc + 3) ls (.int r :: rest))) : W p l e R s m args below meth c H locs 0 0 Q (F0 m pc ls (.int v0 :: rest)) := by
  obtain ⟨hx, hb, hr, hml, hown, hts, hlocks, hA, hK, hcl⟩ := id F
  exact m_callSi (As := [.int v0]) F G hsz (wM_isSheet hcl H.size v0 I Q1 h) (va_cwS 1 hts (lw_S q1488 q1489 q90 q1490) rfl rfl rfl (by decide +kernel) hR) rfl rfl hW hd k
/-! off -/
def M_off (v0 : Int32) (v1 : Int32) (I : St) (Q : Int32 → St → Prop) : Prop := (v1 ≤ v0 → Q (v0 - v1) I) ∧ (¬ v1 ≤ v0 → Q (v1 - v0) I)
abbrev rmX5_off : Room := { frames := 0, cells := 0, slots := 0, locals := 0 }
set_option maxHeartbeats 4000000 in
set_option maxRecDepth 100000 in
theorem wM_off {l : Launch} {D : va_G} {cl : List vw_C} {a : Nat → Nat} {d : ClassId} (hcl : cl[5]? = some (RX5, TX5, 32)) (sz : Nat) (v0 : Int32) (v1 : Int32) (I : St) (Q : Int32 → St → Prop) (h : M_off v0 v1 I Q) : MMi l D cl a d yX5_off cX5_off 2 .int rmX5_off [.int v0, .int v1] sz I Q := by
  refine m_enter (Qc := fun A => va_Qi Q (BM D cl a d A) A) hcl (by decide) rfl (Nat.le_of_ble_eq_true rfl) ?_
  intro p e s m below meth c ls A F hG hl
  have G := hG
  have hl : lv_has ls 2 [(0, .int v0), (1, .int v1)] := hl
  obtain ⟨hx, hb, hr, hml, hown, hts, hlocks, hA, hK, hcl⟩ := id F
  unfold M_off at h
  refine lv_iload_n hx hb dX5_off_0 rfl (lv_at hl 0 rfl) ?_
  refine lv_iload_n hx hb dX5_off_1 rfl (lv_at hl 1 rfl) ?_
  refine lv_icmp_ge (tgt := 11) hx hb dX5_off_2 (by decide) (fun c_1 => ?_) (fun c_1 => ?_)
  · replace h := h.1 c_1
    refine lv_iload_n hx hb dX5_off_11 rfl (lv_at hl 0 rfl) ?_
    refine lv_iload_n hx hb dX5_off_12 rfl (lv_at hl 1 rfl) ?_
    refine lv_isub hx hb dX5_off_13 ?_
    exact m_iret F G dX5_off_14 h
  · replace h := h.2 c_1
    refine lv_iload_n hx hb dX5_off_5 rfl (lv_at hl 1 rfl) ?_
    refine lv_iload_n hx hb dX5_off_6 rfl (lv_at hl 0 rfl) ?_
    refine lv_isub hx hb dX5_off_7 ?_
    refine lv_goto (tgt := 14) hx hb dX5_off_8 (by decide) ?_
    exact m_iret F G dX5_off_14 h
set_option maxHeartbeats 4000000 in
set_option maxRecDepth 100000 in
theorem kM_off {p : Program} {l : Launch} {e : Env} {s : State} {m : MethodId} {R : Room} {args : Array Value} {below : List Frame} {meth : Method} {c : Code} {D : va_G} {cl : List vw_C} {a : Nat → Nat} {d : ClassId} {A : Nat → Prop} {Q : State → Prop} {cc : ByteArray} {nL pc : Nat} {ret : Option FieldType} {ls : Array Slot} {rest : List Value} {v0 : Int32} {v1 : Int32} {I : St} {H : Heap} {locs : List Loc} {Q1 : Int32 → St → Prop} (F : FM p s m meth c args D cl d A cc nL ret) (G : GM D cl a d A s.heap I H locs) (hsz : ls.size = nL) (hR : rmX5_off.frames + 1 ≤ R.frames ∧ 8 + (2 + 11) + rmX5_off.locals ≤ R.locals) (hW : (rest.map fun v => v.category).sum ≤ 8) (hd : decode cc pc = .ok (.invokestatic 175, 3)) (h : M_off v0 v1 I Q1) (k : ∀ (r : Int32) (I1 : St) (H : Heap) (locs : List Loc), GM D cl a d A s.heap I1 H locs → Q1 r I1 → W p l e R s m args below meth c H locs 0 0 Q (F0 m (pc + 3) ls (.int r :: rest))) : W p l e R s m args below meth c H locs 0 0 Q (F0 m pc ls (.int v1 :: .int v0 :: rest)) := by
  obtain ⟨hx, hb, hr, hml, hown, hts, hlocks, hA, hK, hcl⟩ := id F
  exact m_callSi (As := [.int v0, .int v1]) F G hsz (wM_off hcl H.size v0 v1 I Q1 h) (va_cwS 2 hts (lw_S q1496 q1497 q90 q1498) rfl rfl rfl (by decide +kernel) hR) rfl rfl hW hd k
/-! offBy -/
def M_offBy_p60 (Q : Int32 → St → Prop) (K5 : Int32 → Int32 → St → Prop) (v1 : Int32) (v2 : Int32) (v4 : Int32) (t0 : Int32) (t1 : Int32) (I : St) : Prop := ∀ x_9 : Int32, x_9 = (t1 + t0) → K5 x_9 (v4 + 1) I
def M_offBy_L5 (Q : Int32 → St → Prop)  (v1 : Int32) (v2 : Int32) : Nat → Int32 → Int32 → St → Prop
  | 0, _, _, _ => False
  | n + 1, v3, v4, I => vp_in v1 4 ∧ (((I 5 (v1.toNatClampNeg)) ≤ v4 → Q v3 I) ∧ (¬ (I 5 (v1.toNatClampNeg)) ≤ v4 → vp_in ((24 * v1) + v4) 96 ∧ (∀ x_4 : Int32, x_4 = (I 6 (((24 * v1) + v4).toNatClampNeg)) → (¬ x_4 = (-1000000005) → vp_in ((v2 + v4) - (v2 + v4) / 720 * 720) 720 ∧ (M_off x_4 (I 12 (((v2 + v4) - (v2 + v4) / 720 * 720).toNatClampNeg)) I (fun r_7 I_8 => M_offBy_p60 Q (fun v3_ v4_ I_ => M_offBy_L5 Q v1 v2 n v3_ v4_ I_) v1 v2 v4 r_7 v3 I_8))) ∧ (x_4 = (-1000000005) → M_offBy_p60 Q (fun v3_ v4_ I_ => M_offBy_L5 Q v1 v2 n v3_ v4_ I_) v1 v2 v4 0 v3 I))))
def M_offBy (v1 : Int32) (v2 : Int32) (I : St) (Q : Int32 → St → Prop) : Prop := ∃ k5, M_offBy_L5 Q v1 v2 k5 0 0 I
abbrev rmX5_offBy : Room := { frames := 1, cells := 0, slots := 0, locals := 21 }
set_option maxHeartbeats 4000000 in
set_option maxRecDepth 100000 in
theorem wM_offBy_p60 {p : Program} {l : Launch} {e : Env} {s : State} {m : MethodId} {args : Array Value} {below : List Frame} {meth : Method} {c : Code} {D : va_G} {cl : List vw_C} {a : Nat → Nat} {d : ClassId} {A : Nat → Prop} {Q : Int32 → St → Prop} {K5 : Int32 → Int32 → St → Prop} (F : FM p s m meth c args D cl d A cX5_offBy 6 (some .int)) (v1 : Int32) (v2 : Int32) (v4 : Int32) (t0 : Int32) (t1 : Int32) (I : St) (hK5 : ∀ (v3 : Int32) (v4 : Int32) (I : St) (H : Heap) (locs : List Loc) (ls : Array Slot), GM D cl a d A s.heap I H locs → lv_has ls 6 [(0, .ref (a 0)), (1, .int v1), (2, .int v2), (3, .int v3), (4, .int v4)] → K5 v3 v4 I → wMi p l e rmX5_offBy s m args below meth c D cl a d A Q H locs (F0 m 5 ls [])) {H : Heap} {locs : List Loc} {ls : Array Slot} (G : GM D cl a d A s.heap I H locs) (hl : lv_has ls 6 [(0, .ref (a 0)), (1, .int v1), (2, .int v2), (4, .int v4)]) (h : M_offBy_p60 Q K5 v1 v2 v4 t0 t1 I) : wMi p l e rmX5_offBy s m args below meth c D cl a d A Q H locs (F0 m 60 ls [.int t0, .int t1]) := by
  obtain ⟨hx, hb, hr, hml, hown, hts, hlocks, hA, hK, hcl⟩ := id F
  unfold M_offBy_p60 at h
  refine lv_iadd hx hb dX5_offBy_60 ?_
  refine lv_topi (fun x_9 ex_9 => ?_)
  replace h := h x_9 ex_9
  refine lv_istore_n (lv' := [(3, .int x_9), (0, .ref (a 0)), (1, .int v1), (2, .int v2), (4, .int v4)]) hx hb dX5_offBy_61 rfl hl (by decide) rfl (fun ls hl => ?_)
  refine lv_iinc (v := (v4 + 1)) (lv' := [(4, .int (v4 + 1)), (3, .int x_9), (0, .ref (a 0)), (1, .int v1), (2, .int v2)]) hx hb dX5_offBy_62 hl (k := 4) rfl rfl (by decide) rfl (fun ls hl => ?_)
  refine lv_goto (tgt := 5) hx hb dX5_offBy_65 (by decide) ?_
  exact hK5 x_9 (v4 + 1) I _ _ _ G (lv_sub hl [2, 3, 4, 1, 0] rfl) h
set_option maxHeartbeats 4000000 in
set_option maxRecDepth 100000 in
theorem wM_offBy_L5 {p : Program} {l : Launch} {e : Env} {s : State} {m : MethodId} {args : Array Value} {below : List Frame} {meth : Method} {c : Code} {D : va_G} {cl : List vw_C} {a : Nat → Nat} {d : ClassId} {A : Nat → Prop} {Q : Int32 → St → Prop}  (F : FM p s m meth c args D cl d A cX5_offBy 6 (some .int)) (v1 : Int32) (v2 : Int32)  :
    ∀ (n : Nat) (v3 : Int32) (v4 : Int32) (I : St) (H : Heap) (locs : List Loc) (ls : Array Slot), GM D cl a d A s.heap I H locs → lv_has ls 6 [(0, .ref (a 0)), (1, .int v1), (2, .int v2), (3, .int v3), (4, .int v4)] → M_offBy_L5 Q v1 v2 n v3 v4 I → wMi p l e rmX5_offBy s m args below meth c D cl a d A Q H locs (F0 m 5 ls []) := by
  obtain ⟨hx, hb, hr, hml, hown, hts, hlocks, hA, hK, hcl⟩ := id F
  intro n
  induction n with
  | zero => intro v3 v4 I H locs ls G hl h; exact absurd h (fun q => q)
  | succ n ih =>
    intro v3 v4 I H locs ls G hl h
    unfold M_offBy_L5 at h
    refine lv_iload hx hb dX5_offBy_5 (lv_at hl 4 rfl) ?_
    refine lv_aload_n hx hb dX5_offBy_7 rfl (lv_at hl 0 rfl) ?_
    refine mg_tSize F G dX5_offBy_8 ?_
    refine lv_iload_n hx hb dX5_offBy_11 rfl (lv_at hl 1 rfl) ?_
    obtain ⟨b_1, h⟩ := h
    refine m_ld F G mA_5 b_1 dX5_offBy_12 ?_
    refine lv_icmp_ge (tgt := 68) hx hb dX5_offBy_13 (by decide) (fun c_2 => ?_) (fun c_2 => ?_)
    · replace h := h.1 c_2
      refine lv_iload_n hx hb dX5_offBy_68 rfl (lv_at hl 3 rfl) ?_
      exact m_iret F G dX5_offBy_69 h
    · replace h := h.2 c_2
      refine lv_aload_n hx hb dX5_offBy_16 rfl (lv_at hl 0 rfl) ?_
      refine mg_tNumber F G dX5_offBy_17 ?_
      refine lv_bipush (v := 24) hx hb dX5_offBy_20 (by decide) ?_
      refine lv_iload_n hx hb dX5_offBy_22 rfl (lv_at hl 1 rfl) ?_
      refine lv_imul hx hb dX5_offBy_23 ?_
      refine lv_iload hx hb dX5_offBy_24 (lv_at hl 4 rfl) ?_
      refine lv_iadd hx hb dX5_offBy_26 ?_
      obtain ⟨b_3, h⟩ := h
      refine m_ld F G mA_6 b_3 dX5_offBy_27 ?_
      refine lv_topi (fun x_4 ex_4 => ?_)
      replace h := h x_4 ex_4
      refine lv_istore (lv' := [(5, .int x_4), (0, .ref (a 0)), (1, .int v1), (2, .int v2), (3, .int v3), (4, .int v4)]) hx hb dX5_offBy_28 hl (by decide) rfl (fun ls hl => ?_)
      refine lv_iload_n hx hb dX5_offBy_30 rfl (lv_at hl 4 rfl) ?_
      refine lv_iload hx hb dX5_offBy_31 (lv_at hl 0 rfl) ?_
      refine lv_ldc hx hb hown (hts _ q1431) dX5_offBy_33 ?_
      refine lv_icmp_ne (tgt := 42) hx hb dX5_offBy_35 (by decide) (fun c_5 => ?_) (fun c_5 => ?_)
      · replace h := h.1 c_5
        refine lv_iload hx hb dX5_offBy_42 (lv_at hl 0 rfl) ?_
        refine lv_aload_n hx hb dX5_offBy_44 rfl (lv_at hl 1 rfl) ?_
        refine mg_all F G dX5_offBy_45 ?_
        refine lv_iload_n hx hb dX5_offBy_48 rfl (lv_at hl 3 rfl) ?_
        refine lv_iload hx hb dX5_offBy_49 (lv_at hl 5 rfl) ?_
        refine lv_iadd hx hb dX5_offBy_51 ?_
        refine lv_sipush (v := 720) hx hb dX5_offBy_52 (by decide) ?_
        refine lv_irem hx hb dX5_offBy_55 (by decide) ?_
        obtain ⟨b_6, h⟩ := h
        refine m_ld F G mA_12 b_6 dX5_offBy_56 ?_
        refine kM_off F G hl.1 ⟨Nat.le_of_ble_eq_true rfl, Nat.le_of_ble_eq_true rfl⟩ (Nat.le_of_ble_eq_true rfl) dX5_offBy_57 h (fun r_7 I_8 H locs G h => ?_)
        exact wM_offBy_p60 F v1 v2 v4 r_7 v3 I_8 ih G (lv_sub hl [1, 2, 3, 5] rfl) h
      · replace h := h.2 c_5
        refine lv_iconst (v := 0) hx hb dX5_offBy_38 (by decide) ?_
        refine lv_goto (tgt := 60) hx hb dX5_offBy_39 (by decide) ?_
        exact wM_offBy_p60 F v1 v2 v4 0 v3 I ih G (lv_sub hl [1, 2, 3, 5] rfl) h
set_option maxHeartbeats 4000000 in
set_option maxRecDepth 100000 in
theorem wM_offBy {l : Launch} {D : va_G} {cl : List vw_C} {a : Nat → Nat} {d : ClassId} (hcl : cl[5]? = some (RX5, TX5, 32)) (sz : Nat) (v1 : Int32) (v2 : Int32) (I : St) (Q : Int32 → St → Prop) (h : M_offBy v1 v2 I Q) : MMi l D cl a d yX5_offBy cX5_offBy 6 .int rmX5_offBy [.ref (a 0), .int v1, .int v2] sz I Q := by
  refine m_enter (Qc := fun A => va_Qi Q (BM D cl a d A) A) hcl (by decide) rfl (Nat.le_of_ble_eq_true rfl) ?_
  intro p e s m below meth c ls A F hG hl
  have G := hG
  have hl : lv_has ls 6 [(0, .ref (a 0)), (1, .int v1), (2, .int v2)] := hl
  obtain ⟨hx, hb, hr, hml, hown, hts, hlocks, hA, hK, hcl⟩ := id F
  unfold M_offBy at h
  refine lv_iconst (v := 0) hx hb dX5_offBy_0 (by decide) ?_
  refine lv_istore_n (lv' := [(3, .int 0), (0, .ref (a 0)), (1, .int v1), (2, .int v2)]) hx hb dX5_offBy_1 rfl hl (by decide) rfl (fun ls hl => ?_)
  refine lv_iconst (v := 0) hx hb dX5_offBy_2 (by decide) ?_
  refine lv_istore (lv' := [(4, .int 0), (3, .int 0), (0, .ref (a 0)), (1, .int v1), (2, .int v2)]) hx hb dX5_offBy_3 hl (by decide) rfl (fun ls hl => ?_)
  obtain ⟨k5, h⟩ := h
  exact wM_offBy_L5 F v1 v2  k5 0 0 I _ _ _ G (lv_sub hl [2, 3, 4, 1, 0] rfl) h
set_option maxHeartbeats 4000000 in
set_option maxRecDepth 100000 in
theorem kM_offBy {p : Program} {l : Launch} {e : Env} {s : State} {m : MethodId} {R : Room} {args : Array Value} {below : List Frame} {meth : Method} {c : Code} {D : va_G} {cl : List vw_C} {a : Nat → Nat} {d : ClassId} {A : Nat → Prop} {Q : State → Prop} {cc : ByteArray} {nL pc : Nat} {ret : Option FieldType} {ls : Array Slot} {rest : List Value} {v1 : Int32} {v2 : Int32} {I : St} {H : Heap} {locs : List Loc} {Q1 : Int32 → St → Prop} (F : FM p s m meth c args D cl d A cc nL ret) (G : GM D cl a d A s.heap I H locs) (hsz : ls.size = nL) (hR : rmX5_offBy.frames + 1 ≤ R.frames ∧ 8 + (6 + 11) + rmX5_offBy.locals ≤ R.locals) (hW : (rest.map fun v => v.category).sum ≤ 8) (hd : decode cc pc = .ok (.invokevirtual 182, 3)) (h : M_offBy v1 v2 I Q1) (k : ∀ (r : Int32) (I1 : St) (H : Heap) (locs : List Loc), GM D cl a d A s.heap I1 H locs → Q1 r I1 → W p l e R s m args below meth c H locs 0 0 Q (F0 m (pc + 3) ls (.int r :: rest))) : W p l e R s m args below meth c H locs 0 0 Q (F0 m pc ls (.int v2 :: .int v1 :: .ref (a 0) :: rest)) := by
  obtain ⟨hx, hb, hr, hml, hown, hts, hlocks, hA, hK, hcl⟩ := id F
  exact m_callVi (As := [.int v1, .int v2]) F G hsz (wM_offBy hcl H.size v1 v2 I Q1 h) (cwV 2 hts (lw_V q1492 q1494 qs61 q90 q1495) rfl rfl rfl (by decide +kernel) hR) rfl rfl hW hd k
/-! like -/
def M_like_p94 (Q : Int32 → St → Prop) (K49 : Int32 → Int32 → Int32 → St → Prop) (v1 : Int32) (v2 : Int32) (v3 : Int32) (v5 : Int32) (t0 : Int32) (I : St) : Prop := K49 v3 t0 (v5 + 1) I
def M_like_p79 (Q : Int32 → St → Prop) (K49 : Int32 → Int32 → Int32 → St → Prop) (v1 : Int32) (v2 : Int32) (v4 : Int32) (v5 : Int32) (v6 : Int32) (t0 : Int32) (I : St) : Prop := (v4 ≤ v6 → M_like_p94 Q K49 v1 v2 t0 v5 v4 I) ∧ (¬ v4 ≤ v6 → M_like_p94 Q K49 v1 v2 t0 v5 v6 I)
def M_like_L49 (Q : Int32 → St → Prop)  (v1 : Int32) (v2 : Int32) : Nat → Int32 → Int32 → Int32 → St → Prop
  | 0, _, _, _, _ => False
  | n + 1, v3, v4, v5, I => (720 ≤ v5 → (¬ v2 = 0 → Q v4 I) ∧ (v2 = 0 → Q v3 I)) ∧ (¬ 720 ≤ v5 → M_offBy v1 v5 I (fun r_15 I_16 => (v4 ≤ r_15 → M_like_p79 Q (fun v3_ v4_ v5_ I_ => M_like_L49 Q v1 v2 n v3_ v4_ v5_ I_) v1 v2 v4 v5 r_15 v3 I_16) ∧ (¬ v4 ≤ r_15 → M_like_p79 Q (fun v3_ v4_ v5_ I_ => M_like_L49 Q v1 v2 n v3_ v4_ v5_ I_) v1 v2 v4 v5 r_15 v5 I_16)))
def M_like (v1 : Int32) (v2 : Int32) (I : St) (Q : Int32 → St → Prop) : Prop := M_isSheet v1 I (fun r_1 I_2 => (r_1 = 0 → Q (-1000000001) I_2) ∧ (¬ r_1 = 0 → M_isIn v2.toInt64 0 1 I_2 (fun r_4 I_5 => (¬ r_4 = 0 → vp_in v1 4 ∧ ((0 ≤ (I_5 4 (v1.toNatClampNeg)) → M_findAll  I_5 (fun I_10 => M_offBy v1 0 I_10 (fun r_11 I_12 => ∃ k49, M_like_L49 Q v1 v2 k49 0 r_11 1 I_12))) ∧ (¬ 0 ≤ (I_5 4 (v1.toNatClampNeg)) → Q (-1000000011) I_5))) ∧ (r_4 = 0 → Q (-1000000001) I_5))))
abbrev rmX5_like : Room := { frames := 6, cells := 0, slots := 0, locals := 140 }
set_option maxHeartbeats 4000000 in
set_option maxRecDepth 100000 in
theorem wM_like_p94 {p : Program} {l : Launch} {e : Env} {s : State} {m : MethodId} {args : Array Value} {below : List Frame} {meth : Method} {c : Code} {D : va_G} {cl : List vw_C} {a : Nat → Nat} {d : ClassId} {A : Nat → Prop} {Q : Int32 → St → Prop} {K49 : Int32 → Int32 → Int32 → St → Prop} (F : FM p s m meth c args D cl d A cX5_like 7 (some .int)) (v1 : Int32) (v2 : Int32) (v3 : Int32) (v5 : Int32) (t0 : Int32) (I : St) (hK49 : ∀ (v3 : Int32) (v4 : Int32) (v5 : Int32) (I : St) (H : Heap) (locs : List Loc) (ls : Array Slot), GM D cl a d A s.heap I H locs → lv_has ls 7 [(0, .ref (a 0)), (1, .int v1), (2, .int v2), (3, .int v3), (4, .int v4), (5, .int v5)] → K49 v3 v4 v5 I → wMi p l e rmX5_like s m args below meth c D cl a d A Q H locs (F0 m 49 ls [])) {H : Heap} {locs : List Loc} {ls : Array Slot} (G : GM D cl a d A s.heap I H locs) (hl : lv_has ls 7 [(0, .ref (a 0)), (1, .int v1), (2, .int v2), (3, .int v3), (5, .int v5)]) (h : M_like_p94 Q K49 v1 v2 v3 v5 t0 I) : wMi p l e rmX5_like s m args below meth c D cl a d A Q H locs (F0 m 94 ls [.int t0]) := by
  obtain ⟨hx, hb, hr, hml, hown, hts, hlocks, hA, hK, hcl⟩ := id F
  unfold M_like_p94 at h
  refine lv_istore (lv' := [(4, .int t0), (0, .ref (a 0)), (1, .int v1), (2, .int v2), (3, .int v3), (5, .int v5)]) hx hb dX5_like_94 hl (by decide) rfl (fun ls hl => ?_)
  refine lv_iinc (v := (v5 + 1)) (lv' := [(5, .int (v5 + 1)), (4, .int t0), (0, .ref (a 0)), (1, .int v1), (2, .int v2), (3, .int v3)]) hx hb dX5_like_96 hl (k := 5) rfl rfl (by decide) rfl (fun ls hl => ?_)
  refine lv_goto (tgt := 49) hx hb dX5_like_99 (by decide) ?_
  exact hK49 v3 t0 (v5 + 1) I _ _ _ G (lv_sub hl [2, 3, 4, 5, 1, 0] rfl) h
set_option maxHeartbeats 4000000 in
set_option maxRecDepth 100000 in
theorem wM_like_p79 {p : Program} {l : Launch} {e : Env} {s : State} {m : MethodId} {args : Array Value} {below : List Frame} {meth : Method} {c : Code} {D : va_G} {cl : List vw_C} {a : Nat → Nat} {d : ClassId} {A : Nat → Prop} {Q : Int32 → St → Prop} {K49 : Int32 → Int32 → Int32 → St → Prop} (F : FM p s m meth c args D cl d A cX5_like 7 (some .int)) (v1 : Int32) (v2 : Int32) (v4 : Int32) (v5 : Int32) (v6 : Int32) (t0 : Int32) (I : St) (hK49 : ∀ (v3 : Int32) (v4 : Int32) (v5 : Int32) (I : St) (H : Heap) (locs : List Loc) (ls : Array Slot), GM D cl a d A s.heap I H locs → lv_has ls 7 [(0, .ref (a 0)), (1, .int v1), (2, .int v2), (3, .int v3), (4, .int v4), (5, .int v5)] → K49 v3 v4 v5 I → wMi p l e rmX5_like s m args below meth c D cl a d A Q H locs (F0 m 49 ls [])) {H : Heap} {locs : List Loc} {ls : Array Slot} (G : GM D cl a d A s.heap I H locs) (hl : lv_has ls 7 [(0, .ref (a 0)), (1, .int v1), (2, .int v2), (4, .int v4), (5, .int v5), (6, .int v6)]) (h : M_like_p79 Q K49 v1 v2 v4 v5 v6 t0 I) : wMi p l e rmX5_like s m args below meth c D cl a d A Q H locs (F0 m 79 ls [.int t0]) := by
  obtain ⟨hx, hb, hr, hml, hown, hts, hlocks, hA, hK, hcl⟩ := id F
  unfold M_like_p79 at h
  refine lv_istore_n (lv' := [(3, .int t0), (0, .ref (a 0)), (1, .int v1), (2, .int v2), (4, .int v4), (5, .int v5), (6, .int v6)]) hx hb dX5_like_79 rfl hl (by decide) rfl (fun ls hl => ?_)
  refine lv_iload hx hb dX5_like_80 (lv_at hl 6 rfl) ?_
  refine lv_iload hx hb dX5_like_82 (lv_at hl 4 rfl) ?_
  refine lv_icmp_ge (tgt := 92) hx hb dX5_like_84 (by decide) (fun c_18 => ?_) (fun c_18 => ?_)
  · replace h := h.1 c_18
    refine lv_iload hx hb dX5_like_92 (lv_at hl 4 rfl) ?_
    exact wM_like_p94 F v1 v2 t0 v5 v4 I hK49 G (lv_sub hl [1, 2, 3, 0, 5] rfl) h
  · replace h := h.2 c_18
    refine lv_iload hx hb dX5_like_87 (lv_at hl 6 rfl) ?_
    refine lv_goto (tgt := 94) hx hb dX5_like_89 (by decide) ?_
    exact wM_like_p94 F v1 v2 t0 v5 v6 I hK49 G (lv_sub hl [1, 2, 3, 0, 5] rfl) h
set_option maxHeartbeats 4000000 in
set_option maxRecDepth 100000 in
theorem wM_like_L49 {p : Program} {l : Launch} {e : Env} {s : State} {m : MethodId} {args : Array Value} {below : List Frame} {meth : Method} {c : Code} {D : va_G} {cl : List vw_C} {a : Nat → Nat} {d : ClassId} {A : Nat → Prop} {Q : Int32 → St → Prop}  (F : FM p s m meth c args D cl d A cX5_like 7 (some .int)) (v1 : Int32) (v2 : Int32)  :
    ∀ (n : Nat) (v3 : Int32) (v4 : Int32) (v5 : Int32) (I : St) (H : Heap) (locs : List Loc) (ls : Array Slot), GM D cl a d A s.heap I H locs → lv_has ls 7 [(0, .ref (a 0)), (1, .int v1), (2, .int v2), (3, .int v3), (4, .int v4), (5, .int v5)] → M_like_L49 Q v1 v2 n v3 v4 v5 I → wMi p l e rmX5_like s m args below meth c D cl a d A Q H locs (F0 m 49 ls []) := by
  obtain ⟨hx, hb, hr, hml, hown, hts, hlocks, hA, hK, hcl⟩ := id F
  intro n
  induction n with
  | zero => intro v3 v4 v5 I H locs ls G hl h; exact absurd h (fun q => q)
  | succ n ih =>
    intro v3 v4 v5 I H locs ls G hl h
    unfold M_like_L49 at h
    refine lv_iload hx hb dX5_like_49 (lv_at hl 5 rfl) ?_
    refine lv_sipush (v := 720) hx hb dX5_like_51 (by decide) ?_
    refine lv_icmp_ge (tgt := 102) hx hb dX5_like_54 (by decide) (fun c_13 => ?_) (fun c_13 => ?_)
    · replace h := h.1 c_13
      refine lv_iload_n hx hb dX5_like_102 rfl (lv_at hl 2 rfl) ?_
      refine lv_if_ne (tgt := 110) hx hb dX5_like_103 (by decide) (fun c_14 => ?_) (fun c_14 => ?_)
      · replace h := h.1 c_14
        refine lv_iload hx hb dX5_like_110 (lv_at hl 4 rfl) ?_
        exact m_iret F G dX5_like_112 h
      · replace h := h.2 c_14
        refine lv_iload_n hx hb dX5_like_106 rfl (lv_at hl 3 rfl) ?_
        refine lv_goto (tgt := 112) hx hb dX5_like_107 (by decide) ?_
        exact m_iret F G dX5_like_112 h
    · replace h := h.2 c_13
      refine lv_aload_n hx hb dX5_like_57 rfl (lv_at hl 0 rfl) ?_
      refine lv_iload_n hx hb dX5_like_58 rfl (lv_at hl 1 rfl) ?_
      refine lv_iload hx hb dX5_like_59 (lv_at hl 5 rfl) ?_
      refine kM_offBy F G hl.1 ⟨Nat.le_of_ble_eq_true rfl, Nat.le_of_ble_eq_true rfl⟩ (Nat.le_of_ble_eq_true rfl) dX5_like_61 h (fun r_15 I_16 H locs G h => ?_)
      refine lv_istore (lv' := [(6, .int r_15), (0, .ref (a 0)), (1, .int v1), (2, .int v2), (3, .int v3), (4, .int v4), (5, .int v5)]) hx hb dX5_like_64 hl (by decide) rfl (fun ls hl => ?_)
      refine lv_iload hx hb dX5_like_66 (lv_at hl 0 rfl) ?_
      refine lv_iload hx hb dX5_like_68 (lv_at hl 5 rfl) ?_
      refine lv_icmp_ge (tgt := 78) hx hb dX5_like_70 (by decide) (fun c_17 => ?_) (fun c_17 => ?_)
      · replace h := h.1 c_17
        refine lv_iload_n hx hb dX5_like_78 rfl (lv_at hl 4 rfl) ?_
        exact wM_like_p79 F v1 v2 v4 v5 r_15 v3 I_16 ih G (lv_sub hl [1, 2, 3, 5, 6, 0] rfl) h
      · replace h := h.2 c_17
        refine lv_iload hx hb dX5_like_73 (lv_at hl 6 rfl) ?_
        refine lv_goto (tgt := 79) hx hb dX5_like_75 (by decide) ?_
        exact wM_like_p79 F v1 v2 v4 v5 r_15 v5 I_16 ih G (lv_sub hl [1, 2, 3, 5, 6, 0] rfl) h
set_option maxHeartbeats 4000000 in
set_option maxRecDepth 100000 in
theorem wM_like {l : Launch} {D : va_G} {cl : List vw_C} {a : Nat → Nat} {d : ClassId} (hcl : cl[5]? = some (RX5, TX5, 32)) (sz : Nat) (v1 : Int32) (v2 : Int32) (I : St) (Q : Int32 → St → Prop) (h : M_like v1 v2 I Q) : MMi l D cl a d yX5_like cX5_like 7 .int rmX5_like [.ref (a 0), .int v1, .int v2] sz I Q := by
  refine m_enter (Qc := fun A => va_Qi Q (BM D cl a d A) A) hcl (by decide) rfl (Nat.le_of_ble_eq_true rfl) ?_
  intro p e s m below meth c ls A F hG hl
  have G := hG
  have hl : lv_has ls 7 [(0, .ref (a 0)), (1, .int v1), (2, .int v2)] := hl
  obtain ⟨hx, hb, hr, hml, hown, hts, hlocks, hA, hK, hcl⟩ := id F
  unfold M_like at h
  refine lv_iload_n hx hb dX5_like_0 rfl (lv_at hl 1 rfl) ?_
  refine kM_isSheet F G hl.1 ⟨Nat.le_of_ble_eq_true rfl, Nat.le_of_ble_eq_true rfl⟩ (Nat.le_of_ble_eq_true rfl) dX5_like_1 h (fun r_1 I_2 H locs G h => ?_)
  refine lv_if_eq (tgt := 17) hx hb dX5_like_4 (by decide) (fun c_3 => ?_) (fun c_3 => ?_)
  · replace h := h.1 c_3
    refine lv_ldc hx hb hown (hts _ q1296) dX5_like_17 ?_
    exact m_iret F G dX5_like_19 h
  · replace h := h.2 c_3
    refine lv_iload_n hx hb dX5_like_7 rfl (lv_at hl 2 rfl) ?_
    refine lv_i2l (v := v2.toInt64) hx hb dX5_like_8 rfl ?_
    refine lv_lconst (v := 0) hx hb dX5_like_9 (by decide) ?_
    refine lv_lconst (v := 1) hx hb dX5_like_10 (by decide) ?_
    refine kM_isIn F G hl.1 ⟨Nat.le_of_ble_eq_true rfl, Nat.le_of_ble_eq_true rfl⟩ (Nat.le_of_ble_eq_true rfl) dX5_like_11 h (fun r_4 I_5 H locs G h => ?_)
    refine lv_if_ne (tgt := 20) hx hb dX5_like_14 (by decide) (fun c_6 => ?_) (fun c_6 => ?_)
    · replace h := h.1 c_6
      refine lv_aload_n hx hb dX5_like_20 rfl (lv_at hl 0 rfl) ?_
      refine mg_tSort F G dX5_like_21 ?_
      refine lv_iload_n hx hb dX5_like_24 rfl (lv_at hl 1 rfl) ?_
      obtain ⟨b_7, h⟩ := h
      refine m_ld F G mA_4 b_7 dX5_like_25 ?_
      refine lv_if_ge (tgt := 32) hx hb dX5_like_26 (by decide) (fun c_8 => ?_) (fun c_8 => ?_)
      · replace h := h.1 c_8
        refine lv_aload_n hx hb dX5_like_32 rfl (lv_at hl 0 rfl) ?_
        refine kM_findAll F G hl.1 ⟨Nat.le_of_ble_eq_true rfl, Nat.le_of_ble_eq_true rfl⟩ (Nat.le_of_ble_eq_true rfl) dX5_like_33 h (fun I_10 H locs G h => ?_)
        refine lv_iconst (v := 0) hx hb dX5_like_36 (by decide) ?_
        refine lv_istore_n (lv' := [(3, .int 0), (0, .ref (a 0)), (1, .int v1), (2, .int v2)]) hx hb dX5_like_37 rfl hl (by decide) rfl (fun ls hl => ?_)
        refine lv_aload_n hx hb dX5_like_38 rfl (lv_at hl 1 rfl) ?_
        refine lv_iload_n hx hb dX5_like_39 rfl (lv_at hl 2 rfl) ?_
        refine lv_iconst (v := 0) hx hb dX5_like_40 (by decide) ?_
        refine kM_offBy F G hl.1 ⟨Nat.le_of_ble_eq_true rfl, Nat.le_of_ble_eq_true rfl⟩ (Nat.le_of_ble_eq_true rfl) dX5_like_41 h (fun r_11 I_12 H locs G h => ?_)
        refine lv_istore (lv' := [(4, .int r_11), (3, .int 0), (0, .ref (a 0)), (1, .int v1), (2, .int v2)]) hx hb dX5_like_44 hl (by decide) rfl (fun ls hl => ?_)
        refine lv_iconst (v := 1) hx hb dX5_like_46 (by decide) ?_
        refine lv_istore (lv' := [(5, .int 1), (4, .int r_11), (3, .int 0), (0, .ref (a 0)), (1, .int v1), (2, .int v2)]) hx hb dX5_like_47 hl (by decide) rfl (fun ls hl => ?_)
        obtain ⟨k49, h⟩ := h
        exact wM_like_L49 F v1 v2  k49 0 r_11 1 I_12 _ _ _ G (lv_sub hl [3, 4, 5, 2, 1, 0] rfl) h
      · replace h := h.2 c_8
        refine lv_ldc hx hb hown (hts _ q1491) dX5_like_29 ?_
        exact m_iret F G dX5_like_31 h
    · replace h := h.2 c_6
      refine lv_ldc hx hb hown (hts _ q1296) dX5_like_17 ?_
      exact m_iret F G dX5_like_19 h

/-! laysBack -/
def M_laysBack_L2 (Q : St → Prop)   : Nat → Int32 → St → Prop
  | 0, _, _ => False
  | n + 1, v1, I => (40 ≤ v1 → Q I) ∧ (¬ 40 ≤ v1 → vp_in v1 40 ∧ (vp_in v1 3040 ∧ (M_laysBack_L2 Q n (v1 + 1) (sA I 1 v1 (I 13 (v1.toNatClampNeg))))))
def M_laysBack  (I : St) (Q : St → Prop) : Prop := ∃ k2, M_laysBack_L2 Q k2 0 I
abbrev rmX5_laysBack : Room := { frames := 0, cells := 0, slots := 0, locals := 0 }
set_option maxHeartbeats 4000000 in
set_option maxRecDepth 100000 in
theorem wM_laysBack_L2 {p : Program} {l : Launch} {e : Env} {s : State} {m : MethodId} {args : Array Value} {below : List Frame} {meth : Method} {c : Code} {D : va_G} {cl : List vw_C} {a : Nat → Nat} {d : ClassId} {A : Nat → Prop} {Q : St → Prop}  (F : FM p s m meth c args D cl d A cX5_laysBack 2 none)   :
    ∀ (n : Nat) (v1 : Int32) (I : St) (H : Heap) (locs : List Loc) (ls : Array Slot), GM D cl a d A s.heap I H locs → lv_has ls 2 [(0, .ref (a 0)), (1, .int v1)] → M_laysBack_L2 Q n v1 I → wMv p l e rmX5_laysBack s m args below meth c D cl a d A Q H locs (F0 m 2 ls []) := by
  obtain ⟨hx, hb, hr, hml, hown, hts, hlocks, hA, hK, hcl⟩ := id F
  intro n
  induction n with
  | zero => intro v1 I H locs ls G hl h; exact absurd h (fun q => q)
  | succ n ih =>
    intro v1 I H locs ls G hl h
    unfold M_laysBack_L2 at h
    refine lv_iload_n hx hb dX5_laysBack_2 rfl (lv_at hl 1 rfl) ?_
    refine lv_bipush (v := 40) hx hb dX5_laysBack_3 (by decide) ?_
    refine lv_icmp_ge (tgt := 26) hx hb dX5_laysBack_5 (by decide) (fun c_1 => ?_) (fun c_1 => ?_)
    · replace h := h.1 c_1
      exact m_vret F G dX5_laysBack_26 h
    · replace h := h.2 c_1
      refine lv_aload_n hx hb dX5_laysBack_8 rfl (lv_at hl 0 rfl) ?_
      refine mg_s F G dX5_laysBack_9 ?_
      refine lv_iload_n hx hb dX5_laysBack_12 rfl (lv_at hl 1 rfl) ?_
      refine lv_aload_n hx hb dX5_laysBack_13 rfl (lv_at hl 0 rfl) ?_
      refine mg_close F G dX5_laysBack_14 ?_
      refine lv_iload_n hx hb dX5_laysBack_17 rfl (lv_at hl 1 rfl) ?_
      obtain ⟨b_2, h⟩ := h
      refine m_ld F G mA_13 b_2 dX5_laysBack_18 ?_
      obtain ⟨b_3, h⟩ := h
      refine m_st F G mA_1 b_3 dX5_laysBack_19 (fun H locs G => ?_)
      refine lv_iinc (v := (v1 + 1)) (lv' := [(1, .int (v1 + 1)), (0, .ref (a 0))]) hx hb dX5_laysBack_20 hl (k := 1) rfl rfl (by decide) rfl (fun ls hl => ?_)
      refine lv_goto (tgt := 2) hx hb dX5_laysBack_23 (by decide) ?_
      exact ih (v1 + 1) (sA I 1 v1 (I 13 (v1.toNatClampNeg))) _ _ _ G (lv_sub hl [1, 0] rfl) h
set_option maxHeartbeats 4000000 in
set_option maxRecDepth 100000 in
theorem wM_laysBack {l : Launch} {D : va_G} {cl : List vw_C} {a : Nat → Nat} {d : ClassId} (hcl : cl[5]? = some (RX5, TX5, 32)) (sz : Nat)  (I : St) (Q : St → Prop) (h : M_laysBack  I Q) : MMv l D cl a d yX5_laysBack cX5_laysBack 2 rmX5_laysBack [.ref (a 0)] sz I Q := by
  refine m_enter (Qc := fun A => va_Qv Q (BM D cl a d A) A) hcl (by decide) rfl (Nat.le_of_ble_eq_true rfl) ?_
  intro p e s m below meth c ls A F hG hl
  have G := hG
  have hl : lv_has ls 2 [(0, .ref (a 0))] := hl
  obtain ⟨hx, hb, hr, hml, hown, hts, hlocks, hA, hK, hcl⟩ := id F
  unfold M_laysBack at h
  refine lv_iconst (v := 0) hx hb dX5_laysBack_0 (by decide) ?_
  refine lv_istore_n (lv' := [(1, .int 0), (0, .ref (a 0))]) hx hb dX5_laysBack_1 rfl hl (by decide) rfl (fun ls hl => ?_)
  obtain ⟨k2, h⟩ := h
  exact wM_laysBack_L2 F   k2 0 I _ _ _ G (lv_sub hl [1, 0] rfl) h
set_option maxHeartbeats 4000000 in
set_option maxRecDepth 100000 in
theorem kM_laysBack {p : Program} {l : Launch} {e : Env} {s : State} {m : MethodId} {R : Room} {args : Array Value} {below : List Frame} {meth : Method} {c : Code} {D : va_G} {cl : List vw_C} {a : Nat → Nat} {d : ClassId} {A : Nat → Prop} {Q : State → Prop} {cc : ByteArray} {nL pc : Nat} {ret : Option FieldType} {ls : Array Slot} {rest : List Value}  {I : St} {H : Heap} {locs : List Loc} {Q1 : St → Prop} (F : FM p s m meth c args D cl d A cc nL ret) (G : GM D cl a d A s.heap I H locs) (hsz : ls.size = nL) (hR : rmX5_laysBack.frames + 1 ≤ R.frames ∧ 8 + (2 + 11) + rmX5_laysBack.locals ≤ R.locals) (hW : (rest.map fun v => v.category).sum ≤ 8) (hd : decode cc pc = .ok (.invokevirtual 188, 3)) (h : M_laysBack  I Q1) (k : ∀ (I1 : St) (H : Heap) (locs : List Loc), GM D cl a d A s.heap I1 H locs → Q1 I1 → W p l e R s m args below meth c H locs 0 0 Q (F0 m (pc + 3) ls rest)) : W p l e R s m args below meth c H locs 0 0 Q (F0 m pc ls (.ref (a 0) :: rest)) := by
  obtain ⟨hx, hb, hr, hml, hown, hts, hlocks, hA, hK, hcl⟩ := id F
  exact m_callVv (As := []) F G hsz (wM_laysBack hcl H.size  I Q1 h) (cwV 0 hts (lw_V q1507 q1509 qs63 q90 q1510) rfl rfl rfl (by decide +kernel) hR) rfl rfl hW hd k
/-! laysBy -/
def M_laysBy_L2 (Q : St → Prop)   : Nat → Int32 → St → Prop
  | 0, _, _ => False
  | n + 1, v1, I => (40 ≤ v1 → Q I) ∧ (¬ 40 ≤ v1 → vp_in v1 3040 ∧ (vp_in v1 40 ∧ (M_laysBy_L2 Q n (v1 + 1) (sA I 13 v1 (I 1 (v1.toNatClampNeg))))))
def M_laysBy  (I : St) (Q : St → Prop) : Prop := ∃ k2, M_laysBy_L2 Q k2 0 I
abbrev rmX5_laysBy : Room := { frames := 0, cells := 0, slots := 0, locals := 0 }
set_option maxHeartbeats 4000000 in
set_option maxRecDepth 100000 in
theorem wM_laysBy_L2 {p : Program} {l : Launch} {e : Env} {s : State} {m : MethodId} {args : Array Value} {below : List Frame} {meth : Method} {c : Code} {D : va_G} {cl : List vw_C} {a : Nat → Nat} {d : ClassId} {A : Nat → Prop} {Q : St → Prop}  (F : FM p s m meth c args D cl d A cX5_laysBy 2 none)   :
    ∀ (n : Nat) (v1 : Int32) (I : St) (H : Heap) (locs : List Loc) (ls : Array Slot), GM D cl a d A s.heap I H locs → lv_has ls 2 [(0, .ref (a 0)), (1, .int v1)] → M_laysBy_L2 Q n v1 I → wMv p l e rmX5_laysBy s m args below meth c D cl a d A Q H locs (F0 m 2 ls []) := by
  obtain ⟨hx, hb, hr, hml, hown, hts, hlocks, hA, hK, hcl⟩ := id F
  intro n
  induction n with
  | zero => intro v1 I H locs ls G hl h; exact absurd h (fun q => q)
  | succ n ih =>
    intro v1 I H locs ls G hl h
    unfold M_laysBy_L2 at h
    refine lv_iload_n hx hb dX5_laysBy_2 rfl (lv_at hl 1 rfl) ?_
    refine lv_bipush (v := 40) hx hb dX5_laysBy_3 (by decide) ?_
    refine lv_icmp_ge (tgt := 26) hx hb dX5_laysBy_5 (by decide) (fun c_1 => ?_) (fun c_1 => ?_)
    · replace h := h.1 c_1
      exact m_vret F G dX5_laysBy_26 h
    · replace h := h.2 c_1
      refine lv_aload_n hx hb dX5_laysBy_8 rfl (lv_at hl 0 rfl) ?_
      refine mg_close F G dX5_laysBy_9 ?_
      refine lv_iload_n hx hb dX5_laysBy_12 rfl (lv_at hl 1 rfl) ?_
      refine lv_aload_n hx hb dX5_laysBy_13 rfl (lv_at hl 0 rfl) ?_
      refine mg_s F G dX5_laysBy_14 ?_
      refine lv_iload_n hx hb dX5_laysBy_17 rfl (lv_at hl 1 rfl) ?_
      obtain ⟨b_2, h⟩ := h
      refine m_ld F G mA_1 b_2 dX5_laysBy_18 ?_
      obtain ⟨b_3, h⟩ := h
      refine m_st F G mA_13 b_3 dX5_laysBy_19 (fun H locs G => ?_)
      refine lv_iinc (v := (v1 + 1)) (lv' := [(1, .int (v1 + 1)), (0, .ref (a 0))]) hx hb dX5_laysBy_20 hl (k := 1) rfl rfl (by decide) rfl (fun ls hl => ?_)
      refine lv_goto (tgt := 2) hx hb dX5_laysBy_23 (by decide) ?_
      exact ih (v1 + 1) (sA I 13 v1 (I 1 (v1.toNatClampNeg))) _ _ _ G (lv_sub hl [1, 0] rfl) h
set_option maxHeartbeats 4000000 in
set_option maxRecDepth 100000 in
theorem wM_laysBy {l : Launch} {D : va_G} {cl : List vw_C} {a : Nat → Nat} {d : ClassId} (hcl : cl[5]? = some (RX5, TX5, 32)) (sz : Nat)  (I : St) (Q : St → Prop) (h : M_laysBy  I Q) : MMv l D cl a d yX5_laysBy cX5_laysBy 2 rmX5_laysBy [.ref (a 0)] sz I Q := by
  refine m_enter (Qc := fun A => va_Qv Q (BM D cl a d A) A) hcl (by decide) rfl (Nat.le_of_ble_eq_true rfl) ?_
  intro p e s m below meth c ls A F hG hl
  have G := hG
  have hl : lv_has ls 2 [(0, .ref (a 0))] := hl
  obtain ⟨hx, hb, hr, hml, hown, hts, hlocks, hA, hK, hcl⟩ := id F
  unfold M_laysBy at h
  refine lv_iconst (v := 0) hx hb dX5_laysBy_0 (by decide) ?_
  refine lv_istore_n (lv' := [(1, .int 0), (0, .ref (a 0))]) hx hb dX5_laysBy_1 rfl hl (by decide) rfl (fun ls hl => ?_)
  obtain ⟨k2, h⟩ := h
  exact wM_laysBy_L2 F   k2 0 I _ _ _ G (lv_sub hl [1, 0] rfl) h
set_option maxHeartbeats 4000000 in
set_option maxRecDepth 100000 in
theorem kM_laysBy {p : Program} {l : Launch} {e : Env} {s : State} {m : MethodId} {R : Room} {args : Array Value} {below : List Frame} {meth : Method} {c : Code} {D : va_G} {cl : List vw_C} {a : Nat → Nat} {d : ClassId} {A : Nat → Prop} {Q : State → Prop} {cc : ByteArray} {nL pc : Nat} {ret : Option FieldType} {ls : Array Slot} {rest : List Value}  {I : St} {H : Heap} {locs : List Loc} {Q1 : St → Prop} (F : FM p s m meth c args D cl d A cc nL ret) (G : GM D cl a d A s.heap I H locs) (hsz : ls.size = nL) (hR : rmX5_laysBy.frames + 1 ≤ R.frames ∧ 8 + (2 + 11) + rmX5_laysBy.locals ≤ R.locals) (hW : (rest.map fun v => v.category).sum ≤ 8) (hd : decode cc pc = .ok (.invokevirtual 185, 3)) (h : M_laysBy  I Q1) (k : ∀ (I1 : St) (H : Heap) (locs : List Loc), GM D cl a d A s.heap I1 H locs → Q1 I1 → W p l e R s m args below meth c H locs 0 0 Q (F0 m (pc + 3) ls rest)) : W p l e R s m args below meth c H locs 0 0 Q (F0 m pc ls (.ref (a 0) :: rest)) := by
  obtain ⟨hx, hb, hr, hml, hown, hts, hlocks, hA, hK, hcl⟩ := id F
  exact m_callVv (As := []) F G hsz (wM_laysBy hcl H.size  I Q1 h) (cwV 0 hts (lw_V q1503 q1505 qs62 q90 q1506) rfl rfl rfl (by decide +kernel) hR) rfl rfl hW hd k
/-! behind -/
def M_behind_p60 (Q : Int32 → St → Prop)  (t0 : Int32) (I : St) : Prop := M_laysBack  I (fun I_18 => Q t0 I_18)
def M_behind (v1 : Int32) (v2 : Int32) (I : St) (Q : Int32 → St → Prop) : Prop := M_isIn v1.toInt64 0 100 I (fun r_1 I_2 => (r_1 = 0 → Q (-1000000001) I_2) ∧ (¬ r_1 = 0 → M_isIn v2.toInt64 0 3 I_2 (fun r_4 I_5 => (¬ r_4 = 0 → M_findAll  I_5 (fun I_8 => M_laysBy  I_8 (fun I_10 => M_goesOnMany v1 I_10 (fun I_12 => (3 ≤ v2 → M_manyFit  I_12 (fun r_14 I_15 => M_behind_p60 Q r_14 I_15)) ∧ (¬ 3 ≤ v2 → vp_in (3 + v2) 3040 ∧ (M_behind_p60 Q (I_12 1 ((3 + v2).toNatClampNeg)) I_12)))))) ∧ (r_4 = 0 → Q (-1000000001) I_5))))
abbrev rmX5_behind : Room := { frames := 7, cells := 0, slots := 0, locals := 164 }
set_option maxHeartbeats 4000000 in
set_option maxRecDepth 100000 in
theorem wM_behind_p60 {p : Program} {l : Launch} {e : Env} {s : State} {m : MethodId} {args : Array Value} {below : List Frame} {meth : Method} {c : Code} {D : va_G} {cl : List vw_C} {a : Nat → Nat} {d : ClassId} {A : Nat → Prop} {Q : Int32 → St → Prop}  (F : FM p s m meth c args D cl d A cX5_behind 4 (some .int)) (t0 : Int32) (I : St)  {H : Heap} {locs : List Loc} {ls : Array Slot} (G : GM D cl a d A s.heap I H locs) (hl : lv_has ls 4 [(0, .ref (a 0))]) (h : M_behind_p60 Q t0 I) : wMi p l e rmX5_behind s m args below meth c D cl a d A Q H locs (F0 m 60 ls [.int t0]) := by
  obtain ⟨hx, hb, hr, hml, hown, hts, hlocks, hA, hK, hcl⟩ := id F
  unfold M_behind_p60 at h
  refine lv_istore_n (lv' := [(3, .int t0), (0, .ref (a 0))]) hx hb dX5_behind_60 rfl hl (by decide) rfl (fun ls hl => ?_)
  refine lv_aload_n hx hb dX5_behind_61 rfl (lv_at hl 1 rfl) ?_
  refine kM_laysBack F G hl.1 ⟨Nat.le_of_ble_eq_true rfl, Nat.le_of_ble_eq_true rfl⟩ (Nat.le_of_ble_eq_true rfl) dX5_behind_62 h (fun I_18 H locs G h => ?_)
  refine lv_iload_n hx hb dX5_behind_65 rfl (lv_at hl 0 rfl) ?_
  exact m_iret F G dX5_behind_66 h
set_option maxHeartbeats 4000000 in
set_option maxRecDepth 100000 in
theorem wM_behind {l : Launch} {D : va_G} {cl : List vw_C} {a : Nat → Nat} {d : ClassId} (hcl : cl[5]? = some (RX5, TX5, 32)) (sz : Nat) (v1 : Int32) (v2 : Int32) (I : St) (Q : Int32 → St → Prop) (h : M_behind v1 v2 I Q) : MMi l D cl a d yX5_behind cX5_behind 4 .int rmX5_behind [.ref (a 0), .int v1, .int v2] sz I Q := by
  refine m_enter (Qc := fun A => va_Qi Q (BM D cl a d A) A) hcl (by decide) rfl (Nat.le_of_ble_eq_true rfl) ?_
  intro p e s m below meth c ls A F hG hl
  have G := hG
  have hl : lv_has ls 4 [(0, .ref (a 0)), (1, .int v1), (2, .int v2)] := hl
  obtain ⟨hx, hb, hr, hml, hown, hts, hlocks, hA, hK, hcl⟩ := id F
  unfold M_behind at h
  refine lv_iload_n hx hb dX5_behind_0 rfl (lv_at hl 1 rfl) ?_
  refine lv_i2l (v := v1.toInt64) hx hb dX5_behind_1 rfl ?_
  refine lv_lconst (v := 0) hx hb dX5_behind_2 (by decide) ?_
  refine lv_ldc2 hx hb hown (hts _ q1394) dX5_behind_3 ?_
  refine kM_isIn F G hl.1 ⟨Nat.le_of_ble_eq_true rfl, Nat.le_of_ble_eq_true rfl⟩ (Nat.le_of_ble_eq_true rfl) dX5_behind_6 h (fun r_1 I_2 H locs G h => ?_)
  refine lv_if_eq (tgt := 24) hx hb dX5_behind_9 (by decide) (fun c_3 => ?_) (fun c_3 => ?_)
  · replace h := h.1 c_3
    refine lv_ldc hx hb hown (hts _ q1296) dX5_behind_24 ?_
    exact m_iret F G dX5_behind_26 h
  · replace h := h.2 c_3
    refine lv_iload_n hx hb dX5_behind_12 rfl (lv_at hl 2 rfl) ?_
    refine lv_i2l (v := v2.toInt64) hx hb dX5_behind_13 rfl ?_
    refine lv_lconst (v := 0) hx hb dX5_behind_14 (by decide) ?_
    refine lv_ldc2 hx hb hown (hts _ q1425) dX5_behind_15 ?_
    refine kM_isIn F G hl.1 ⟨Nat.le_of_ble_eq_true rfl, Nat.le_of_ble_eq_true rfl⟩ (Nat.le_of_ble_eq_true rfl) dX5_behind_18 h (fun r_4 I_5 H locs G h => ?_)
    refine lv_if_ne (tgt := 27) hx hb dX5_behind_21 (by decide) (fun c_6 => ?_) (fun c_6 => ?_)
    · replace h := h.1 c_6
      refine lv_aload_n hx hb dX5_behind_27 rfl (lv_at hl 0 rfl) ?_
      refine kM_findAll F G hl.1 ⟨Nat.le_of_ble_eq_true rfl, Nat.le_of_ble_eq_true rfl⟩ (Nat.le_of_ble_eq_true rfl) dX5_behind_28 h (fun I_8 H locs G h => ?_)
      refine lv_aload_n hx hb dX5_behind_31 rfl (lv_at hl 0 rfl) ?_
      refine kM_laysBy F G hl.1 ⟨Nat.le_of_ble_eq_true rfl, Nat.le_of_ble_eq_true rfl⟩ (Nat.le_of_ble_eq_true rfl) dX5_behind_32 h (fun I_10 H locs G h => ?_)
      refine lv_aload_n hx hb dX5_behind_35 rfl (lv_at hl 0 rfl) ?_
      refine lv_iload_n hx hb dX5_behind_36 rfl (lv_at hl 1 rfl) ?_
      refine kM_goesOnMany F G hl.1 ⟨Nat.le_of_ble_eq_true rfl, Nat.le_of_ble_eq_true rfl⟩ (Nat.le_of_ble_eq_true rfl) dX5_behind_37 h (fun I_12 H locs G h => ?_)
      refine lv_iload_n hx hb dX5_behind_40 rfl (lv_at hl 2 rfl) ?_
      refine lv_iconst (v := 3) hx hb dX5_behind_41 (by decide) ?_
      refine lv_icmp_ge (tgt := 56) hx hb dX5_behind_42 (by decide) (fun c_13 => ?_) (fun c_13 => ?_)
      · replace h := h.1 c_13
        refine lv_aload_n hx hb dX5_behind_56 rfl (lv_at hl 0 rfl) ?_
        refine kM_manyFit F G hl.1 ⟨Nat.le_of_ble_eq_true rfl, Nat.le_of_ble_eq_true rfl⟩ (Nat.le_of_ble_eq_true rfl) dX5_behind_57 h (fun r_14 I_15 H locs G h => ?_)
        exact wM_behind_p60 F r_14 I_15  G (lv_sub hl [0] rfl) h
      · replace h := h.2 c_13
        refine lv_aload_n hx hb dX5_behind_45 rfl (lv_at hl 0 rfl) ?_
        refine mg_s F G dX5_behind_46 ?_
        refine lv_iconst (v := 3) hx hb dX5_behind_49 (by decide) ?_
        refine lv_iload_n hx hb dX5_behind_50 rfl (lv_at hl 2 rfl) ?_
        refine lv_iadd hx hb dX5_behind_51 ?_
        obtain ⟨b_16, h⟩ := h
        refine m_ld F G mA_1 b_16 dX5_behind_52 ?_
        refine lv_goto (tgt := 60) hx hb dX5_behind_53 (by decide) ?_
        exact wM_behind_p60 F (I_12 1 ((3 + v2).toNatClampNeg)) I_12  G (lv_sub hl [0] rfl) h
    · replace h := h.2 c_6
      refine lv_ldc hx hb hown (hts _ q1296) dX5_behind_24 ?_
      exact m_iret F G dX5_behind_26 h

/-! listen -/
def M_listen_p33 (Q : Int32 → St → Prop)  (v1 : Int32) (I : St) : Prop := M_laysBack  I (fun I_12 => (60 < v1 → Q (-1000000005) I_12) ∧ (¬ 60 < v1 → Q v1 I_12))
def M_listen_L10 (Q : Int32 → St → Prop)   : Nat → Int32 → St → Prop
  | 0, _, _ => False
  | n + 1, v1, I => (60 < v1 → M_listen_p33 Q v1 I) ∧ (¬ 60 < v1 → M_isSure  I (fun r_6 I_7 => (¬ r_6 = 0 → M_listen_p33 Q v1 I_7) ∧ (r_6 = 0 → M_goesOn  I_7 (fun I_10 => M_listen_L10 Q n (v1 + 1) I_10))))
def M_listen  (I : St) (Q : Int32 → St → Prop) : Prop := M_findAll  I (fun I_2 => M_laysBy  I_2 (fun I_4 => ∃ k10, M_listen_L10 Q k10 0 I_4))
abbrev rmX5_listen : Room := { frames := 6, cells := 0, slots := 0, locals := 142 }
set_option maxHeartbeats 4000000 in
set_option maxRecDepth 100000 in
theorem wM_listen_p33 {p : Program} {l : Launch} {e : Env} {s : State} {m : MethodId} {args : Array Value} {below : List Frame} {meth : Method} {c : Code} {D : va_G} {cl : List vw_C} {a : Nat → Nat} {d : ClassId} {A : Nat → Prop} {Q : Int32 → St → Prop}  (F : FM p s m meth c args D cl d A cX5_listen 2 (some .int)) (v1 : Int32) (I : St)  {H : Heap} {locs : List Loc} {ls : Array Slot} (G : GM D cl a d A s.heap I H locs) (hl : lv_has ls 2 [(0, .ref (a 0)), (1, .int v1)]) (h : M_listen_p33 Q v1 I) : wMi p l e rmX5_listen s m args below meth c D cl a d A Q H locs (F0 m 33 ls []) := by
  obtain ⟨hx, hb, hr, hml, hown, hts, hlocks, hA, hK, hcl⟩ := id F
  unfold M_listen_p33 at h
  refine lv_aload_n hx hb dX5_listen_33 rfl (lv_at hl 0 rfl) ?_
  refine kM_laysBack F G hl.1 ⟨Nat.le_of_ble_eq_true rfl, Nat.le_of_ble_eq_true rfl⟩ (Nat.le_of_ble_eq_true rfl) dX5_listen_34 h (fun I_12 H locs G h => ?_)
  refine lv_iload_n hx hb dX5_listen_37 rfl (lv_at hl 1 rfl) ?_
  refine lv_bipush (v := 60) hx hb dX5_listen_38 (by decide) ?_
  refine lv_icmp_gt (tgt := 47) hx hb dX5_listen_40 (by decide) (fun c_13 => ?_) (fun c_13 => ?_)
  · replace h := h.1 c_13
    refine lv_ldc hx hb hown (hts _ q1431) dX5_listen_47 ?_
    exact m_iret F G dX5_listen_49 h
  · replace h := h.2 c_13
    refine lv_iload_n hx hb dX5_listen_43 rfl (lv_at hl 1 rfl) ?_
    refine lv_goto (tgt := 49) hx hb dX5_listen_44 (by decide) ?_
    exact m_iret F G dX5_listen_49 h
set_option maxHeartbeats 4000000 in
set_option maxRecDepth 100000 in
theorem wM_listen_L10 {p : Program} {l : Launch} {e : Env} {s : State} {m : MethodId} {args : Array Value} {below : List Frame} {meth : Method} {c : Code} {D : va_G} {cl : List vw_C} {a : Nat → Nat} {d : ClassId} {A : Nat → Prop} {Q : Int32 → St → Prop}  (F : FM p s m meth c args D cl d A cX5_listen 2 (some .int))   :
    ∀ (n : Nat) (v1 : Int32) (I : St) (H : Heap) (locs : List Loc) (ls : Array Slot), GM D cl a d A s.heap I H locs → lv_has ls 2 [(0, .ref (a 0)), (1, .int v1)] → M_listen_L10 Q n v1 I → wMi p l e rmX5_listen s m args below meth c D cl a d A Q H locs (F0 m 10 ls []) := by
  obtain ⟨hx, hb, hr, hml, hown, hts, hlocks, hA, hK, hcl⟩ := id F
  intro n
  induction n with
  | zero => intro v1 I H locs ls G hl h; exact absurd h (fun q => q)
  | succ n ih =>
    intro v1 I H locs ls G hl h
    unfold M_listen_L10 at h
    refine lv_iload_n hx hb dX5_listen_10 rfl (lv_at hl 1 rfl) ?_
    refine lv_bipush (v := 60) hx hb dX5_listen_11 (by decide) ?_
    refine lv_icmp_gt (tgt := 33) hx hb dX5_listen_13 (by decide) (fun c_5 => ?_) (fun c_5 => ?_)
    · replace h := h.1 c_5
      exact wM_listen_p33 F v1 I  G (lv_sub hl [0, 1] rfl) h
    · replace h := h.2 c_5
      refine lv_aload_n hx hb dX5_listen_16 rfl (lv_at hl 0 rfl) ?_
      refine kM_isSure F G hl.1 ⟨Nat.le_of_ble_eq_true rfl, Nat.le_of_ble_eq_true rfl⟩ (Nat.le_of_ble_eq_true rfl) dX5_listen_17 h (fun r_6 I_7 H locs G h => ?_)
      refine lv_if_ne (tgt := 33) hx hb dX5_listen_20 (by decide) (fun c_8 => ?_) (fun c_8 => ?_)
      · replace h := h.1 c_8
        exact wM_listen_p33 F v1 I_7  G (lv_sub hl [0, 1] rfl) h
      · replace h := h.2 c_8
        refine lv_aload_n hx hb dX5_listen_23 rfl (lv_at hl 0 rfl) ?_
        refine kM_goesOn F G hl.1 ⟨Nat.le_of_ble_eq_true rfl, Nat.le_of_ble_eq_true rfl⟩ (Nat.le_of_ble_eq_true rfl) dX5_listen_24 h (fun I_10 H locs G h => ?_)
        refine lv_iinc (v := (v1 + 1)) (lv' := [(1, .int (v1 + 1)), (0, .ref (a 0))]) hx hb dX5_listen_27 hl (k := 1) rfl rfl (by decide) rfl (fun ls hl => ?_)
        refine lv_goto (tgt := 10) hx hb dX5_listen_30 (by decide) ?_
        exact ih (v1 + 1) I_10 _ _ _ G (lv_sub hl [1, 0] rfl) h
set_option maxHeartbeats 4000000 in
set_option maxRecDepth 100000 in
theorem wM_listen {l : Launch} {D : va_G} {cl : List vw_C} {a : Nat → Nat} {d : ClassId} (hcl : cl[5]? = some (RX5, TX5, 32)) (sz : Nat)  (I : St) (Q : Int32 → St → Prop) (h : M_listen  I Q) : MMi l D cl a d yX5_listen cX5_listen 2 .int rmX5_listen [.ref (a 0)] sz I Q := by
  refine m_enter (Qc := fun A => va_Qi Q (BM D cl a d A) A) hcl (by decide) rfl (Nat.le_of_ble_eq_true rfl) ?_
  intro p e s m below meth c ls A F hG hl
  have G := hG
  have hl : lv_has ls 2 [(0, .ref (a 0))] := hl
  obtain ⟨hx, hb, hr, hml, hown, hts, hlocks, hA, hK, hcl⟩ := id F
  unfold M_listen at h
  refine lv_aload_n hx hb dX5_listen_0 rfl (lv_at hl 0 rfl) ?_
  refine kM_findAll F G hl.1 ⟨Nat.le_of_ble_eq_true rfl, Nat.le_of_ble_eq_true rfl⟩ (Nat.le_of_ble_eq_true rfl) dX5_listen_1 h (fun I_2 H locs G h => ?_)
  refine lv_aload_n hx hb dX5_listen_4 rfl (lv_at hl 0 rfl) ?_
  refine kM_laysBy F G hl.1 ⟨Nat.le_of_ble_eq_true rfl, Nat.le_of_ble_eq_true rfl⟩ (Nat.le_of_ble_eq_true rfl) dX5_listen_5 h (fun I_4 H locs G h => ?_)
  refine lv_iconst (v := 0) hx hb dX5_listen_8 (by decide) ?_
  refine lv_istore_n (lv' := [(1, .int 0), (0, .ref (a 0))]) hx hb dX5_listen_9 rfl hl (by decide) rfl (fun ls hl => ?_)
  obtain ⟨k10, h⟩ := h
  exact wM_listen_L10 F   k10 0 I_4 _ _ _ G (lv_sub hl [1, 0] rfl) h

/-! fee -/
def M_fee  (I : St) (Q : Int32 → St → Prop) : Prop := M_counts 1 I (fun r_1 I_2 => (0 ≤ r_1 → M_worked r_1 (sA (sA I_2 15 101 (I_2 1 3)) 15 109 ((sA I_2 15 101 (I_2 1 3)) 1 4)) (fun r_4 I_5 => Q r_4 I_5)) ∧ (¬ 0 ≤ r_1 → Q (I_2 1 3) I_2))
abbrev rmX5_fee : Room := { frames := 2, cells := 0, slots := 0, locals := 47 }
set_option maxHeartbeats 4000000 in
set_option maxRecDepth 100000 in
theorem wM_fee {l : Launch} {D : va_G} {cl : List vw_C} {a : Nat → Nat} {d : ClassId} (hcl : cl[5]? = some (RX5, TX5, 32)) (sz : Nat)  (I : St) (Q : Int32 → St → Prop) (h : M_fee  I Q) : MMi l D cl a d yX5_fee cX5_fee 2 .int rmX5_fee [.ref (a 0)] sz I Q := by
  refine m_enter (Qc := fun A => va_Qi Q (BM D cl a d A) A) hcl (by decide) rfl (Nat.le_of_ble_eq_true rfl) ?_
  intro p e s m below meth c ls A F hG hl
  have G := hG
  have hl : lv_has ls 2 [(0, .ref (a 0))] := hl
  obtain ⟨hx, hb, hr, hml, hown, hts, hlocks, hA, hK, hcl⟩ := id F
  unfold M_fee at h
  refine lv_aload_n hx hb dX5_fee_0 rfl (lv_at hl 0 rfl) ?_
  refine lv_iconst (v := 1) hx hb dX5_fee_1 (by decide) ?_
  refine kM_counts F G hl.1 ⟨Nat.le_of_ble_eq_true rfl, Nat.le_of_ble_eq_true rfl⟩ (Nat.le_of_ble_eq_true rfl) dX5_fee_2 h (fun r_1 I_2 H locs G h => ?_)
  refine lv_istore_n (lv' := [(1, .int r_1), (0, .ref (a 0))]) hx hb dX5_fee_5 rfl hl (by decide) rfl (fun ls hl => ?_)
  refine lv_iload_n hx hb dX5_fee_6 rfl (lv_at hl 0 rfl) ?_
  refine lv_if_ge (tgt := 17) hx hb dX5_fee_7 (by decide) (fun c_3 => ?_) (fun c_3 => ?_)
  · replace h := h.1 c_3
    refine lv_aload_n hx hb dX5_fee_17 rfl (lv_at hl 1 rfl) ?_
    refine mg_named F G dX5_fee_18 ?_
    refine lv_bipush (v := 101) hx hb dX5_fee_21 (by decide) ?_
    refine lv_aload_n hx hb dX5_fee_23 rfl (lv_at hl 1 rfl) ?_
    refine mg_s F G dX5_fee_24 ?_
    refine lv_iconst (v := 3) hx hb dX5_fee_27 (by decide) ?_
    refine m_ld F G mA_1 (by unfold vp_in; decide) dX5_fee_28 ?_
    refine m_st F G mA_15 (by unfold vp_in; decide) dX5_fee_29 (fun H locs G => ?_)
    refine lv_aload_n hx hb dX5_fee_30 rfl (lv_at hl 1 rfl) ?_
    refine mg_named F G dX5_fee_31 ?_
    refine lv_bipush (v := 109) hx hb dX5_fee_34 (by decide) ?_
    refine lv_aload_n hx hb dX5_fee_36 rfl (lv_at hl 1 rfl) ?_
    refine mg_s F G dX5_fee_37 ?_
    refine lv_iconst (v := 4) hx hb dX5_fee_40 (by decide) ?_
    refine m_ld F G mA_1 (by unfold vp_in; decide) dX5_fee_41 ?_
    refine m_st F G mA_15 (by unfold vp_in; decide) dX5_fee_42 (fun H locs G => ?_)
    refine lv_aload_n hx hb dX5_fee_43 rfl (lv_at hl 1 rfl) ?_
    refine lv_iload_n hx hb dX5_fee_44 rfl (lv_at hl 0 rfl) ?_
    refine kM_worked F G hl.1 ⟨Nat.le_of_ble_eq_true rfl, Nat.le_of_ble_eq_true rfl⟩ (Nat.le_of_ble_eq_true rfl) dX5_fee_45 h (fun r_4 I_5 H locs G h => ?_)
    exact m_iret F G dX5_fee_48 h
  · replace h := h.2 c_3
    refine lv_aload_n hx hb dX5_fee_10 rfl (lv_at hl 1 rfl) ?_
    refine mg_s F G dX5_fee_11 ?_
    refine lv_iconst (v := 3) hx hb dX5_fee_14 (by decide) ?_
    refine m_ld F G mA_1 (by unfold vp_in; decide) dX5_fee_15 ?_
    exact m_iret F G dX5_fee_16 h

/-! fine -/
def M_fine (v1 : Int32) (I : St) (Q : Int32 → St → Prop) : Prop := M_isClock v1 I (fun r_1 I_2 => (¬ r_1 = 0 → M_counts 2 I_2 (fun r_4 I_5 => (0 ≤ r_4 → M_of v1 1 I_5 (fun r_7 I_8 => M_of v1 2 (sA I_8 15 111 r_7) (fun r_9 I_10 => M_worked r_4 (sA I_10 15 116 r_9) (fun r_11 I_12 => Q r_11 I_12)))) ∧ (¬ 0 ≤ r_4 → M_of v1 1 I_5 (fun r_13 I_14 => Q r_13 I_14)))) ∧ (r_1 = 0 → Q (-1000000001) I_2))
abbrev rmX5_fine : Room := { frames := 2, cells := 0, slots := 0, locals := 47 }
set_option maxHeartbeats 4000000 in
set_option maxRecDepth 100000 in
theorem wM_fine {l : Launch} {D : va_G} {cl : List vw_C} {a : Nat → Nat} {d : ClassId} (hcl : cl[5]? = some (RX5, TX5, 32)) (sz : Nat) (v1 : Int32) (I : St) (Q : Int32 → St → Prop) (h : M_fine v1 I Q) : MMi l D cl a d yX5_fine cX5_fine 3 .int rmX5_fine [.ref (a 0), .int v1] sz I Q := by
  refine m_enter (Qc := fun A => va_Qi Q (BM D cl a d A) A) hcl (by decide) rfl (Nat.le_of_ble_eq_true rfl) ?_
  intro p e s m below meth c ls A F hG hl
  have G := hG
  have hl : lv_has ls 3 [(0, .ref (a 0)), (1, .int v1)] := hl
  obtain ⟨hx, hb, hr, hml, hown, hts, hlocks, hA, hK, hcl⟩ := id F
  unfold M_fine at h
  refine lv_aload_n hx hb dX5_fine_0 rfl (lv_at hl 0 rfl) ?_
  refine lv_iload_n hx hb dX5_fine_1 rfl (lv_at hl 1 rfl) ?_
  refine kM_isClock F G hl.1 ⟨Nat.le_of_ble_eq_true rfl, Nat.le_of_ble_eq_true rfl⟩ (Nat.le_of_ble_eq_true rfl) dX5_fine_2 h (fun r_1 I_2 H locs G h => ?_)
  refine lv_if_ne (tgt := 11) hx hb dX5_fine_5 (by decide) (fun c_3 => ?_) (fun c_3 => ?_)
  · replace h := h.1 c_3
    refine lv_aload_n hx hb dX5_fine_11 rfl (lv_at hl 0 rfl) ?_
    refine lv_iconst (v := 2) hx hb dX5_fine_12 (by decide) ?_
    refine kM_counts F G hl.1 ⟨Nat.le_of_ble_eq_true rfl, Nat.le_of_ble_eq_true rfl⟩ (Nat.le_of_ble_eq_true rfl) dX5_fine_13 h (fun r_4 I_5 H locs G h => ?_)
    refine lv_istore_n (lv' := [(2, .int r_4), (0, .ref (a 0)), (1, .int v1)]) hx hb dX5_fine_16 rfl hl (by decide) rfl (fun ls hl => ?_)
    refine lv_iload_n hx hb dX5_fine_17 rfl (lv_at hl 0 rfl) ?_
    refine lv_if_ge (tgt := 28) hx hb dX5_fine_18 (by decide) (fun c_6 => ?_) (fun c_6 => ?_)
    · replace h := h.1 c_6
      refine lv_aload_n hx hb dX5_fine_28 rfl (lv_at hl 1 rfl) ?_
      refine mg_named F G dX5_fine_29 ?_
      refine lv_bipush (v := 111) hx hb dX5_fine_32 (by decide) ?_
      refine lv_aload_n hx hb dX5_fine_34 rfl (lv_at hl 1 rfl) ?_
      refine lv_iload_n hx hb dX5_fine_35 rfl (lv_at hl 2 rfl) ?_
      refine lv_iconst (v := 1) hx hb dX5_fine_36 (by decide) ?_
      refine kM_of F G hl.1 ⟨Nat.le_of_ble_eq_true rfl, Nat.le_of_ble_eq_true rfl⟩ (Nat.le_of_ble_eq_true rfl) dX5_fine_37 h (fun r_7 I_8 H locs G h => ?_)
      refine m_st F G mA_15 (by unfold vp_in; decide) dX5_fine_40 (fun H locs G => ?_)
      refine lv_aload_n hx hb dX5_fine_41 rfl (lv_at hl 1 rfl) ?_
      refine mg_named F G dX5_fine_42 ?_
      refine lv_bipush (v := 116) hx hb dX5_fine_45 (by decide) ?_
      refine lv_aload_n hx hb dX5_fine_47 rfl (lv_at hl 1 rfl) ?_
      refine lv_iload_n hx hb dX5_fine_48 rfl (lv_at hl 2 rfl) ?_
      refine lv_iconst (v := 2) hx hb dX5_fine_49 (by decide) ?_
      refine kM_of F G hl.1 ⟨Nat.le_of_ble_eq_true rfl, Nat.le_of_ble_eq_true rfl⟩ (Nat.le_of_ble_eq_true rfl) dX5_fine_50 h (fun r_9 I_10 H locs G h => ?_)
      refine m_st F G mA_15 (by unfold vp_in; decide) dX5_fine_53 (fun H locs G => ?_)
      refine lv_aload_n hx hb dX5_fine_54 rfl (lv_at hl 1 rfl) ?_
      refine lv_iload_n hx hb dX5_fine_55 rfl (lv_at hl 0 rfl) ?_
      refine kM_worked F G hl.1 ⟨Nat.le_of_ble_eq_true rfl, Nat.le_of_ble_eq_true rfl⟩ (Nat.le_of_ble_eq_true rfl) dX5_fine_56 h (fun r_11 I_12 H locs G h => ?_)
      exact m_iret F G dX5_fine_59 h
    · replace h := h.2 c_6
      refine lv_aload_n hx hb dX5_fine_21 rfl (lv_at hl 1 rfl) ?_
      refine lv_iload_n hx hb dX5_fine_22 rfl (lv_at hl 2 rfl) ?_
      refine lv_iconst (v := 1) hx hb dX5_fine_23 (by decide) ?_
      refine kM_of F G hl.1 ⟨Nat.le_of_ble_eq_true rfl, Nat.le_of_ble_eq_true rfl⟩ (Nat.le_of_ble_eq_true rfl) dX5_fine_24 h (fun r_13 I_14 H locs G h => ?_)
      exact m_iret F G dX5_fine_27 h
  · replace h := h.2 c_3
    refine lv_ldc hx hb hown (hts _ q1296) dX5_fine_8 ?_
    exact m_iret F G dX5_fine_10 h

/-! feed -/
def M_feed_p47 (Q : Int32 → St → Prop) (K18 : Int32 → St → Prop) (v1 : Int32) (v2 : Int32) (v3 : Int32) (v4 : Int32) (t0 : Int32) (I : St) : Prop := vp_in (I 0 15) 96 ∧ (K18 (v4 + 1) (sF (sA I 14 (I 0 15) ((t0 >>> ((24 - (8 * (v4 - v4 / 4 * 4))) &&& 31)) &&& 255)) 15 (((sA I 14 (I 0 15) ((t0 >>> ((24 - (8 * (v4 - v4 / 4 * 4))) &&& 31)) &&& 255)) 0 15) + 1)))
def M_feed_L18 (Q : Int32 → St → Prop)  (v1 : Int32) (v2 : Int32) (v3 : Int32) : Nat → Int32 → St → Prop
  | 0, _, _ => False
  | n + 1, v4, I => (12 ≤ v4 → Q (I 0 15) I) ∧ (¬ 12 ≤ v4 → (4 ≤ v4 → (8 ≤ v4 → M_feed_p47 Q (fun v4_ I_ => M_feed_L18 Q v1 v2 v3 n v4_ I_) v1 v2 v3 v4 v3 I) ∧ (¬ 8 ≤ v4 → M_feed_p47 Q (fun v4_ I_ => M_feed_L18 Q v1 v2 v3 n v4_ I_) v1 v2 v3 v4 v2 I)) ∧ (¬ 4 ≤ v4 → M_feed_p47 Q (fun v4_ I_ => M_feed_L18 Q v1 v2 v3 n v4_ I_) v1 v2 v3 v4 v1 I))
def M_feed (v1 : Int32) (v2 : Int32) (v3 : Int32) (I : St) (Q : Int32 → St → Prop) : Prop := (((I 0 15) + 12) ≤ 96 → ∃ k18, M_feed_L18 Q v1 v2 v3 k18 0 I) ∧ (¬ ((I 0 15) + 12) ≤ 96 → Q (-1000000003) I)
abbrev rmX5_feed : Room := { frames := 0, cells := 0, slots := 0, locals := 0 }
set_option maxHeartbeats 4000000 in
set_option maxRecDepth 100000 in
theorem wM_feed_p47 {p : Program} {l : Launch} {e : Env} {s : State} {m : MethodId} {args : Array Value} {below : List Frame} {meth : Method} {c : Code} {D : va_G} {cl : List vw_C} {a : Nat → Nat} {d : ClassId} {A : Nat → Prop} {Q : Int32 → St → Prop} {K18 : Int32 → St → Prop} (F : FM p s m meth c args D cl d A cX5_feed 6 (some .int)) (v1 : Int32) (v2 : Int32) (v3 : Int32) (v4 : Int32) (t0 : Int32) (I : St) (hK18 : ∀ (v4 : Int32) (I : St) (H : Heap) (locs : List Loc) (ls : Array Slot), GM D cl a d A s.heap I H locs → lv_has ls 6 [(0, .ref (a 0)), (1, .int v1), (2, .int v2), (3, .int v3), (4, .int v4)] → K18 v4 I → wMi p l e rmX5_feed s m args below meth c D cl a d A Q H locs (F0 m 18 ls [])) {H : Heap} {locs : List Loc} {ls : Array Slot} (G : GM D cl a d A s.heap I H locs) (hl : lv_has ls 6 [(0, .ref (a 0)), (1, .int v1), (2, .int v2), (3, .int v3), (4, .int v4)]) (h : M_feed_p47 Q K18 v1 v2 v3 v4 t0 I) : wMi p l e rmX5_feed s m args below meth c D cl a d A Q H locs (F0 m 47 ls [.int t0]) := by
  obtain ⟨hx, hb, hr, hml, hown, hts, hlocks, hA, hK, hcl⟩ := id F
  unfold M_feed_p47 at h
  refine lv_istore (lv' := [(5, .int t0), (0, .ref (a 0)), (1, .int v1), (2, .int v2), (3, .int v3), (4, .int v4)]) hx hb dX5_feed_47 hl (by decide) rfl (fun ls hl => ?_)
  refine lv_aload_n hx hb dX5_feed_49 rfl (lv_at hl 1 rfl) ?_
  refine mg_tape F G dX5_feed_50 ?_
  refine lv_aload_n hx hb dX5_feed_53 rfl (lv_at hl 1 rfl) ?_
  refine mg_taped F G dX5_feed_54 ?_
  refine lv_iload hx hb dX5_feed_57 (lv_at hl 0 rfl) ?_
  refine lv_bipush (v := 24) hx hb dX5_feed_59 (by decide) ?_
  refine lv_bipush (v := 8) hx hb dX5_feed_61 (by decide) ?_
  refine lv_iload hx hb dX5_feed_63 (lv_at hl 5 rfl) ?_
  refine lv_iconst (v := 4) hx hb dX5_feed_65 (by decide) ?_
  refine lv_irem hx hb dX5_feed_66 (by decide) ?_
  refine lv_imul hx hb dX5_feed_67 ?_
  refine lv_isub hx hb dX5_feed_68 ?_
  refine lv_ishr hx hb dX5_feed_69 ?_
  refine lv_sipush (v := 255) hx hb dX5_feed_70 (by decide) ?_
  refine lv_iand hx hb dX5_feed_73 ?_
  obtain ⟨b_5, h⟩ := h
  refine m_st F G mA_14 b_5 dX5_feed_74 (fun H locs G => ?_)
  refine lv_aload_n hx hb dX5_feed_75 rfl (lv_at hl 1 rfl) ?_
  refine lv_dup hx hb dX5_feed_76 rfl ?_
  refine mg_taped F G dX5_feed_77 ?_
  refine lv_iconst (v := 1) hx hb dX5_feed_80 (by decide) ?_
  refine lv_iadd hx hb dX5_feed_81 ?_
  refine mp_taped F G dX5_feed_82 (fun H locs G => ?_)
  refine lv_iinc (v := (v4 + 1)) (lv' := [(4, .int (v4 + 1)), (5, .int t0), (0, .ref (a 0)), (1, .int v1), (2, .int v2), (3, .int v3)]) hx hb dX5_feed_85 hl (k := 5) rfl rfl (by decide) rfl (fun ls hl => ?_)
  refine lv_goto (tgt := 18) hx hb dX5_feed_88 (by decide) ?_
  exact hK18 (v4 + 1) (sF (sA I 14 (I 0 15) ((t0 >>> ((24 - (8 * (v4 - v4 / 4 * 4))) &&& 31)) &&& 255)) 15 (((sA I 14 (I 0 15) ((t0 >>> ((24 - (8 * (v4 - v4 / 4 * 4))) &&& 31)) &&& 255)) 0 15) + 1)) _ _ _ G (lv_sub hl [2, 3, 4, 5, 0] rfl) h
set_option maxHeartbeats 4000000 in
set_option maxRecDepth 100000 in
theorem wM_feed_L18 {p : Program} {l : Launch} {e : Env} {s : State} {m : MethodId} {args : Array Value} {below : List Frame} {meth : Method} {c : Code} {D : va_G} {cl : List vw_C} {a : Nat → Nat} {d : ClassId} {A : Nat → Prop} {Q : Int32 → St → Prop}  (F : FM p s m meth c args D cl d A cX5_feed 6 (some .int)) (v1 : Int32) (v2 : Int32) (v3 : Int32)  :
    ∀ (n : Nat) (v4 : Int32) (I : St) (H : Heap) (locs : List Loc) (ls : Array Slot), GM D cl a d A s.heap I H locs → lv_has ls 6 [(0, .ref (a 0)), (1, .int v1), (2, .int v2), (3, .int v3), (4, .int v4)] → M_feed_L18 Q v1 v2 v3 n v4 I → wMi p l e rmX5_feed s m args below meth c D cl a d A Q H locs (F0 m 18 ls []) := by
  obtain ⟨hx, hb, hr, hml, hown, hts, hlocks, hA, hK, hcl⟩ := id F
  intro n
  induction n with
  | zero => intro v4 I H locs ls G hl h; exact absurd h (fun q => q)
  | succ n ih =>
    intro v4 I H locs ls G hl h
    unfold M_feed_L18 at h
    refine lv_iload hx hb dX5_feed_18 (lv_at hl 4 rfl) ?_
    refine lv_bipush (v := 12) hx hb dX5_feed_20 (by decide) ?_
    refine lv_icmp_ge (tgt := 91) hx hb dX5_feed_22 (by decide) (fun c_2 => ?_) (fun c_2 => ?_)
    · replace h := h.1 c_2
      refine lv_aload_n hx hb dX5_feed_91 rfl (lv_at hl 0 rfl) ?_
      refine mg_taped F G dX5_feed_92 ?_
      exact m_iret F G dX5_feed_95 h
    · replace h := h.2 c_2
      refine lv_iload hx hb dX5_feed_25 (lv_at hl 4 rfl) ?_
      refine lv_iconst (v := 4) hx hb dX5_feed_27 (by decide) ?_
      refine lv_icmp_ge (tgt := 35) hx hb dX5_feed_28 (by decide) (fun c_3 => ?_) (fun c_3 => ?_)
      · replace h := h.1 c_3
        refine lv_iload hx hb dX5_feed_35 (lv_at hl 4 rfl) ?_
        refine lv_bipush (v := 8) hx hb dX5_feed_37 (by decide) ?_
        refine lv_icmp_ge (tgt := 46) hx hb dX5_feed_39 (by decide) (fun c_4 => ?_) (fun c_4 => ?_)
        · replace h := h.1 c_4
          refine lv_iload_n hx hb dX5_feed_46 rfl (lv_at hl 3 rfl) ?_
          exact wM_feed_p47 F v1 v2 v3 v4 v3 I ih G (lv_sub hl [0, 1, 2, 3, 4] rfl) h
        · replace h := h.2 c_4
          refine lv_iload_n hx hb dX5_feed_42 rfl (lv_at hl 2 rfl) ?_
          refine lv_goto (tgt := 47) hx hb dX5_feed_43 (by decide) ?_
          exact wM_feed_p47 F v1 v2 v3 v4 v2 I ih G (lv_sub hl [0, 1, 2, 3, 4] rfl) h
      · replace h := h.2 c_3
        refine lv_iload_n hx hb dX5_feed_31 rfl (lv_at hl 1 rfl) ?_
        refine lv_goto (tgt := 47) hx hb dX5_feed_32 (by decide) ?_
        exact wM_feed_p47 F v1 v2 v3 v4 v1 I ih G (lv_sub hl [0, 1, 2, 3, 4] rfl) h
set_option maxHeartbeats 4000000 in
set_option maxRecDepth 100000 in
theorem wM_feed {l : Launch} {D : va_G} {cl : List vw_C} {a : Nat → Nat} {d : ClassId} (hcl : cl[5]? = some (RX5, TX5, 32)) (sz : Nat) (v1 : Int32) (v2 : Int32) (v3 : Int32) (I : St) (Q : Int32 → St → Prop) (h : M_feed v1 v2 v3 I Q) : MMi l D cl a d yX5_feed cX5_feed 6 .int rmX5_feed [.ref (a 0), .int v1, .int v2, .int v3] sz I Q := by
  refine m_enter (Qc := fun A => va_Qi Q (BM D cl a d A) A) hcl (by decide) rfl (Nat.le_of_ble_eq_true rfl) ?_
  intro p e s m below meth c ls A F hG hl
  have G := hG
  have hl : lv_has ls 6 [(0, .ref (a 0)), (1, .int v1), (2, .int v2), (3, .int v3)] := hl
  obtain ⟨hx, hb, hr, hml, hown, hts, hlocks, hA, hK, hcl⟩ := id F
  unfold M_feed at h
  refine lv_aload_n hx hb dX5_feed_0 rfl (lv_at hl 0 rfl) ?_
  refine mg_taped F G dX5_feed_1 ?_
  refine lv_bipush (v := 12) hx hb dX5_feed_4 (by decide) ?_
  refine lv_iadd hx hb dX5_feed_6 ?_
  refine lv_bipush (v := 96) hx hb dX5_feed_7 (by decide) ?_
  refine lv_icmp_le (tgt := 15) hx hb dX5_feed_9 (by decide) (fun c_1 => ?_) (fun c_1 => ?_)
  · replace h := h.1 c_1
    refine lv_iconst (v := 0) hx hb dX5_feed_15 (by decide) ?_
    refine lv_istore (lv' := [(4, .int 0), (0, .ref (a 0)), (1, .int v1), (2, .int v2), (3, .int v3)]) hx hb dX5_feed_16 hl (by decide) rfl (fun ls hl => ?_)
    obtain ⟨k18, h⟩ := h
    exact wM_feed_L18 F v1 v2 v3  k18 0 I _ _ _ G (lv_sub hl [1, 2, 3, 4, 0] rfl) h
  · replace h := h.2 c_1
    refine lv_ldc hx hb hown (hts _ q1297) dX5_feed_12 ?_
    exact m_iret F G dX5_feed_14 h

/-! trim -/
def M_trim (v1 : Int32) (I : St) (Q : Int32 → St → Prop) : Prop := M_isIn v1.toInt64 0 ((I 0 15).toInt64) I (fun r_1 I_2 => (¬ r_1 = 0 → Q v1 (sF I_2 15 v1)) ∧ (r_1 = 0 → Q (-1000000001) I_2))
abbrev rmX5_trim : Room := { frames := 1, cells := 0, slots := 0, locals := 25 }
set_option maxHeartbeats 4000000 in
set_option maxRecDepth 100000 in
theorem wM_trim {l : Launch} {D : va_G} {cl : List vw_C} {a : Nat → Nat} {d : ClassId} (hcl : cl[5]? = some (RX5, TX5, 32)) (sz : Nat) (v1 : Int32) (I : St) (Q : Int32 → St → Prop) (h : M_trim v1 I Q) : MMi l D cl a d yX5_trim cX5_trim 2 .int rmX5_trim [.ref (a 0), .int v1] sz I Q := by
  refine m_enter (Qc := fun A => va_Qi Q (BM D cl a d A) A) hcl (by decide) rfl (Nat.le_of_ble_eq_true rfl) ?_
  intro p e s m below meth c ls A F hG hl
  have G := hG
  have hl : lv_has ls 2 [(0, .ref (a 0)), (1, .int v1)] := hl
  obtain ⟨hx, hb, hr, hml, hown, hts, hlocks, hA, hK, hcl⟩ := id F
  unfold M_trim at h
  refine lv_iload_n hx hb dX5_trim_0 rfl (lv_at hl 1 rfl) ?_
  refine lv_i2l (v := v1.toInt64) hx hb dX5_trim_1 rfl ?_
  refine lv_lconst (v := 0) hx hb dX5_trim_2 (by decide) ?_
  refine lv_aload_n hx hb dX5_trim_3 rfl (lv_at hl 0 rfl) ?_
  refine mg_taped F G dX5_trim_4 ?_
  refine lv_i2l (v := (I 0 15).toInt64) hx hb dX5_trim_7 rfl ?_
  refine kM_isIn F G hl.1 ⟨Nat.le_of_ble_eq_true rfl, Nat.le_of_ble_eq_true rfl⟩ (Nat.le_of_ble_eq_true rfl) dX5_trim_8 h (fun r_1 I_2 H locs G h => ?_)
  refine lv_if_ne (tgt := 17) hx hb dX5_trim_11 (by decide) (fun c_3 => ?_) (fun c_3 => ?_)
  · replace h := h.1 c_3
    refine lv_aload_n hx hb dX5_trim_17 rfl (lv_at hl 0 rfl) ?_
    refine lv_iload_n hx hb dX5_trim_18 rfl (lv_at hl 1 rfl) ?_
    refine mp_taped F G dX5_trim_19 (fun H locs G => ?_)
    refine lv_iload_n hx hb dX5_trim_22 rfl (lv_at hl 1 rfl) ?_
    exact m_iret F G dX5_trim_23 h
  · replace h := h.2 c_3
    refine lv_ldc hx hb hown (hts _ q1296) dX5_trim_14 ?_
    exact m_iret F G dX5_trim_16 h

/-! isSign -/
def M_isSign (v1 : Int32) (I : St) (Q : Int32 → St → Prop) : Prop := (¬ (I 0 18) = 3 → Q 0 I) ∧ ((I 0 18) = 3 → (¬ (I 0 20) = v1 → Q 0 I) ∧ ((I 0 20) = v1 → Q 1 I))
abbrev rmX5_isSign : Room := { frames := 0, cells := 0, slots := 0, locals := 0 }
set_option maxHeartbeats 4000000 in
set_option maxRecDepth 100000 in
theorem wM_isSign {l : Launch} {D : va_G} {cl : List vw_C} {a : Nat → Nat} {d : ClassId} (hcl : cl[5]? = some (RX5, TX5, 32)) (sz : Nat) (v1 : Int32) (I : St) (Q : Int32 → St → Prop) (h : M_isSign v1 I Q) : MMi l D cl a d yX5_isSign cX5_isSign 2 .boolean rmX5_isSign [.ref (a 0), .int v1] sz I Q := by
  refine m_enter (Qc := fun A => va_Qi Q (BM D cl a d A) A) hcl (by decide) rfl (Nat.le_of_ble_eq_true rfl) ?_
  intro p e s m below meth c ls A F hG hl
  have G := hG
  have hl : lv_has ls 2 [(0, .ref (a 0)), (1, .int v1)] := hl
  obtain ⟨hx, hb, hr, hml, hown, hts, hlocks, hA, hK, hcl⟩ := id F
  unfold M_isSign at h
  refine lv_aload_n hx hb dX5_isSign_0 rfl (lv_at hl 0 rfl) ?_
  refine mg_token F G dX5_isSign_1 ?_
  refine lv_iconst (v := 3) hx hb dX5_isSign_4 (by decide) ?_
  refine lv_icmp_ne (tgt := 20) hx hb dX5_isSign_5 (by decide) (fun c_1 => ?_) (fun c_1 => ?_)
  · replace h := h.1 c_1
    refine lv_iconst (v := 0) hx hb dX5_isSign_20 (by decide) ?_
    exact m_zret F G rfl dX5_isSign_21 h
  · replace h := h.2 c_1
    refine lv_aload_n hx hb dX5_isSign_8 rfl (lv_at hl 0 rfl) ?_
    refine mg_letter F G dX5_isSign_9 ?_
    refine lv_iload_n hx hb dX5_isSign_12 rfl (lv_at hl 1 rfl) ?_
    refine lv_icmp_ne (tgt := 20) hx hb dX5_isSign_13 (by decide) (fun c_2 => ?_) (fun c_2 => ?_)
    · replace h := h.1 c_2
      refine lv_iconst (v := 0) hx hb dX5_isSign_20 (by decide) ?_
      exact m_zret F G rfl dX5_isSign_21 h
    · replace h := h.2 c_2
      refine lv_iconst (v := 1) hx hb dX5_isSign_16 (by decide) ?_
      refine lv_goto (tgt := 21) hx hb dX5_isSign_17 (by decide) ?_
      exact m_zret F G rfl dX5_isSign_21 h
set_option maxHeartbeats 4000000 in
set_option maxRecDepth 100000 in
theorem kM_isSign {p : Program} {l : Launch} {e : Env} {s : State} {m : MethodId} {R : Room} {args : Array Value} {below : List Frame} {meth : Method} {c : Code} {D : va_G} {cl : List vw_C} {a : Nat → Nat} {d : ClassId} {A : Nat → Prop} {Q : State → Prop} {cc : ByteArray} {nL pc : Nat} {ret : Option FieldType} {ls : Array Slot} {rest : List Value} {v1 : Int32} {I : St} {H : Heap} {locs : List Loc} {Q1 : Int32 → St → Prop} (F : FM p s m meth c args D cl d A cc nL ret) (G : GM D cl a d A s.heap I H locs) (hsz : ls.size = nL) (hR : rmX5_isSign.frames + 1 ≤ R.frames ∧ 8 + (2 + 11) + rmX5_isSign.locals ≤ R.locals) (hW : (rest.map fun v => v.category).sum ≤ 8) (hd : decode cc pc = .ok (.invokevirtual 241, 3)) (h : M_isSign v1 I Q1) (k : ∀ (r : Int32) (I1 : St) (H : Heap) (locs : List Loc), GM D cl a d A s.heap I1 H locs → Q1 r I1 → W p l e R s m args below meth c H locs 0 0 Q (F0 m (pc + 3) ls (.int r :: rest))) : W p l e R s m args below meth c H locs 0 0 Q (F0 m pc ls (.int v1 :: .ref (a 0) :: rest)) := by
  obtain ⟨hx, hb, hr, hml, hown, hts, hlocks, hA, hK, hcl⟩ := id F
  exact m_callVi (As := [.int v1]) F G hsz (wM_isSign hcl H.size v1 I Q1 h) (cwV 1 hts (lw_V q1598 q1600 qs78 q90 q1601) rfl rfl rfl (by decide +kernel) hR) rfl rfl hW hd k
/-! isDigit -/
def M_isDigit (v1 : Int32) (I : St) (Q : Int32 → St → Prop) : Prop := ((I 0 15) ≤ v1 → Q 0 I) ∧ (¬ (I 0 15) ≤ v1 → vp_in v1 96 ∧ (M_isIn ((I 14 (v1.toNatClampNeg)).toInt64) 48 57 I (fun r_3 I_4 => (r_3 = 0 → Q 0 I_4) ∧ (¬ r_3 = 0 → Q 1 I_4))))
abbrev rmX5_isDigit : Room := { frames := 1, cells := 0, slots := 0, locals := 25 }
set_option maxHeartbeats 4000000 in
set_option maxRecDepth 100000 in
theorem wM_isDigit {l : Launch} {D : va_G} {cl : List vw_C} {a : Nat → Nat} {d : ClassId} (hcl : cl[5]? = some (RX5, TX5, 32)) (sz : Nat) (v1 : Int32) (I : St) (Q : Int32 → St → Prop) (h : M_isDigit v1 I Q) : MMi l D cl a d yX5_isDigit cX5_isDigit 2 .boolean rmX5_isDigit [.ref (a 0), .int v1] sz I Q := by
  refine m_enter (Qc := fun A => va_Qi Q (BM D cl a d A) A) hcl (by decide) rfl (Nat.le_of_ble_eq_true rfl) ?_
  intro p e s m below meth c ls A F hG hl
  have G := hG
  have hl : lv_has ls 2 [(0, .ref (a 0)), (1, .int v1)] := hl
  obtain ⟨hx, hb, hr, hml, hown, hts, hlocks, hA, hK, hcl⟩ := id F
  unfold M_isDigit at h
  refine lv_iload_n hx hb dX5_isDigit_0 rfl (lv_at hl 1 rfl) ?_
  refine lv_aload_n hx hb dX5_isDigit_1 rfl (lv_at hl 0 rfl) ?_
  refine mg_taped F G dX5_isDigit_2 ?_
  refine lv_icmp_ge (tgt := 31) hx hb dX5_isDigit_5 (by decide) (fun c_1 => ?_) (fun c_1 => ?_)
  · replace h := h.1 c_1
    refine lv_iconst (v := 0) hx hb dX5_isDigit_31 (by decide) ?_
    exact m_zret F G rfl dX5_isDigit_32 h
  · replace h := h.2 c_1
    refine lv_aload_n hx hb dX5_isDigit_8 rfl (lv_at hl 0 rfl) ?_
    refine mg_tape F G dX5_isDigit_9 ?_
    refine lv_iload_n hx hb dX5_isDigit_12 rfl (lv_at hl 1 rfl) ?_
    obtain ⟨b_2, h⟩ := h
    refine m_ld F G mA_14 b_2 dX5_isDigit_13 ?_
    refine lv_i2l (v := (I 14 (v1.toNatClampNeg)).toInt64) hx hb dX5_isDigit_14 rfl ?_
    refine lv_ldc2 hx hb hown (hts _ q1553) dX5_isDigit_15 ?_
    refine lv_ldc2 hx hb hown (hts _ q1554) dX5_isDigit_18 ?_
    refine kM_isIn F G hl.1 ⟨Nat.le_of_ble_eq_true rfl, Nat.le_of_ble_eq_true rfl⟩ (Nat.le_of_ble_eq_true rfl) dX5_isDigit_21 h (fun r_3 I_4 H locs G h => ?_)
    refine lv_if_eq (tgt := 31) hx hb dX5_isDigit_24 (by decide) (fun c_5 => ?_) (fun c_5 => ?_)
    · replace h := h.1 c_5
      refine lv_iconst (v := 0) hx hb dX5_isDigit_31 (by decide) ?_
      exact m_zret F G rfl dX5_isDigit_32 h
    · replace h := h.2 c_5
      refine lv_iconst (v := 1) hx hb dX5_isDigit_27 (by decide) ?_
      refine lv_goto (tgt := 32) hx hb dX5_isDigit_28 (by decide) ?_
      exact m_zret F G rfl dX5_isDigit_32 h
set_option maxHeartbeats 4000000 in
set_option maxRecDepth 100000 in
theorem kM_isDigit {p : Program} {l : Launch} {e : Env} {s : State} {m : MethodId} {R : Room} {args : Array Value} {below : List Frame} {meth : Method} {c : Code} {D : va_G} {cl : List vw_C} {a : Nat → Nat} {d : ClassId} {A : Nat → Prop} {Q : State → Prop} {cc : ByteArray} {nL pc : Nat} {ret : Option FieldType} {ls : Array Slot} {rest : List Value} {v1 : Int32} {I : St} {H : Heap} {locs : List Loc} {Q1 : Int32 → St → Prop} (F : FM p s m meth c args D cl d A cc nL ret) (G : GM D cl a d A s.heap I H locs) (hsz : ls.size = nL) (hR : rmX5_isDigit.frames + 1 ≤ R.frames ∧ 8 + (2 + 11) + rmX5_isDigit.locals ≤ R.locals) (hW : (rest.map fun v => v.category).sum ≤ 8) (hd : decode cc pc = .ok (.invokevirtual 218, 3)) (h : M_isDigit v1 I Q1) (k : ∀ (r : Int32) (I1 : St) (H : Heap) (locs : List Loc), GM D cl a d A s.heap I1 H locs → Q1 r I1 → W p l e R s m args below meth c H locs 0 0 Q (F0 m (pc + 3) ls (.int r :: rest))) : W p l e R s m args below meth c H locs 0 0 Q (F0 m pc ls (.int v1 :: .ref (a 0) :: rest)) := by
  obtain ⟨hx, hb, hr, hml, hown, hts, hlocks, hA, hK, hcl⟩ := id F
  exact m_callVi (As := [.int v1]) F G hsz (wM_isDigit hcl H.size v1 I Q1 h) (cwV 1 hts (lw_V q1549 q1551 qs67 q90 q1552) rfl rfl rfl (by decide +kernel) hR) rfl rfl hW hd k
/-! isLetter -/
def M_isLetter (v1 : Int32) (I : St) (Q : Int32 → St → Prop) : Prop := ((I 0 15) ≤ v1 → Q 0 I) ∧ (¬ (I 0 15) ≤ v1 → vp_in v1 96 ∧ (M_isIn ((I 14 (v1.toNatClampNeg)).toInt64) 97 122 I (fun r_3 I_4 => (r_3 = 0 → Q 0 I_4) ∧ (¬ r_3 = 0 → Q 1 I_4))))
abbrev rmX5_isLetter : Room := { frames := 1, cells := 0, slots := 0, locals := 25 }
set_option maxHeartbeats 4000000 in
set_option maxRecDepth 100000 in
theorem wM_isLetter {l : Launch} {D : va_G} {cl : List vw_C} {a : Nat → Nat} {d : ClassId} (hcl : cl[5]? = some (RX5, TX5, 32)) (sz : Nat) (v1 : Int32) (I : St) (Q : Int32 → St → Prop) (h : M_isLetter v1 I Q) : MMi l D cl a d yX5_isLetter cX5_isLetter 2 .boolean rmX5_isLetter [.ref (a 0), .int v1] sz I Q := by
  refine m_enter (Qc := fun A => va_Qi Q (BM D cl a d A) A) hcl (by decide) rfl (Nat.le_of_ble_eq_true rfl) ?_
  intro p e s m below meth c ls A F hG hl
  have G := hG
  have hl : lv_has ls 2 [(0, .ref (a 0)), (1, .int v1)] := hl
  obtain ⟨hx, hb, hr, hml, hown, hts, hlocks, hA, hK, hcl⟩ := id F
  unfold M_isLetter at h
  refine lv_iload_n hx hb dX5_isLetter_0 rfl (lv_at hl 1 rfl) ?_
  refine lv_aload_n hx hb dX5_isLetter_1 rfl (lv_at hl 0 rfl) ?_
  refine mg_taped F G dX5_isLetter_2 ?_
  refine lv_icmp_ge (tgt := 31) hx hb dX5_isLetter_5 (by decide) (fun c_1 => ?_) (fun c_1 => ?_)
  · replace h := h.1 c_1
    refine lv_iconst (v := 0) hx hb dX5_isLetter_31 (by decide) ?_
    exact m_zret F G rfl dX5_isLetter_32 h
  · replace h := h.2 c_1
    refine lv_aload_n hx hb dX5_isLetter_8 rfl (lv_at hl 0 rfl) ?_
    refine mg_tape F G dX5_isLetter_9 ?_
    refine lv_iload_n hx hb dX5_isLetter_12 rfl (lv_at hl 1 rfl) ?_
    obtain ⟨b_2, h⟩ := h
    refine m_ld F G mA_14 b_2 dX5_isLetter_13 ?_
    refine lv_i2l (v := (I 14 (v1.toNatClampNeg)).toInt64) hx hb dX5_isLetter_14 rfl ?_
    refine lv_ldc2 hx hb hown (hts _ q1547) dX5_isLetter_15 ?_
    refine lv_ldc2 hx hb hown (hts _ q1548) dX5_isLetter_18 ?_
    refine kM_isIn F G hl.1 ⟨Nat.le_of_ble_eq_true rfl, Nat.le_of_ble_eq_true rfl⟩ (Nat.le_of_ble_eq_true rfl) dX5_isLetter_21 h (fun r_3 I_4 H locs G h => ?_)
    refine lv_if_eq (tgt := 31) hx hb dX5_isLetter_24 (by decide) (fun c_5 => ?_) (fun c_5 => ?_)
    · replace h := h.1 c_5
      refine lv_iconst (v := 0) hx hb dX5_isLetter_31 (by decide) ?_
      exact m_zret F G rfl dX5_isLetter_32 h
    · replace h := h.2 c_5
      refine lv_iconst (v := 1) hx hb dX5_isLetter_27 (by decide) ?_
      refine lv_goto (tgt := 32) hx hb dX5_isLetter_28 (by decide) ?_
      exact m_zret F G rfl dX5_isLetter_32 h
set_option maxHeartbeats 4000000 in
set_option maxRecDepth 100000 in
theorem kM_isLetter {p : Program} {l : Launch} {e : Env} {s : State} {m : MethodId} {R : Room} {args : Array Value} {below : List Frame} {meth : Method} {c : Code} {D : va_G} {cl : List vw_C} {a : Nat → Nat} {d : ClassId} {A : Nat → Prop} {Q : State → Prop} {cc : ByteArray} {nL pc : Nat} {ret : Option FieldType} {ls : Array Slot} {rest : List Value} {v1 : Int32} {I : St} {H : Heap} {locs : List Loc} {Q1 : Int32 → St → Prop} (F : FM p s m meth c args D cl d A cc nL ret) (G : GM D cl a d A s.heap I H locs) (hsz : ls.size = nL) (hR : rmX5_isLetter.frames + 1 ≤ R.frames ∧ 8 + (2 + 11) + rmX5_isLetter.locals ≤ R.locals) (hW : (rest.map fun v => v.category).sum ≤ 8) (hd : decode cc pc = .ok (.invokevirtual 212, 3)) (h : M_isLetter v1 I Q1) (k : ∀ (r : Int32) (I1 : St) (H : Heap) (locs : List Loc), GM D cl a d A s.heap I1 H locs → Q1 r I1 → W p l e R s m args below meth c H locs 0 0 Q (F0 m (pc + 3) ls (.int r :: rest))) : W p l e R s m args below meth c H locs 0 0 Q (F0 m pc ls (.int v1 :: .ref (a 0) :: rest)) := by
  obtain ⟨hx, hb, hr, hml, hown, hts, hlocks, hA, hK, hcl⟩ := id F
  exact m_callVi (As := [.int v1]) F G hsz (wM_isLetter hcl H.size v1 I Q1 h) (cwV 1 hts (lw_V q1543 q1545 qs66 q90 q1546) rfl rfl rfl (by decide +kernel) hR) rfl rfl hW hd k
/-! nextToken -/
def M_nextToken_p305 (Q : St → Prop)  (t0 : Int32) (I : St) : Prop := Q (sF I 18 t0)
def M_nextToken_p300 (Q : St → Prop)   (I : St) : Prop := M_nextToken_p305 Q 4 I
def M_nextToken_p266 (Q : St → Prop) (K214 : St → Prop) (v1 : Int32) (t0 : Int32) (I : St) : Prop := K214  (sF (sF I 19 t0) 17 (((sF I 19 t0) 0 17) + 1))
def M_nextToken_L214 (Q : St → Prop)  (v1 : Int32) : Nat → St → Prop
  | 0, _ => False
  | n + 1, I => M_isDigit (I 0 17) I (fun r_18 I_19 => (r_18 = 0 → (¬ v1 = 0 → M_nextToken_p300 Q  I_19) ∧ (v1 = 0 → (((I_19 0 17) - (I_19 0 16)) ≤ 4 → M_nextToken_p305 Q 2 I_19) ∧ (¬ ((I_19 0 17) - (I_19 0 16)) ≤ 4 → M_nextToken_p300 Q  I_19))) ∧ (¬ r_18 = 0 → (4 ≤ ((I_19 0 17) - (I_19 0 16)) → M_nextToken_p266 Q (fun  I_ => M_nextToken_L214 Q v1 n  I_) v1 (I_19 0 19) I_19) ∧ (¬ 4 ≤ ((I_19 0 17) - (I_19 0 16)) → vp_in (I_19 0 17) 96 ∧ (M_nextToken_p266 Q (fun  I_ => M_nextToken_L214 Q v1 n  I_) v1 (((10 * (I_19 0 19)) + (I_19 14 ((I_19 0 17).toNatClampNeg))) - 48) I_19))))
def M_nextToken_p192 (Q : St → Prop)  (t0 : Int32) (I : St) : Prop := Q (sF I 20 t0)
def M_nextToken_p162 (Q : St → Prop)  (t0 : Int32) (I : St) : Prop := (¬ (((sF I 18 t0) 0 17) - ((sF I 18 t0) 0 16)) = 1 → M_nextToken_p192 Q 0 (sF I 18 t0)) ∧ ((((sF I 18 t0) 0 17) - ((sF I 18 t0) 0 16)) = 1 → vp_in ((sF I 18 t0) 0 16) 96 ∧ (M_nextToken_p192 Q ((sF I 18 t0) 14 (((sF I 18 t0) 0 16).toNatClampNeg)) (sF I 18 t0)))
def M_nextToken_L128 (Q : St → Prop)  (v1 : Int32) : Nat → St → Prop
  | 0, _ => False
  | n + 1, I => M_isLetter (I 0 17) I (fun r_25 I_26 => (r_25 = 0 → (v1 = 0 → M_nextToken_p162 Q 1 I_26) ∧ (¬ v1 = 0 → M_nextToken_p162 Q 4 I_26)) ∧ (¬ r_25 = 0 → M_nextToken_L128 Q v1 n  (sF I_26 17 ((I_26 0 17) + 1))))
def M_nextToken_p89 (Q : St → Prop)  (t0 : Int32) (I : St) : Prop := (¬ ((sF I 16 (I 0 17)) 0 16) = ((sF I 16 (I 0 17)) 0 15) → M_isLetter ((sF I 16 (I 0 17)) 0 16) (sF I 16 (I 0 17)) (fun r_11 I_12 => (r_11 = 0 → M_isDigit (I_12 0 16) I_12 (fun r_14 I_15 => (r_14 = 0 → vp_in ((sF I_15 18 3) 0 16) 96 ∧ (Q (sF (sF (sF I_15 18 3) 20 ((sF I_15 18 3) 14 (((sF I_15 18 3) 0 16).toNatClampNeg))) 17 (((sF (sF I_15 18 3) 20 ((sF I_15 18 3) 14 (((sF I_15 18 3) 0 16).toNatClampNeg))) 0 17) + 1)))) ∧ (¬ r_14 = 0 → ∃ k214, M_nextToken_L214 Q t0 k214  (sF I_15 19 0)))) ∧ (¬ r_11 = 0 → ∃ k128, M_nextToken_L128 Q t0 k128  I_12))) ∧ (((sF I 16 (I 0 17)) 0 16) = ((sF I 16 (I 0 17)) 0 15) → Q (sF (sF I 16 (I 0 17)) 18 0))
def M_nextToken_p88 (Q : St → Prop)   (I : St) : Prop := M_nextToken_p89 Q 0 I
def M_nextToken_p72 (Q : St → Prop)  (v1 : Int32) (v2 : Int32) (I : St) : Prop := (v1 = 0 → M_nextToken_p88 Q  I) ∧ (¬ v1 = 0 → (¬ v2 = (I 0 17) → M_nextToken_p88 Q  I) ∧ (v2 = (I 0 17) → M_nextToken_p89 Q 1 I))
def M_nextToken_L34 (Q : St → Prop)  (v1 : Int32) (v2 : Int32) : Nat → St → Prop
  | 0, _ => False
  | n + 1, I => ((I 0 15) ≤ (I 0 17) → M_nextToken_p72 Q v1 v2 I) ∧ (¬ (I 0 15) ≤ (I 0 17) → vp_in (I 0 17) 96 ∧ ((¬ (I 14 ((I 0 17).toNatClampNeg)) = 32 → M_nextToken_p72 Q v1 v2 I) ∧ ((I 14 ((I 0 17).toNatClampNeg)) = 32 → M_nextToken_L34 Q v1 v2 n  (sF I 17 ((I 0 17) + 1)))))
def M_nextToken_p28 (Q : St → Prop)  (t0 : Int32) (I : St) : Prop := ∀ x_4 : Int32, x_4 = (I 0 17) → ∃ k34, M_nextToken_L34 Q t0 x_4 k34  I
def M_nextToken_p27 (Q : St → Prop)   (I : St) : Prop := M_nextToken_p28 Q 0 I
def M_nextToken_p23 (Q : St → Prop)   (I : St) : Prop := M_nextToken_p28 Q 1 I
def M_nextToken  (I : St) (Q : St → Prop) : Prop := ((I 0 17) ≤ 0 → M_nextToken_p27 Q  I) ∧ (¬ (I 0 17) ≤ 0 → ((I 0 18) = 1 → M_nextToken_p23 Q  I) ∧ (¬ (I 0 18) = 1 → (¬ (I 0 18) = 2 → M_nextToken_p27 Q  I) ∧ ((I 0 18) = 2 → M_nextToken_p23 Q  I)))
abbrev rmX5_nextToken : Room := { frames := 2, cells := 0, slots := 0, locals := 46 }
set_option maxHeartbeats 4000000 in
set_option maxRecDepth 100000 in
theorem wM_nextToken_p305 {p : Program} {l : Launch} {e : Env} {s : State} {m : MethodId} {args : Array Value} {below : List Frame} {meth : Method} {c : Code} {D : va_G} {cl : List vw_C} {a : Nat → Nat} {d : ClassId} {A : Nat → Prop} {Q : St → Prop}  (F : FM p s m meth c args D cl d A cX5_nextToken 3 none) (t0 : Int32) (I : St)  {H : Heap} {locs : List Loc} {ls : Array Slot} (G : GM D cl a d A s.heap I H locs) (hl : lv_has ls 3 []) (h : M_nextToken_p305 Q t0 I) : wMv p l e rmX5_nextToken s m args below meth c D cl a d A Q H locs (F0 m 305 ls [.int t0, .ref (a 0)]) := by
  obtain ⟨hx, hb, hr, hml, hown, hts, hlocks, hA, hK, hcl⟩ := id F
  unfold M_nextToken_p305 at h
  refine mp_token F G dX5_nextToken_305 (fun H locs G => ?_)
  refine lv_goto (tgt := 339) hx hb dX5_nextToken_308 (by decide) ?_
  exact m_vret F G dX5_nextToken_339 h
set_option maxHeartbeats 4000000 in
set_option maxRecDepth 100000 in
theorem wM_nextToken_p300 {p : Program} {l : Launch} {e : Env} {s : State} {m : MethodId} {args : Array Value} {below : List Frame} {meth : Method} {c : Code} {D : va_G} {cl : List vw_C} {a : Nat → Nat} {d : ClassId} {A : Nat → Prop} {Q : St → Prop}  (F : FM p s m meth c args D cl d A cX5_nextToken 3 none)  (I : St)  {H : Heap} {locs : List Loc} {ls : Array Slot} (G : GM D cl a d A s.heap I H locs) (hl : lv_has ls 3 []) (h : M_nextToken_p300 Q I) : wMv p l e rmX5_nextToken s m args below meth c D cl a d A Q H locs (F0 m 300 ls [.ref (a 0)]) := by
  obtain ⟨hx, hb, hr, hml, hown, hts, hlocks, hA, hK, hcl⟩ := id F
  unfold M_nextToken_p300 at h
  refine lv_iconst (v := 4) hx hb dX5_nextToken_300 (by decide) ?_
  refine lv_goto (tgt := 305) hx hb dX5_nextToken_301 (by decide) ?_
  exact wM_nextToken_p305 F 4 I  G (lv_sub hl [] rfl) h
set_option maxHeartbeats 4000000 in
set_option maxRecDepth 100000 in
theorem wM_nextToken_p266 {p : Program} {l : Launch} {e : Env} {s : State} {m : MethodId} {args : Array Value} {below : List Frame} {meth : Method} {c : Code} {D : va_G} {cl : List vw_C} {a : Nat → Nat} {d : ClassId} {A : Nat → Prop} {Q : St → Prop} {K214 : St → Prop} (F : FM p s m meth c args D cl d A cX5_nextToken 3 none) (v1 : Int32) (t0 : Int32) (I : St) (hK214 : ∀  (I : St) (H : Heap) (locs : List Loc) (ls : Array Slot), GM D cl a d A s.heap I H locs → lv_has ls 3 [(0, .ref (a 0)), (1, .int v1)] → K214  I → wMv p l e rmX5_nextToken s m args below meth c D cl a d A Q H locs (F0 m 214 ls [])) {H : Heap} {locs : List Loc} {ls : Array Slot} (G : GM D cl a d A s.heap I H locs) (hl : lv_has ls 3 [(0, .ref (a 0)), (1, .int v1)]) (h : M_nextToken_p266 Q K214 v1 t0 I) : wMv p l e rmX5_nextToken s m args below meth c D cl a d A Q H locs (F0 m 266 ls [.int t0, .ref (a 0)]) := by
  obtain ⟨hx, hb, hr, hml, hown, hts, hlocks, hA, hK, hcl⟩ := id F
  unfold M_nextToken_p266 at h
  refine mp_number F G dX5_nextToken_266 (fun H locs G => ?_)
  refine lv_aload_n hx hb dX5_nextToken_269 rfl (lv_at hl 0 rfl) ?_
  refine lv_dup hx hb dX5_nextToken_270 rfl ?_
  refine mg_behind F G dX5_nextToken_271 ?_
  refine lv_iconst (v := 1) hx hb dX5_nextToken_274 (by decide) ?_
  refine lv_iadd hx hb dX5_nextToken_275 ?_
  refine mp_behind F G dX5_nextToken_276 (fun H locs G => ?_)
  refine lv_goto (tgt := 214) hx hb dX5_nextToken_279 (by decide) ?_
  exact hK214  (sF (sF I 19 t0) 17 (((sF I 19 t0) 0 17) + 1)) _ _ _ G (lv_sub hl [0, 1] rfl) h
set_option maxHeartbeats 4000000 in
set_option maxRecDepth 100000 in
theorem wM_nextToken_L214 {p : Program} {l : Launch} {e : Env} {s : State} {m : MethodId} {args : Array Value} {below : List Frame} {meth : Method} {c : Code} {D : va_G} {cl : List vw_C} {a : Nat → Nat} {d : ClassId} {A : Nat → Prop} {Q : St → Prop}  (F : FM p s m meth c args D cl d A cX5_nextToken 3 none) (v1 : Int32)  :
    ∀ (n : Nat)  (I : St) (H : Heap) (locs : List Loc) (ls : Array Slot), GM D cl a d A s.heap I H locs → lv_has ls 3 [(0, .ref (a 0)), (1, .int v1)] → M_nextToken_L214 Q v1 n I → wMv p l e rmX5_nextToken s m args below meth c D cl a d A Q H locs (F0 m 214 ls []) := by
  obtain ⟨hx, hb, hr, hml, hown, hts, hlocks, hA, hK, hcl⟩ := id F
  intro n
  induction n with
  | zero => intro  I H locs ls G hl h; exact absurd h (fun q => q)
  | succ n ih =>
    intro  I H locs ls G hl h
    unfold M_nextToken_L214 at h
    refine lv_aload_n hx hb dX5_nextToken_214 rfl (lv_at hl 0 rfl) ?_
    refine lv_aload_n hx hb dX5_nextToken_215 rfl (lv_at hl 0 rfl) ?_
    refine mg_behind F G dX5_nextToken_216 ?_
    refine kM_isDigit F G hl.1 ⟨Nat.le_of_ble_eq_true rfl, Nat.le_of_ble_eq_true rfl⟩ (Nat.le_of_ble_eq_true rfl) dX5_nextToken_219 h (fun r_18 I_19 H locs G h => ?_)
    refine lv_if_eq (tgt := 282) hx hb dX5_nextToken_222 (by decide) (fun c_20 => ?_) (fun c_20 => ?_)
    · replace h := h.1 c_20
      refine lv_aload_n hx hb dX5_nextToken_282 rfl (lv_at hl 0 rfl) ?_
      refine lv_iload_n hx hb dX5_nextToken_283 rfl (lv_at hl 1 rfl) ?_
      refine lv_if_ne (tgt := 300) hx hb dX5_nextToken_284 (by decide) (fun c_21 => ?_) (fun c_21 => ?_)
      · replace h := h.1 c_21
        exact wM_nextToken_p300 F  I_19  G (lv_sub hl [] rfl) h
      · replace h := h.2 c_21
        refine lv_aload_n hx hb dX5_nextToken_287 rfl (lv_at hl 0 rfl) ?_
        refine mg_behind F G dX5_nextToken_288 ?_
        refine lv_aload_n hx hb dX5_nextToken_291 rfl (lv_at hl 0 rfl) ?_
        refine mg_begin F G dX5_nextToken_292 ?_
        refine lv_isub hx hb dX5_nextToken_295 ?_
        refine lv_iconst (v := 4) hx hb dX5_nextToken_296 (by decide) ?_
        refine lv_icmp_le (tgt := 304) hx hb dX5_nextToken_297 (by decide) (fun c_22 => ?_) (fun c_22 => ?_)
        · replace h := h.1 c_22
          refine lv_iconst (v := 2) hx hb dX5_nextToken_304 (by decide) ?_
          exact wM_nextToken_p305 F 2 I_19  G (lv_sub hl [] rfl) h
        · replace h := h.2 c_22
          exact wM_nextToken_p300 F  I_19  G (lv_sub hl [] rfl) h
    · replace h := h.2 c_20
      refine lv_aload_n hx hb dX5_nextToken_225 rfl (lv_at hl 0 rfl) ?_
      refine lv_aload_n hx hb dX5_nextToken_226 rfl (lv_at hl 0 rfl) ?_
      refine mg_behind F G dX5_nextToken_227 ?_
      refine lv_aload_n hx hb dX5_nextToken_230 rfl (lv_at hl 0 rfl) ?_
      refine mg_begin F G dX5_nextToken_231 ?_
      refine lv_isub hx hb dX5_nextToken_234 ?_
      refine lv_iconst (v := 4) hx hb dX5_nextToken_235 (by decide) ?_
      refine lv_icmp_ge (tgt := 262) hx hb dX5_nextToken_236 (by decide) (fun c_23 => ?_) (fun c_23 => ?_)
      · replace h := h.1 c_23
        refine lv_aload_n hx hb dX5_nextToken_262 rfl (lv_at hl 0 rfl) ?_
        refine mg_number F G dX5_nextToken_263 ?_
        exact wM_nextToken_p266 F v1 (I_19 0 19) I_19 ih G (lv_sub hl [0, 1] rfl) h
      · replace h := h.2 c_23
        refine lv_bipush (v := 10) hx hb dX5_nextToken_239 (by decide) ?_
        refine lv_aload_n hx hb dX5_nextToken_241 rfl (lv_at hl 0 rfl) ?_
        refine mg_number F G dX5_nextToken_242 ?_
        refine lv_imul hx hb dX5_nextToken_245 ?_
        refine lv_aload_n hx hb dX5_nextToken_246 rfl (lv_at hl 0 rfl) ?_
        refine mg_tape F G dX5_nextToken_247 ?_
        refine lv_aload_n hx hb dX5_nextToken_250 rfl (lv_at hl 0 rfl) ?_
        refine mg_behind F G dX5_nextToken_251 ?_
        obtain ⟨b_24, h⟩ := h
        refine m_ld F G mA_14 b_24 dX5_nextToken_254 ?_
        refine lv_iadd hx hb dX5_nextToken_255 ?_
        refine lv_bipush (v := 48) hx hb dX5_nextToken_256 (by decide) ?_
        refine lv_isub hx hb dX5_nextToken_258 ?_
        refine lv_goto (tgt := 266) hx hb dX5_nextToken_259 (by decide) ?_
        exact wM_nextToken_p266 F v1 (((10 * (I_19 0 19)) + (I_19 14 ((I_19 0 17).toNatClampNeg))) - 48) I_19 ih G (lv_sub hl [0, 1] rfl) h
set_option maxHeartbeats 4000000 in
set_option maxRecDepth 100000 in
theorem wM_nextToken_p192 {p : Program} {l : Launch} {e : Env} {s : State} {m : MethodId} {args : Array Value} {below : List Frame} {meth : Method} {c : Code} {D : va_G} {cl : List vw_C} {a : Nat → Nat} {d : ClassId} {A : Nat → Prop} {Q : St → Prop}  (F : FM p s m meth c args D cl d A cX5_nextToken 3 none) (t0 : Int32) (I : St)  {H : Heap} {locs : List Loc} {ls : Array Slot} (G : GM D cl a d A s.heap I H locs) (hl : lv_has ls 3 []) (h : M_nextToken_p192 Q t0 I) : wMv p l e rmX5_nextToken s m args below meth c D cl a d A Q H locs (F0 m 192 ls [.int t0, .ref (a 0)]) := by
  obtain ⟨hx, hb, hr, hml, hown, hts, hlocks, hA, hK, hcl⟩ := id F
  unfold M_nextToken_p192 at h
  refine mp_letter F G dX5_nextToken_192 (fun H locs G => ?_)
  refine lv_goto (tgt := 339) hx hb dX5_nextToken_195 (by decide) ?_
  exact m_vret F G dX5_nextToken_339 h
set_option maxHeartbeats 4000000 in
set_option maxRecDepth 100000 in
theorem wM_nextToken_p162 {p : Program} {l : Launch} {e : Env} {s : State} {m : MethodId} {args : Array Value} {below : List Frame} {meth : Method} {c : Code} {D : va_G} {cl : List vw_C} {a : Nat → Nat} {d : ClassId} {A : Nat → Prop} {Q : St → Prop}  (F : FM p s m meth c args D cl d A cX5_nextToken 3 none) (t0 : Int32) (I : St)  {H : Heap} {locs : List Loc} {ls : Array Slot} (G : GM D cl a d A s.heap I H locs) (hl : lv_has ls 3 [(0, .ref (a 0))]) (h : M_nextToken_p162 Q t0 I) : wMv p l e rmX5_nextToken s m args below meth c D cl a d A Q H locs (F0 m 162 ls [.int t0, .ref (a 0)]) := by
  obtain ⟨hx, hb, hr, hml, hown, hts, hlocks, hA, hK, hcl⟩ := id F
  unfold M_nextToken_p162 at h
  refine mp_token F G dX5_nextToken_162 (fun H locs G => ?_)
  refine lv_aload_n hx hb dX5_nextToken_165 rfl (lv_at hl 0 rfl) ?_
  refine lv_aload_n hx hb dX5_nextToken_166 rfl (lv_at hl 0 rfl) ?_
  refine mg_behind F G dX5_nextToken_167 ?_
  refine lv_aload_n hx hb dX5_nextToken_170 rfl (lv_at hl 0 rfl) ?_
  refine mg_begin F G dX5_nextToken_171 ?_
  refine lv_isub hx hb dX5_nextToken_174 ?_
  refine lv_iconst (v := 1) hx hb dX5_nextToken_175 (by decide) ?_
  refine lv_icmp_ne (tgt := 191) hx hb dX5_nextToken_176 (by decide) (fun c_29 => ?_) (fun c_29 => ?_)
  · replace h := h.1 c_29
    refine lv_iconst (v := 0) hx hb dX5_nextToken_191 (by decide) ?_
    exact wM_nextToken_p192 F 0 (sF I 18 t0)  G (lv_sub hl [] rfl) h
  · replace h := h.2 c_29
    refine lv_aload_n hx hb dX5_nextToken_179 rfl (lv_at hl 0 rfl) ?_
    refine mg_tape F G dX5_nextToken_180 ?_
    refine lv_aload_n hx hb dX5_nextToken_183 rfl (lv_at hl 0 rfl) ?_
    refine mg_begin F G dX5_nextToken_184 ?_
    obtain ⟨b_30, h⟩ := h
    refine m_ld F G mA_14 b_30 dX5_nextToken_187 ?_
    refine lv_goto (tgt := 192) hx hb dX5_nextToken_188 (by decide) ?_
    exact wM_nextToken_p192 F ((sF I 18 t0) 14 (((sF I 18 t0) 0 16).toNatClampNeg)) (sF I 18 t0)  G (lv_sub hl [] rfl) h
set_option maxHeartbeats 4000000 in
set_option maxRecDepth 100000 in
theorem wM_nextToken_L128 {p : Program} {l : Launch} {e : Env} {s : State} {m : MethodId} {args : Array Value} {below : List Frame} {meth : Method} {c : Code} {D : va_G} {cl : List vw_C} {a : Nat → Nat} {d : ClassId} {A : Nat → Prop} {Q : St → Prop}  (F : FM p s m meth c args D cl d A cX5_nextToken 3 none) (v1 : Int32)  :
    ∀ (n : Nat)  (I : St) (H : Heap) (locs : List Loc) (ls : Array Slot), GM D cl a d A s.heap I H locs → lv_has ls 3 [(0, .ref (a 0)), (1, .int v1)] → M_nextToken_L128 Q v1 n I → wMv p l e rmX5_nextToken s m args below meth c D cl a d A Q H locs (F0 m 128 ls []) := by
  obtain ⟨hx, hb, hr, hml, hown, hts, hlocks, hA, hK, hcl⟩ := id F
  intro n
  induction n with
  | zero => intro  I H locs ls G hl h; exact absurd h (fun q => q)
  | succ n ih =>
    intro  I H locs ls G hl h
    unfold M_nextToken_L128 at h
    refine lv_aload_n hx hb dX5_nextToken_128 rfl (lv_at hl 0 rfl) ?_
    refine lv_aload_n hx hb dX5_nextToken_129 rfl (lv_at hl 0 rfl) ?_
    refine mg_behind F G dX5_nextToken_130 ?_
    refine kM_isLetter F G hl.1 ⟨Nat.le_of_ble_eq_true rfl, Nat.le_of_ble_eq_true rfl⟩ (Nat.le_of_ble_eq_true rfl) dX5_nextToken_133 h (fun r_25 I_26 H locs G h => ?_)
    refine lv_if_eq (tgt := 152) hx hb dX5_nextToken_136 (by decide) (fun c_27 => ?_) (fun c_27 => ?_)
    · replace h := h.1 c_27
      refine lv_aload_n hx hb dX5_nextToken_152 rfl (lv_at hl 0 rfl) ?_
      refine lv_iload_n hx hb dX5_nextToken_153 rfl (lv_at hl 1 rfl) ?_
      refine lv_if_eq (tgt := 161) hx hb dX5_nextToken_154 (by decide) (fun c_28 => ?_) (fun c_28 => ?_)
      · replace h := h.1 c_28
        refine lv_iconst (v := 1) hx hb dX5_nextToken_161 (by decide) ?_
        exact wM_nextToken_p162 F 1 I_26  G (lv_sub hl [0] rfl) h
      · replace h := h.2 c_28
        refine lv_iconst (v := 4) hx hb dX5_nextToken_157 (by decide) ?_
        refine lv_goto (tgt := 162) hx hb dX5_nextToken_158 (by decide) ?_
        exact wM_nextToken_p162 F 4 I_26  G (lv_sub hl [0] rfl) h
    · replace h := h.2 c_27
      refine lv_aload_n hx hb dX5_nextToken_139 rfl (lv_at hl 0 rfl) ?_
      refine lv_dup hx hb dX5_nextToken_140 rfl ?_
      refine mg_behind F G dX5_nextToken_141 ?_
      refine lv_iconst (v := 1) hx hb dX5_nextToken_144 (by decide) ?_
      refine lv_iadd hx hb dX5_nextToken_145 ?_
      refine mp_behind F G dX5_nextToken_146 (fun H locs G => ?_)
      refine lv_goto (tgt := 128) hx hb dX5_nextToken_149 (by decide) ?_
      exact ih  (sF I_26 17 ((I_26 0 17) + 1)) _ _ _ G (lv_sub hl [0, 1] rfl) h
set_option maxHeartbeats 4000000 in
set_option maxRecDepth 100000 in
theorem wM_nextToken_p89 {p : Program} {l : Launch} {e : Env} {s : State} {m : MethodId} {args : Array Value} {below : List Frame} {meth : Method} {c : Code} {D : va_G} {cl : List vw_C} {a : Nat → Nat} {d : ClassId} {A : Nat → Prop} {Q : St → Prop}  (F : FM p s m meth c args D cl d A cX5_nextToken 3 none) (t0 : Int32) (I : St)  {H : Heap} {locs : List Loc} {ls : Array Slot} (G : GM D cl a d A s.heap I H locs) (hl : lv_has ls 3 [(0, .ref (a 0))]) (h : M_nextToken_p89 Q t0 I) : wMv p l e rmX5_nextToken s m args below meth c D cl a d A Q H locs (F0 m 89 ls [.int t0]) := by
  obtain ⟨hx, hb, hr, hml, hown, hts, hlocks, hA, hK, hcl⟩ := id F
  unfold M_nextToken_p89 at h
  refine lv_istore_n (lv' := [(1, .int t0), (0, .ref (a 0))]) hx hb dX5_nextToken_89 rfl hl (by decide) rfl (fun ls hl => ?_)
  refine lv_aload_n hx hb dX5_nextToken_90 rfl (lv_at hl 1 rfl) ?_
  refine lv_aload_n hx hb dX5_nextToken_91 rfl (lv_at hl 1 rfl) ?_
  refine mg_behind F G dX5_nextToken_92 ?_
  refine mp_begin F G dX5_nextToken_95 (fun H locs G => ?_)
  refine lv_aload_n hx hb dX5_nextToken_98 rfl (lv_at hl 1 rfl) ?_
  refine mg_begin F G dX5_nextToken_99 ?_
  refine lv_aload_n hx hb dX5_nextToken_102 rfl (lv_at hl 1 rfl) ?_
  refine mg_taped F G dX5_nextToken_103 ?_
  refine lv_icmp_ne (tgt := 117) hx hb dX5_nextToken_106 (by decide) (fun c_10 => ?_) (fun c_10 => ?_)
  · replace h := h.1 c_10
    refine lv_aload_n hx hb dX5_nextToken_117 rfl (lv_at hl 1 rfl) ?_
    refine lv_aload_n hx hb dX5_nextToken_118 rfl (lv_at hl 1 rfl) ?_
    refine mg_begin F G dX5_nextToken_119 ?_
    refine kM_isLetter F G hl.1 ⟨Nat.le_of_ble_eq_true rfl, Nat.le_of_ble_eq_true rfl⟩ (Nat.le_of_ble_eq_true rfl) dX5_nextToken_122 h (fun r_11 I_12 H locs G h => ?_)
    refine lv_if_eq (tgt := 198) hx hb dX5_nextToken_125 (by decide) (fun c_13 => ?_) (fun c_13 => ?_)
    · replace h := h.1 c_13
      refine lv_aload_n hx hb dX5_nextToken_198 rfl (lv_at hl 1 rfl) ?_
      refine lv_aload_n hx hb dX5_nextToken_199 rfl (lv_at hl 1 rfl) ?_
      refine mg_begin F G dX5_nextToken_200 ?_
      refine kM_isDigit F G hl.1 ⟨Nat.le_of_ble_eq_true rfl, Nat.le_of_ble_eq_true rfl⟩ (Nat.le_of_ble_eq_true rfl) dX5_nextToken_203 h (fun r_14 I_15 H locs G h => ?_)
      refine lv_if_eq (tgt := 311) hx hb dX5_nextToken_206 (by decide) (fun c_16 => ?_) (fun c_16 => ?_)
      · replace h := h.1 c_16
        refine lv_aload_n hx hb dX5_nextToken_311 rfl (lv_at hl 1 rfl) ?_
        refine lv_iconst (v := 3) hx hb dX5_nextToken_312 (by decide) ?_
        refine mp_token F G dX5_nextToken_313 (fun H locs G => ?_)
        refine lv_aload_n hx hb dX5_nextToken_316 rfl (lv_at hl 1 rfl) ?_
        refine lv_aload_n hx hb dX5_nextToken_317 rfl (lv_at hl 1 rfl) ?_
        refine mg_tape F G dX5_nextToken_318 ?_
        refine lv_aload_n hx hb dX5_nextToken_321 rfl (lv_at hl 1 rfl) ?_
        refine mg_begin F G dX5_nextToken_322 ?_
        obtain ⟨b_17, h⟩ := h
        refine m_ld F G mA_14 b_17 dX5_nextToken_325 ?_
        refine mp_letter F G dX5_nextToken_326 (fun H locs G => ?_)
        refine lv_aload_n hx hb dX5_nextToken_329 rfl (lv_at hl 1 rfl) ?_
        refine lv_dup hx hb dX5_nextToken_330 rfl ?_
        refine mg_behind F G dX5_nextToken_331 ?_
        refine lv_iconst (v := 1) hx hb dX5_nextToken_334 (by decide) ?_
        refine lv_iadd hx hb dX5_nextToken_335 ?_
        refine mp_behind F G dX5_nextToken_336 (fun H locs G => ?_)
        exact m_vret F G dX5_nextToken_339 h
      · replace h := h.2 c_16
        refine lv_aload_n hx hb dX5_nextToken_209 rfl (lv_at hl 1 rfl) ?_
        refine lv_iconst (v := 0) hx hb dX5_nextToken_210 (by decide) ?_
        refine mp_number F G dX5_nextToken_211 (fun H locs G => ?_)
        obtain ⟨k214, h⟩ := h
        exact wM_nextToken_L214 F t0  k214  (sF I_15 19 0) _ _ _ G (lv_sub hl [1, 0] rfl) h
    · replace h := h.2 c_13
      obtain ⟨k128, h⟩ := h
      exact wM_nextToken_L128 F t0  k128  I_12 _ _ _ G (lv_sub hl [1, 0] rfl) h
  · replace h := h.2 c_10
    refine lv_aload_n hx hb dX5_nextToken_109 rfl (lv_at hl 1 rfl) ?_
    refine lv_iconst (v := 0) hx hb dX5_nextToken_110 (by decide) ?_
    refine mp_token F G dX5_nextToken_111 (fun H locs G => ?_)
    refine lv_goto (tgt := 339) hx hb dX5_nextToken_114 (by decide) ?_
    exact m_vret F G dX5_nextToken_339 h
set_option maxHeartbeats 4000000 in
set_option maxRecDepth 100000 in
theorem wM_nextToken_p88 {p : Program} {l : Launch} {e : Env} {s : State} {m : MethodId} {args : Array Value} {below : List Frame} {meth : Method} {c : Code} {D : va_G} {cl : List vw_C} {a : Nat → Nat} {d : ClassId} {A : Nat → Prop} {Q : St → Prop}  (F : FM p s m meth c args D cl d A cX5_nextToken 3 none)  (I : St)  {H : Heap} {locs : List Loc} {ls : Array Slot} (G : GM D cl a d A s.heap I H locs) (hl : lv_has ls 3 [(0, .ref (a 0))]) (h : M_nextToken_p88 Q I) : wMv p l e rmX5_nextToken s m args below meth c D cl a d A Q H locs (F0 m 88 ls []) := by
  obtain ⟨hx, hb, hr, hml, hown, hts, hlocks, hA, hK, hcl⟩ := id F
  unfold M_nextToken_p88 at h
  refine lv_iconst (v := 0) hx hb dX5_nextToken_88 (by decide) ?_
  exact wM_nextToken_p89 F 0 I  G (lv_sub hl [0] rfl) h
set_option maxHeartbeats 4000000 in
set_option maxRecDepth 100000 in
theorem wM_nextToken_p72 {p : Program} {l : Launch} {e : Env} {s : State} {m : MethodId} {args : Array Value} {below : List Frame} {meth : Method} {c : Code} {D : va_G} {cl : List vw_C} {a : Nat → Nat} {d : ClassId} {A : Nat → Prop} {Q : St → Prop}  (F : FM p s m meth c args D cl d A cX5_nextToken 3 none) (v1 : Int32) (v2 : Int32) (I : St)  {H : Heap} {locs : List Loc} {ls : Array Slot} (G : GM D cl a d A s.heap I H locs) (hl : lv_has ls 3 [(0, .ref (a 0)), (1, .int v1), (2, .int v2)]) (h : M_nextToken_p72 Q v1 v2 I) : wMv p l e rmX5_nextToken s m args below meth c D cl a d A Q H locs (F0 m 72 ls []) := by
  obtain ⟨hx, hb, hr, hml, hown, hts, hlocks, hA, hK, hcl⟩ := id F
  unfold M_nextToken_p72 at h
  refine lv_iload_n hx hb dX5_nextToken_72 rfl (lv_at hl 1 rfl) ?_
  refine lv_if_eq (tgt := 88) hx hb dX5_nextToken_73 (by decide) (fun c_8 => ?_) (fun c_8 => ?_)
  · replace h := h.1 c_8
    exact wM_nextToken_p88 F  I  G (lv_sub hl [0] rfl) h
  · replace h := h.2 c_8
    refine lv_iload_n hx hb dX5_nextToken_76 rfl (lv_at hl 2 rfl) ?_
    refine lv_aload_n hx hb dX5_nextToken_77 rfl (lv_at hl 0 rfl) ?_
    refine mg_behind F G dX5_nextToken_78 ?_
    refine lv_icmp_ne (tgt := 88) hx hb dX5_nextToken_81 (by decide) (fun c_9 => ?_) (fun c_9 => ?_)
    · replace h := h.1 c_9
      exact wM_nextToken_p88 F  I  G (lv_sub hl [0] rfl) h
    · replace h := h.2 c_9
      refine lv_iconst (v := 1) hx hb dX5_nextToken_84 (by decide) ?_
      refine lv_goto (tgt := 89) hx hb dX5_nextToken_85 (by decide) ?_
      exact wM_nextToken_p89 F 1 I  G (lv_sub hl [0] rfl) h
set_option maxHeartbeats 4000000 in
set_option maxRecDepth 100000 in
theorem wM_nextToken_L34 {p : Program} {l : Launch} {e : Env} {s : State} {m : MethodId} {args : Array Value} {below : List Frame} {meth : Method} {c : Code} {D : va_G} {cl : List vw_C} {a : Nat → Nat} {d : ClassId} {A : Nat → Prop} {Q : St → Prop}  (F : FM p s m meth c args D cl d A cX5_nextToken 3 none) (v1 : Int32) (v2 : Int32)  :
    ∀ (n : Nat)  (I : St) (H : Heap) (locs : List Loc) (ls : Array Slot), GM D cl a d A s.heap I H locs → lv_has ls 3 [(0, .ref (a 0)), (1, .int v1), (2, .int v2)] → M_nextToken_L34 Q v1 v2 n I → wMv p l e rmX5_nextToken s m args below meth c D cl a d A Q H locs (F0 m 34 ls []) := by
  obtain ⟨hx, hb, hr, hml, hown, hts, hlocks, hA, hK, hcl⟩ := id F
  intro n
  induction n with
  | zero => intro  I H locs ls G hl h; exact absurd h (fun q => q)
  | succ n ih =>
    intro  I H locs ls G hl h
    unfold M_nextToken_L34 at h
    refine lv_aload_n hx hb dX5_nextToken_34 rfl (lv_at hl 0 rfl) ?_
    refine mg_behind F G dX5_nextToken_35 ?_
    refine lv_aload_n hx hb dX5_nextToken_38 rfl (lv_at hl 0 rfl) ?_
    refine mg_taped F G dX5_nextToken_39 ?_
    refine lv_icmp_ge (tgt := 72) hx hb dX5_nextToken_42 (by decide) (fun c_5 => ?_) (fun c_5 => ?_)
    · replace h := h.1 c_5
      exact wM_nextToken_p72 F v1 v2 I  G (lv_sub hl [0, 1, 2] rfl) h
    · replace h := h.2 c_5
      refine lv_aload_n hx hb dX5_nextToken_45 rfl (lv_at hl 0 rfl) ?_
      refine mg_tape F G dX5_nextToken_46 ?_
      refine lv_aload_n hx hb dX5_nextToken_49 rfl (lv_at hl 0 rfl) ?_
      refine mg_behind F G dX5_nextToken_50 ?_
      obtain ⟨b_6, h⟩ := h
      refine m_ld F G mA_14 b_6 dX5_nextToken_53 ?_
      refine lv_bipush (v := 32) hx hb dX5_nextToken_54 (by decide) ?_
      refine lv_icmp_ne (tgt := 72) hx hb dX5_nextToken_56 (by decide) (fun c_7 => ?_) (fun c_7 => ?_)
      · replace h := h.1 c_7
        exact wM_nextToken_p72 F v1 v2 I  G (lv_sub hl [0, 1, 2] rfl) h
      · replace h := h.2 c_7
        refine lv_aload_n hx hb dX5_nextToken_59 rfl (lv_at hl 0 rfl) ?_
        refine lv_dup hx hb dX5_nextToken_60 rfl ?_
        refine mg_behind F G dX5_nextToken_61 ?_
        refine lv_iconst (v := 1) hx hb dX5_nextToken_64 (by decide) ?_
        refine lv_iadd hx hb dX5_nextToken_65 ?_
        refine mp_behind F G dX5_nextToken_66 (fun H locs G => ?_)
        refine lv_goto (tgt := 34) hx hb dX5_nextToken_69 (by decide) ?_
        exact ih  (sF I 17 ((I 0 17) + 1)) _ _ _ G (lv_sub hl [0, 1, 2] rfl) h
set_option maxHeartbeats 4000000 in
set_option maxRecDepth 100000 in
theorem wM_nextToken_p28 {p : Program} {l : Launch} {e : Env} {s : State} {m : MethodId} {args : Array Value} {below : List Frame} {meth : Method} {c : Code} {D : va_G} {cl : List vw_C} {a : Nat → Nat} {d : ClassId} {A : Nat → Prop} {Q : St → Prop}  (F : FM p s m meth c args D cl d A cX5_nextToken 3 none) (t0 : Int32) (I : St)  {H : Heap} {locs : List Loc} {ls : Array Slot} (G : GM D cl a d A s.heap I H locs) (hl : lv_has ls 3 [(0, .ref (a 0))]) (h : M_nextToken_p28 Q t0 I) : wMv p l e rmX5_nextToken s m args below meth c D cl a d A Q H locs (F0 m 28 ls [.int t0]) := by
  obtain ⟨hx, hb, hr, hml, hown, hts, hlocks, hA, hK, hcl⟩ := id F
  unfold M_nextToken_p28 at h
  refine lv_istore_n (lv' := [(1, .int t0), (0, .ref (a 0))]) hx hb dX5_nextToken_28 rfl hl (by decide) rfl (fun ls hl => ?_)
  refine lv_aload_n hx hb dX5_nextToken_29 rfl (lv_at hl 1 rfl) ?_
  refine mg_behind F G dX5_nextToken_30 ?_
  refine lv_topi (fun x_4 ex_4 => ?_)
  replace h := h x_4 ex_4
  refine lv_istore_n (lv' := [(2, .int x_4), (1, .int t0), (0, .ref (a 0))]) hx hb dX5_nextToken_33 rfl hl (by decide) rfl (fun ls hl => ?_)
  obtain ⟨k34, h⟩ := h
  exact wM_nextToken_L34 F t0 x_4  k34  I _ _ _ G (lv_sub hl [2, 1, 0] rfl) h
set_option maxHeartbeats 4000000 in
set_option maxRecDepth 100000 in
theorem wM_nextToken_p27 {p : Program} {l : Launch} {e : Env} {s : State} {m : MethodId} {args : Array Value} {below : List Frame} {meth : Method} {c : Code} {D : va_G} {cl : List vw_C} {a : Nat → Nat} {d : ClassId} {A : Nat → Prop} {Q : St → Prop}  (F : FM p s m meth c args D cl d A cX5_nextToken 3 none)  (I : St)  {H : Heap} {locs : List Loc} {ls : Array Slot} (G : GM D cl a d A s.heap I H locs) (hl : lv_has ls 3 [(0, .ref (a 0))]) (h : M_nextToken_p27 Q I) : wMv p l e rmX5_nextToken s m args below meth c D cl a d A Q H locs (F0 m 27 ls []) := by
  obtain ⟨hx, hb, hr, hml, hown, hts, hlocks, hA, hK, hcl⟩ := id F
  unfold M_nextToken_p27 at h
  refine lv_iconst (v := 0) hx hb dX5_nextToken_27 (by decide) ?_
  exact wM_nextToken_p28 F 0 I  G (lv_sub hl [0] rfl) h
set_option maxHeartbeats 4000000 in
set_option maxRecDepth 100000 in
theorem wM_nextToken_p23 {p : Program} {l : Launch} {e : Env} {s : State} {m : MethodId} {args : Array Value} {below : List Frame} {meth : Method} {c : Code} {D : va_G} {cl : List vw_C} {a : Nat → Nat} {d : ClassId} {A : Nat → Prop} {Q : St → Prop}  (F : FM p s m meth c args D cl d A cX5_nextToken 3 none)  (I : St)  {H : Heap} {locs : List Loc} {ls : Array Slot} (G : GM D cl a d A s.heap I H locs) (hl : lv_has ls 3 [(0, .ref (a 0))]) (h : M_nextToken_p23 Q I) : wMv p l e rmX5_nextToken s m args below meth c D cl a d A Q H locs (F0 m 23 ls []) := by
  obtain ⟨hx, hb, hr, hml, hown, hts, hlocks, hA, hK, hcl⟩ := id F
  unfold M_nextToken_p23 at h
  refine lv_iconst (v := 1) hx hb dX5_nextToken_23 (by decide) ?_
  refine lv_goto (tgt := 28) hx hb dX5_nextToken_24 (by decide) ?_
  exact wM_nextToken_p28 F 1 I  G (lv_sub hl [0] rfl) h
set_option maxHeartbeats 4000000 in
set_option maxRecDepth 100000 in
theorem wM_nextToken {l : Launch} {D : va_G} {cl : List vw_C} {a : Nat → Nat} {d : ClassId} (hcl : cl[5]? = some (RX5, TX5, 32)) (sz : Nat)  (I : St) (Q : St → Prop) (h : M_nextToken  I Q) : MMv l D cl a d yX5_nextToken cX5_nextToken 3 rmX5_nextToken [.ref (a 0)] sz I Q := by
  refine m_enter (Qc := fun A => va_Qv Q (BM D cl a d A) A) hcl (by decide) rfl (Nat.le_of_ble_eq_true rfl) ?_
  intro p e s m below meth c ls A F hG hl
  have G := hG
  have hl : lv_has ls 3 [(0, .ref (a 0))] := hl
  obtain ⟨hx, hb, hr, hml, hown, hts, hlocks, hA, hK, hcl⟩ := id F
  unfold M_nextToken at h
  refine lv_aload_n hx hb dX5_nextToken_0 rfl (lv_at hl 0 rfl) ?_
  refine mg_behind F G dX5_nextToken_1 ?_
  refine lv_if_le (tgt := 27) hx hb dX5_nextToken_4 (by decide) (fun c_1 => ?_) (fun c_1 => ?_)
  · replace h := h.1 c_1
    exact wM_nextToken_p27 F  I  G (lv_sub hl [0] rfl) h
  · replace h := h.2 c_1
    refine lv_aload_n hx hb dX5_nextToken_7 rfl (lv_at hl 0 rfl) ?_
    refine mg_token F G dX5_nextToken_8 ?_
    refine lv_iconst (v := 1) hx hb dX5_nextToken_11 (by decide) ?_
    refine lv_icmp_eq (tgt := 23) hx hb dX5_nextToken_12 (by decide) (fun c_2 => ?_) (fun c_2 => ?_)
    · replace h := h.1 c_2
      exact wM_nextToken_p23 F  I  G (lv_sub hl [0] rfl) h
    · replace h := h.2 c_2
      refine lv_aload_n hx hb dX5_nextToken_15 rfl (lv_at hl 0 rfl) ?_
      refine mg_token F G dX5_nextToken_16 ?_
      refine lv_iconst (v := 2) hx hb dX5_nextToken_19 (by decide) ?_
      refine lv_icmp_ne (tgt := 27) hx hb dX5_nextToken_20 (by decide) (fun c_3 => ?_) (fun c_3 => ?_)
      · replace h := h.1 c_3
        exact wM_nextToken_p27 F  I  G (lv_sub hl [0] rfl) h
      · replace h := h.2 c_3
        exact wM_nextToken_p23 F  I  G (lv_sub hl [0] rfl) h
set_option maxHeartbeats 4000000 in
set_option maxRecDepth 100000 in
theorem kM_nextToken {p : Program} {l : Launch} {e : Env} {s : State} {m : MethodId} {R : Room} {args : Array Value} {below : List Frame} {meth : Method} {c : Code} {D : va_G} {cl : List vw_C} {a : Nat → Nat} {d : ClassId} {A : Nat → Prop} {Q : State → Prop} {cc : ByteArray} {nL pc : Nat} {ret : Option FieldType} {ls : Array Slot} {rest : List Value}  {I : St} {H : Heap} {locs : List Loc} {Q1 : St → Prop} (F : FM p s m meth c args D cl d A cc nL ret) (G : GM D cl a d A s.heap I H locs) (hsz : ls.size = nL) (hR : rmX5_nextToken.frames + 1 ≤ R.frames ∧ 8 + (3 + 11) + rmX5_nextToken.locals ≤ R.locals) (hW : (rest.map fun v => v.category).sum ≤ 8) (hd : decode cc pc = .ok (.invokevirtual 244, 3)) (h : M_nextToken  I Q1) (k : ∀ (I1 : St) (H : Heap) (locs : List Loc), GM D cl a d A s.heap I1 H locs → Q1 I1 → W p l e R s m args below meth c H locs 0 0 Q (F0 m (pc + 3) ls rest)) : W p l e R s m args below meth c H locs 0 0 Q (F0 m pc ls (.ref (a 0) :: rest)) := by
  obtain ⟨hx, hb, hr, hml, hown, hts, hlocks, hA, hK, hcl⟩ := id F
  exact m_callVv (As := []) F G hsz (wM_nextToken hcl H.size  I Q1 h) (cwV 0 hts (lw_V q1539 q1541 qs65 q90 q1542) rfl rfl rfl (by decide +kernel) hR) rfl rfl hW hd k
/-! step -/
def M_step (v1 : Int32) (v2 : Int32) (I : St) (Q : St → Prop) : Prop := vp_in ((I 0 24) + (2 * (I 0 23))) 3040 ∧ (vp_in ((((sA I 1 ((I 0 24) + (2 * (I 0 23))) v1) 0 24) + (2 * ((sA I 1 ((I 0 24) + (2 * (I 0 23))) v1) 0 23))) + 1) 3040 ∧ (Q (sF (sA (sA I 1 ((I 0 24) + (2 * (I 0 23))) v1) 1 ((((sA I 1 ((I 0 24) + (2 * (I 0 23))) v1) 0 24) + (2 * ((sA I 1 ((I 0 24) + (2 * (I 0 23))) v1) 0 23))) + 1) v2) 23 (((sA (sA I 1 ((I 0 24) + (2 * (I 0 23))) v1) 1 ((((sA I 1 ((I 0 24) + (2 * (I 0 23))) v1) 0 24) + (2 * ((sA I 1 ((I 0 24) + (2 * (I 0 23))) v1) 0 23))) + 1) v2) 0 23) + 1))))
abbrev rmX5_step : Room := { frames := 0, cells := 0, slots := 0, locals := 0 }
set_option maxHeartbeats 4000000 in
set_option maxRecDepth 100000 in
theorem wM_step {l : Launch} {D : va_G} {cl : List vw_C} {a : Nat → Nat} {d : ClassId} (hcl : cl[5]? = some (RX5, TX5, 32)) (sz : Nat) (v1 : Int32) (v2 : Int32) (I : St) (Q : St → Prop) (h : M_step v1 v2 I Q) : MMv l D cl a d yX5_step cX5_step 3 rmX5_step [.ref (a 0), .int v1, .int v2] sz I Q := by
  refine m_enter (Qc := fun A => va_Qv Q (BM D cl a d A) A) hcl (by decide) rfl (Nat.le_of_ble_eq_true rfl) ?_
  intro p e s m below meth c ls A F hG hl
  have G := hG
  have hl : lv_has ls 3 [(0, .ref (a 0)), (1, .int v1), (2, .int v2)] := hl
  obtain ⟨hx, hb, hr, hml, hown, hts, hlocks, hA, hK, hcl⟩ := id F
  unfold M_step at h
  refine lv_aload_n hx hb dX5_step_0 rfl (lv_at hl 0 rfl) ?_
  refine mg_s F G dX5_step_1 ?_
  refine lv_aload_n hx hb dX5_step_4 rfl (lv_at hl 0 rfl) ?_
  refine mg_laidAt F G dX5_step_5 ?_
  refine lv_iconst (v := 2) hx hb dX5_step_8 (by decide) ?_
  refine lv_aload_n hx hb dX5_step_9 rfl (lv_at hl 0 rfl) ?_
  refine mg_laid F G dX5_step_10 ?_
  refine lv_imul hx hb dX5_step_13 ?_
  refine lv_iadd hx hb dX5_step_14 ?_
  refine lv_iload_n hx hb dX5_step_15 rfl (lv_at hl 1 rfl) ?_
  obtain ⟨b_1, h⟩ := h
  refine m_st F G mA_1 b_1 dX5_step_16 (fun H locs G => ?_)
  refine lv_aload_n hx hb dX5_step_17 rfl (lv_at hl 0 rfl) ?_
  refine mg_s F G dX5_step_18 ?_
  refine lv_aload_n hx hb dX5_step_21 rfl (lv_at hl 0 rfl) ?_
  refine mg_laidAt F G dX5_step_22 ?_
  refine lv_iconst (v := 2) hx hb dX5_step_25 (by decide) ?_
  refine lv_aload_n hx hb dX5_step_26 rfl (lv_at hl 0 rfl) ?_
  refine mg_laid F G dX5_step_27 ?_
  refine lv_imul hx hb dX5_step_30 ?_
  refine lv_iadd hx hb dX5_step_31 ?_
  refine lv_iconst (v := 1) hx hb dX5_step_32 (by decide) ?_
  refine lv_iadd hx hb dX5_step_33 ?_
  refine lv_iload_n hx hb dX5_step_34 rfl (lv_at hl 2 rfl) ?_
  obtain ⟨b_2, h⟩ := h
  refine m_st F G mA_1 b_2 dX5_step_35 (fun H locs G => ?_)
  refine lv_aload_n hx hb dX5_step_36 rfl (lv_at hl 0 rfl) ?_
  refine lv_dup hx hb dX5_step_37 rfl ?_
  refine mg_laid F G dX5_step_38 ?_
  refine lv_iconst (v := 1) hx hb dX5_step_41 (by decide) ?_
  refine lv_iadd hx hb dX5_step_42 ?_
  refine mp_laid F G dX5_step_43 (fun H locs G => ?_)
  exact m_vret F G dX5_step_46 h
set_option maxHeartbeats 4000000 in
set_option maxRecDepth 100000 in
theorem kM_step {p : Program} {l : Launch} {e : Env} {s : State} {m : MethodId} {R : Room} {args : Array Value} {below : List Frame} {meth : Method} {c : Code} {D : va_G} {cl : List vw_C} {a : Nat → Nat} {d : ClassId} {A : Nat → Prop} {Q : State → Prop} {cc : ByteArray} {nL pc : Nat} {ret : Option FieldType} {ls : Array Slot} {rest : List Value} {v1 : Int32} {v2 : Int32} {I : St} {H : Heap} {locs : List Loc} {Q1 : St → Prop} (F : FM p s m meth c args D cl d A cc nL ret) (G : GM D cl a d A s.heap I H locs) (hsz : ls.size = nL) (hR : rmX5_step.frames + 1 ≤ R.frames ∧ 8 + (3 + 11) + rmX5_step.locals ≤ R.locals) (hW : (rest.map fun v => v.category).sum ≤ 8) (hd : decode cc pc = .ok (.invokevirtual 247, 3)) (h : M_step v1 v2 I Q1) (k : ∀ (I1 : St) (H : Heap) (locs : List Loc), GM D cl a d A s.heap I1 H locs → Q1 I1 → W p l e R s m args below meth c H locs 0 0 Q (F0 m (pc + 3) ls rest)) : W p l e R s m args below meth c H locs 0 0 Q (F0 m pc ls (.int v2 :: .int v1 :: .ref (a 0) :: rest)) := by
  obtain ⟨hx, hb, hr, hml, hown, hts, hlocks, hA, hK, hcl⟩ := id F
  exact m_callVv (As := [.int v1, .int v2]) F G hsz (wM_step hcl H.size v1 v2 I Q1 h) (cwV 2 hts (lw_V q1591 q1593 qs77 q90 q1594) rfl rfl rfl (by decide +kernel) hR) rfl rfl hW hd k
/-! isName -/
def M_isName_p82 (Q : Int32 → St → Prop)   (I : St) : Prop := Q 1 I
def M_isName_p64 (Q : Int32 → St → Prop)   (I : St) : Prop := Q 1 I
def M_isName_p46 (Q : Int32 → St → Prop)   (I : St) : Prop := Q 1 I
def M_isName (v0 : Int32) (v1 : Int32) (I : St) (Q : Int32 → St → Prop) : Prop := (v0 = 0 → (v1 = 111 → M_isName_p46 Q  I) ∧ (¬ v1 = 111 → (v1 = 116 → M_isName_p46 Q  I) ∧ (¬ v1 = 116 → (¬ v1 = 104 → Q 0 I) ∧ (v1 = 104 → M_isName_p46 Q  I)))) ∧ (v0 = 1 → (v1 = 101 → M_isName_p64 Q  I) ∧ (¬ v1 = 101 → (¬ v1 = 109 → Q 0 I) ∧ (v1 = 109 → M_isName_p64 Q  I))) ∧ (¬ v0 = 0 → ¬ v0 = 1 → (v1 = 111 → M_isName_p82 Q  I) ∧ (¬ v1 = 111 → (¬ v1 = 116 → Q 0 I) ∧ (v1 = 116 → M_isName_p82 Q  I)))
abbrev rmX5_isName : Room := { frames := 0, cells := 0, slots := 0, locals := 0 }
set_option maxHeartbeats 4000000 in
set_option maxRecDepth 100000 in
theorem wM_isName_p82 {p : Program} {l : Launch} {e : Env} {s : State} {m : MethodId} {args : Array Value} {below : List Frame} {meth : Method} {c : Code} {D : va_G} {cl : List vw_C} {a : Nat → Nat} {d : ClassId} {A : Nat → Prop} {Q : Int32 → St → Prop}  (F : FM p s m meth c args D cl d A cX5_isName 2 (some .boolean))  (I : St)  {H : Heap} {locs : List Loc} {ls : Array Slot} (G : GM D cl a d A s.heap I H locs) (hl : lv_has ls 2 []) (h : M_isName_p82 Q I) : wMi p l e rmX5_isName s m args below meth c D cl a d A Q H locs (F0 m 82 ls []) := by
  obtain ⟨hx, hb, hr, hml, hown, hts, hlocks, hA, hK, hcl⟩ := id F
  unfold M_isName_p82 at h
  refine lv_iconst (v := 1) hx hb dX5_isName_82 (by decide) ?_
  refine lv_goto (tgt := 87) hx hb dX5_isName_83 (by decide) ?_
  exact m_zret F G rfl dX5_isName_87 h
set_option maxHeartbeats 4000000 in
set_option maxRecDepth 100000 in
theorem wM_isName_p64 {p : Program} {l : Launch} {e : Env} {s : State} {m : MethodId} {args : Array Value} {below : List Frame} {meth : Method} {c : Code} {D : va_G} {cl : List vw_C} {a : Nat → Nat} {d : ClassId} {A : Nat → Prop} {Q : Int32 → St → Prop}  (F : FM p s m meth c args D cl d A cX5_isName 2 (some .boolean))  (I : St)  {H : Heap} {locs : List Loc} {ls : Array Slot} (G : GM D cl a d A s.heap I H locs) (hl : lv_has ls 2 []) (h : M_isName_p64 Q I) : wMi p l e rmX5_isName s m args below meth c D cl a d A Q H locs (F0 m 64 ls []) := by
  obtain ⟨hx, hb, hr, hml, hown, hts, hlocks, hA, hK, hcl⟩ := id F
  unfold M_isName_p64 at h
  refine lv_iconst (v := 1) hx hb dX5_isName_64 (by decide) ?_
  refine lv_goto (tgt := 69) hx hb dX5_isName_65 (by decide) ?_
  exact m_zret F G rfl dX5_isName_69 h
set_option maxHeartbeats 4000000 in
set_option maxRecDepth 100000 in
theorem wM_isName_p46 {p : Program} {l : Launch} {e : Env} {s : State} {m : MethodId} {args : Array Value} {below : List Frame} {meth : Method} {c : Code} {D : va_G} {cl : List vw_C} {a : Nat → Nat} {d : ClassId} {A : Nat → Prop} {Q : Int32 → St → Prop}  (F : FM p s m meth c args D cl d A cX5_isName 2 (some .boolean))  (I : St)  {H : Heap} {locs : List Loc} {ls : Array Slot} (G : GM D cl a d A s.heap I H locs) (hl : lv_has ls 2 []) (h : M_isName_p46 Q I) : wMi p l e rmX5_isName s m args below meth c D cl a d A Q H locs (F0 m 46 ls []) := by
  obtain ⟨hx, hb, hr, hml, hown, hts, hlocks, hA, hK, hcl⟩ := id F
  unfold M_isName_p46 at h
  refine lv_iconst (v := 1) hx hb dX5_isName_46 (by decide) ?_
  refine lv_goto (tgt := 51) hx hb dX5_isName_47 (by decide) ?_
  exact m_zret F G rfl dX5_isName_51 h
set_option maxHeartbeats 4000000 in
set_option maxRecDepth 100000 in
theorem wM_isName {l : Launch} {D : va_G} {cl : List vw_C} {a : Nat → Nat} {d : ClassId} (hcl : cl[5]? = some (RX5, TX5, 32)) (sz : Nat) (v0 : Int32) (v1 : Int32) (I : St) (Q : Int32 → St → Prop) (h : M_isName v0 v1 I Q) : MMi l D cl a d yX5_isName cX5_isName 2 .boolean rmX5_isName [.int v0, .int v1] sz I Q := by
  refine m_enter (Qc := fun A => va_Qi Q (BM D cl a d A) A) hcl (by decide) rfl (Nat.le_of_ble_eq_true rfl) ?_
  intro p e s m below meth c ls A F hG hl
  have G := hG
  have hl : lv_has ls 2 [(0, .int v0), (1, .int v1)] := hl
  obtain ⟨hx, hb, hr, hml, hown, hts, hlocks, hA, hK, hcl⟩ := id F
  unfold M_isName at h
  refine lv_iload_n hx hb dX5_isName_0 rfl (lv_at hl 0 rfl) ?_
  by_cases c_1 : v0 = 0
  · replace h := h.1 c_1
    refine m_lsIn (k := 0) (off := 27) (tgt := 28) hx hb dX5_isName_1 c_1 (by decide) (by decide) (by decide) ?_
    refine lv_iload_n hx hb dX5_isName_28 rfl (lv_at hl 1 rfl) ?_
    refine lv_bipush (v := 111) hx hb dX5_isName_29 (by decide) ?_
    refine lv_icmp_eq (tgt := 46) hx hb dX5_isName_31 (by decide) (fun c_2 => ?_) (fun c_2 => ?_)
    · replace h := h.1 c_2
      exact wM_isName_p46 F  I  G (lv_sub hl [] rfl) h
    · replace h := h.2 c_2
      refine lv_iload_n hx hb dX5_isName_34 rfl (lv_at hl 1 rfl) ?_
      refine lv_bipush (v := 116) hx hb dX5_isName_35 (by decide) ?_
      refine lv_icmp_eq (tgt := 46) hx hb dX5_isName_37 (by decide) (fun c_3 => ?_) (fun c_3 => ?_)
      · replace h := h.1 c_3
        exact wM_isName_p46 F  I  G (lv_sub hl [] rfl) h
      · replace h := h.2 c_3
        refine lv_iload_n hx hb dX5_isName_40 rfl (lv_at hl 1 rfl) ?_
        refine lv_bipush (v := 104) hx hb dX5_isName_41 (by decide) ?_
        refine lv_icmp_ne (tgt := 50) hx hb dX5_isName_43 (by decide) (fun c_4 => ?_) (fun c_4 => ?_)
        · replace h := h.1 c_4
          refine lv_iconst (v := 0) hx hb dX5_isName_50 (by decide) ?_
          exact m_zret F G rfl dX5_isName_51 h
        · replace h := h.2 c_4
          exact wM_isName_p46 F  I  G (lv_sub hl [] rfl) h
  by_cases c_5 : v0 = 1
  · replace h := h.2.1 c_5
    refine m_lsIn (k := 1) (off := 51) (tgt := 52) hx hb dX5_isName_1 c_5 (by decide) (by decide) (by decide) ?_
    refine lv_iload_n hx hb dX5_isName_52 rfl (lv_at hl 1 rfl) ?_
    refine lv_bipush (v := 101) hx hb dX5_isName_53 (by decide) ?_
    refine lv_icmp_eq (tgt := 64) hx hb dX5_isName_55 (by decide) (fun c_6 => ?_) (fun c_6 => ?_)
    · replace h := h.1 c_6
      exact wM_isName_p64 F  I  G (lv_sub hl [] rfl) h
    · replace h := h.2 c_6
      refine lv_iload_n hx hb dX5_isName_58 rfl (lv_at hl 1 rfl) ?_
      refine lv_bipush (v := 109) hx hb dX5_isName_59 (by decide) ?_
      refine lv_icmp_ne (tgt := 68) hx hb dX5_isName_61 (by decide) (fun c_7 => ?_) (fun c_7 => ?_)
      · replace h := h.1 c_7
        refine lv_iconst (v := 0) hx hb dX5_isName_68 (by decide) ?_
        exact m_zret F G rfl dX5_isName_69 h
      · replace h := h.2 c_7
        exact wM_isName_p64 F  I  G (lv_sub hl [] rfl) h
  replace h := h.2.2 c_1 c_5
  refine m_lsD (ks := [0, 1]) (tgt := 70) hx hb dX5_isName_1 (tk_cons c_1 (by decide) (tk_cons c_5 (by decide) tk_nil)) (by decide) (by decide) ?_
  refine lv_iload_n hx hb dX5_isName_70 rfl (lv_at hl 1 rfl) ?_
  refine lv_bipush (v := 111) hx hb dX5_isName_71 (by decide) ?_
  refine lv_icmp_eq (tgt := 82) hx hb dX5_isName_73 (by decide) (fun c_8 => ?_) (fun c_8 => ?_)
  · replace h := h.1 c_8
    exact wM_isName_p82 F  I  G (lv_sub hl [] rfl) h
  · replace h := h.2 c_8
    refine lv_iload_n hx hb dX5_isName_76 rfl (lv_at hl 1 rfl) ?_
    refine lv_bipush (v := 116) hx hb dX5_isName_77 (by decide) ?_
    refine lv_icmp_ne (tgt := 86) hx hb dX5_isName_79 (by decide) (fun c_9 => ?_) (fun c_9 => ?_)
    · replace h := h.1 c_9
      refine lv_iconst (v := 0) hx hb dX5_isName_86 (by decide) ?_
      exact m_zret F G rfl dX5_isName_87 h
    · replace h := h.2 c_9
      exact wM_isName_p82 F  I  G (lv_sub hl [] rfl) h
set_option maxHeartbeats 4000000 in
set_option maxRecDepth 100000 in
theorem kM_isName {p : Program} {l : Launch} {e : Env} {s : State} {m : MethodId} {R : Room} {args : Array Value} {below : List Frame} {meth : Method} {c : Code} {D : va_G} {cl : List vw_C} {a : Nat → Nat} {d : ClassId} {A : Nat → Prop} {Q : State → Prop} {cc : ByteArray} {nL pc : Nat} {ret : Option FieldType} {ls : Array Slot} {rest : List Value} {v0 : Int32} {v1 : Int32} {I : St} {H : Heap} {locs : List Loc} {Q1 : Int32 → St → Prop} (F : FM p s m meth c args D cl d A cc nL ret) (G : GM D cl a d A s.heap I H locs) (hsz : ls.size = nL) (hR : rmX5_isName.frames + 1 ≤ R.frames ∧ 8 + (2 + 11) + rmX5_isName.locals ≤ R.locals) (hW : (rest.map fun v => v.category).sum ≤ 8) (hd : decode cc pc = .ok (.invokestatic 265, 3)) (h : M_isName v0 v1 I Q1) (k : ∀ (r : Int32) (I1 : St) (H : Heap) (locs : List Loc), GM D cl a d A s.heap I1 H locs → Q1 r I1 → W p l e R s m args below meth c H locs 0 0 Q (F0 m (pc + 3) ls (.int r :: rest))) : W p l e R s m args below meth c H locs 0 0 Q (F0 m pc ls (.int v1 :: .int v0 :: rest)) := by
  obtain ⟨hx, hb, hr, hml, hown, hts, hlocks, hA, hK, hcl⟩ := id F
  exact m_callSi (As := [.int v0, .int v1]) F G hsz (wM_isName hcl H.size v0 v1 I Q1 h) (va_cwS 2 hts (lw_S q1595 q1596 q90 q1597) rfl rfl rfl (by decide +kernel) hR) rfl rfl hW hd k
/-! isLong -/
def M_isLong_p131 (Q : Int32 → St → Prop)   (I : St) : Prop := Q 1 I
def M_isLong_p11 (Q : Int32 → St → Prop)  (v1 : Int32) (v2 : Int32) (v3 : Int32) (v4 : Int32) (v5 : Int32) (v6 : Int32) (t0 : Int32) (I : St) : Prop := (¬ (I 0 18) = 1 → Q 0 I) ∧ ((I 0 18) = 1 → (¬ ((I 0 17) - (I 0 16)) = t0 → Q 0 I) ∧ (((I 0 17) - (I 0 16)) = t0 → vp_in (I 0 16) 96 ∧ ((¬ (I 14 ((I 0 16).toNatClampNeg)) = v1 → Q 0 I) ∧ ((I 14 ((I 0 16).toNatClampNeg)) = v1 → vp_in ((I 0 16) + 1) 96 ∧ ((¬ (I 14 (((I 0 16) + 1).toNatClampNeg)) = v2 → Q 0 I) ∧ ((I 14 (((I 0 16) + 1).toNatClampNeg)) = v2 → vp_in ((I 0 16) + 2) 96 ∧ ((¬ (I 14 (((I 0 16) + 2).toNatClampNeg)) = v3 → Q 0 I) ∧ ((I 14 (((I 0 16) + 2).toNatClampNeg)) = v3 → vp_in ((I 0 16) + 3) 96 ∧ ((¬ (I 14 (((I 0 16) + 3).toNatClampNeg)) = v4 → Q 0 I) ∧ ((I 14 (((I 0 16) + 3).toNatClampNeg)) = v4 → vp_in ((I 0 16) + 4) 96 ∧ ((¬ (I 14 (((I 0 16) + 4).toNatClampNeg)) = v5 → Q 0 I) ∧ ((I 14 (((I 0 16) + 4).toNatClampNeg)) = v5 → (v6 = 0 → M_isLong_p131 Q  I) ∧ (¬ v6 = 0 → vp_in ((I 0 16) + 5) 96 ∧ ((¬ (I 14 (((I 0 16) + 5).toNatClampNeg)) = v6 → Q 0 I) ∧ ((I 14 (((I 0 16) + 5).toNatClampNeg)) = v6 → M_isLong_p131 Q  I)))))))))))))))
def M_isLong (v1 : Int32) (v2 : Int32) (v3 : Int32) (v4 : Int32) (v5 : Int32) (v6 : Int32) (I : St) (Q : Int32 → St → Prop) : Prop := (¬ v6 = 0 → M_isLong_p11 Q v1 v2 v3 v4 v5 v6 6 I) ∧ (v6 = 0 → M_isLong_p11 Q v1 v2 v3 v4 v5 v6 5 I)
abbrev rmX5_isLong : Room := { frames := 0, cells := 0, slots := 0, locals := 0 }
set_option maxHeartbeats 4000000 in
set_option maxRecDepth 100000 in
theorem wM_isLong_p131 {p : Program} {l : Launch} {e : Env} {s : State} {m : MethodId} {args : Array Value} {below : List Frame} {meth : Method} {c : Code} {D : va_G} {cl : List vw_C} {a : Nat → Nat} {d : ClassId} {A : Nat → Prop} {Q : Int32 → St → Prop}  (F : FM p s m meth c args D cl d A cX5_isLong 8 (some .boolean))  (I : St)  {H : Heap} {locs : List Loc} {ls : Array Slot} (G : GM D cl a d A s.heap I H locs) (hl : lv_has ls 8 []) (h : M_isLong_p131 Q I) : wMi p l e rmX5_isLong s m args below meth c D cl a d A Q H locs (F0 m 131 ls []) := by
  obtain ⟨hx, hb, hr, hml, hown, hts, hlocks, hA, hK, hcl⟩ := id F
  unfold M_isLong_p131 at h
  refine lv_iconst (v := 1) hx hb dX5_isLong_131 (by decide) ?_
  refine lv_goto (tgt := 136) hx hb dX5_isLong_132 (by decide) ?_
  exact m_zret F G rfl dX5_isLong_136 h
set_option maxHeartbeats 4000000 in
set_option maxRecDepth 100000 in
theorem wM_isLong_p11 {p : Program} {l : Launch} {e : Env} {s : State} {m : MethodId} {args : Array Value} {below : List Frame} {meth : Method} {c : Code} {D : va_G} {cl : List vw_C} {a : Nat → Nat} {d : ClassId} {A : Nat → Prop} {Q : Int32 → St → Prop}  (F : FM p s m meth c args D cl d A cX5_isLong 8 (some .boolean)) (v1 : Int32) (v2 : Int32) (v3 : Int32) (v4 : Int32) (v5 : Int32) (v6 : Int32) (t0 : Int32) (I : St)  {H : Heap} {locs : List Loc} {ls : Array Slot} (G : GM D cl a d A s.heap I H locs) (hl : lv_has ls 8 [(0, .ref (a 0)), (1, .int v1), (2, .int v2), (3, .int v3), (4, .int v4), (5, .int v5), (6, .int v6)]) (h : M_isLong_p11 Q v1 v2 v3 v4 v5 v6 t0 I) : wMi p l e rmX5_isLong s m args below meth c D cl a d A Q H locs (F0 m 11 ls [.int t0]) := by
  obtain ⟨hx, hb, hr, hml, hown, hts, hlocks, hA, hK, hcl⟩ := id F
  unfold M_isLong_p11 at h
  refine lv_istore (lv' := [(7, .int t0), (0, .ref (a 0)), (1, .int v1), (2, .int v2), (3, .int v3), (4, .int v4), (5, .int v5), (6, .int v6)]) hx hb dX5_isLong_11 hl (by decide) rfl (fun ls hl => ?_)
  refine lv_aload_n hx hb dX5_isLong_13 rfl (lv_at hl 1 rfl) ?_
  refine mg_token F G dX5_isLong_14 ?_
  refine lv_iconst (v := 1) hx hb dX5_isLong_17 (by decide) ?_
  refine lv_icmp_ne (tgt := 135) hx hb dX5_isLong_18 (by decide) (fun c_2 => ?_) (fun c_2 => ?_)
  · replace h := h.1 c_2
    refine lv_iconst (v := 0) hx hb dX5_isLong_135 (by decide) ?_
    exact m_zret F G rfl dX5_isLong_136 h
  · replace h := h.2 c_2
    refine lv_aload_n hx hb dX5_isLong_21 rfl (lv_at hl 1 rfl) ?_
    refine mg_behind F G dX5_isLong_22 ?_
    refine lv_aload_n hx hb dX5_isLong_25 rfl (lv_at hl 1 rfl) ?_
    refine mg_begin F G dX5_isLong_26 ?_
    refine lv_isub hx hb dX5_isLong_29 ?_
    refine lv_iload hx hb dX5_isLong_30 (lv_at hl 0 rfl) ?_
    refine lv_icmp_ne (tgt := 135) hx hb dX5_isLong_32 (by decide) (fun c_3 => ?_) (fun c_3 => ?_)
    · replace h := h.1 c_3
      refine lv_iconst (v := 0) hx hb dX5_isLong_135 (by decide) ?_
      exact m_zret F G rfl dX5_isLong_136 h
    · replace h := h.2 c_3
      refine lv_aload_n hx hb dX5_isLong_35 rfl (lv_at hl 1 rfl) ?_
      refine mg_tape F G dX5_isLong_36 ?_
      refine lv_aload_n hx hb dX5_isLong_39 rfl (lv_at hl 1 rfl) ?_
      refine mg_begin F G dX5_isLong_40 ?_
      obtain ⟨b_4, h⟩ := h
      refine m_ld F G mA_14 b_4 dX5_isLong_43 ?_
      refine lv_iload_n hx hb dX5_isLong_44 rfl (lv_at hl 2 rfl) ?_
      refine lv_icmp_ne (tgt := 135) hx hb dX5_isLong_45 (by decide) (fun c_5 => ?_) (fun c_5 => ?_)
      · replace h := h.1 c_5
        refine lv_iconst (v := 0) hx hb dX5_isLong_135 (by decide) ?_
        exact m_zret F G rfl dX5_isLong_136 h
      · replace h := h.2 c_5
        refine lv_aload_n hx hb dX5_isLong_48 rfl (lv_at hl 1 rfl) ?_
        refine mg_tape F G dX5_isLong_49 ?_
        refine lv_aload_n hx hb dX5_isLong_52 rfl (lv_at hl 1 rfl) ?_
        refine mg_begin F G dX5_isLong_53 ?_
        refine lv_iconst (v := 1) hx hb dX5_isLong_56 (by decide) ?_
        refine lv_iadd hx hb dX5_isLong_57 ?_
        obtain ⟨b_6, h⟩ := h
        refine m_ld F G mA_14 b_6 dX5_isLong_58 ?_
        refine lv_iload_n hx hb dX5_isLong_59 rfl (lv_at hl 3 rfl) ?_
        refine lv_icmp_ne (tgt := 135) hx hb dX5_isLong_60 (by decide) (fun c_7 => ?_) (fun c_7 => ?_)
        · replace h := h.1 c_7
          refine lv_iconst (v := 0) hx hb dX5_isLong_135 (by decide) ?_
          exact m_zret F G rfl dX5_isLong_136 h
        · replace h := h.2 c_7
          refine lv_aload_n hx hb dX5_isLong_63 rfl (lv_at hl 1 rfl) ?_
          refine mg_tape F G dX5_isLong_64 ?_
          refine lv_aload_n hx hb dX5_isLong_67 rfl (lv_at hl 1 rfl) ?_
          refine mg_begin F G dX5_isLong_68 ?_
          refine lv_iconst (v := 2) hx hb dX5_isLong_71 (by decide) ?_
          refine lv_iadd hx hb dX5_isLong_72 ?_
          obtain ⟨b_8, h⟩ := h
          refine m_ld F G mA_14 b_8 dX5_isLong_73 ?_
          refine lv_iload_n hx hb dX5_isLong_74 rfl (lv_at hl 4 rfl) ?_
          refine lv_icmp_ne (tgt := 135) hx hb dX5_isLong_75 (by decide) (fun c_9 => ?_) (fun c_9 => ?_)
          · replace h := h.1 c_9
            refine lv_iconst (v := 0) hx hb dX5_isLong_135 (by decide) ?_
            exact m_zret F G rfl dX5_isLong_136 h
          · replace h := h.2 c_9
            refine lv_aload_n hx hb dX5_isLong_78 rfl (lv_at hl 1 rfl) ?_
            refine mg_tape F G dX5_isLong_79 ?_
            refine lv_aload_n hx hb dX5_isLong_82 rfl (lv_at hl 1 rfl) ?_
            refine mg_begin F G dX5_isLong_83 ?_
            refine lv_iconst (v := 3) hx hb dX5_isLong_86 (by decide) ?_
            refine lv_iadd hx hb dX5_isLong_87 ?_
            obtain ⟨b_10, h⟩ := h
            refine m_ld F G mA_14 b_10 dX5_isLong_88 ?_
            refine lv_iload hx hb dX5_isLong_89 (lv_at hl 5 rfl) ?_
            refine lv_icmp_ne (tgt := 135) hx hb dX5_isLong_91 (by decide) (fun c_11 => ?_) (fun c_11 => ?_)
            · replace h := h.1 c_11
              refine lv_iconst (v := 0) hx hb dX5_isLong_135 (by decide) ?_
              exact m_zret F G rfl dX5_isLong_136 h
            · replace h := h.2 c_11
              refine lv_aload_n hx hb dX5_isLong_94 rfl (lv_at hl 1 rfl) ?_
              refine mg_tape F G dX5_isLong_95 ?_
              refine lv_aload_n hx hb dX5_isLong_98 rfl (lv_at hl 1 rfl) ?_
              refine mg_begin F G dX5_isLong_99 ?_
              refine lv_iconst (v := 4) hx hb dX5_isLong_102 (by decide) ?_
              refine lv_iadd hx hb dX5_isLong_103 ?_
              obtain ⟨b_12, h⟩ := h
              refine m_ld F G mA_14 b_12 dX5_isLong_104 ?_
              refine lv_iload hx hb dX5_isLong_105 (lv_at hl 6 rfl) ?_
              refine lv_icmp_ne (tgt := 135) hx hb dX5_isLong_107 (by decide) (fun c_13 => ?_) (fun c_13 => ?_)
              · replace h := h.1 c_13
                refine lv_iconst (v := 0) hx hb dX5_isLong_135 (by decide) ?_
                exact m_zret F G rfl dX5_isLong_136 h
              · replace h := h.2 c_13
                refine lv_iload hx hb dX5_isLong_110 (lv_at hl 7 rfl) ?_
                refine lv_if_eq (tgt := 131) hx hb dX5_isLong_112 (by decide) (fun c_14 => ?_) (fun c_14 => ?_)
                · replace h := h.1 c_14
                  exact wM_isLong_p131 F  I  G (lv_sub hl [] rfl) h
                · replace h := h.2 c_14
                  refine lv_aload_n hx hb dX5_isLong_115 rfl (lv_at hl 1 rfl) ?_
                  refine mg_tape F G dX5_isLong_116 ?_
                  refine lv_aload_n hx hb dX5_isLong_119 rfl (lv_at hl 1 rfl) ?_
                  refine mg_begin F G dX5_isLong_120 ?_
                  refine lv_iconst (v := 5) hx hb dX5_isLong_123 (by decide) ?_
                  refine lv_iadd hx hb dX5_isLong_124 ?_
                  obtain ⟨b_15, h⟩ := h
                  refine m_ld F G mA_14 b_15 dX5_isLong_125 ?_
                  refine lv_iload hx hb dX5_isLong_126 (lv_at hl 7 rfl) ?_
                  refine lv_icmp_ne (tgt := 135) hx hb dX5_isLong_128 (by decide) (fun c_16 => ?_) (fun c_16 => ?_)
                  · replace h := h.1 c_16
                    refine lv_iconst (v := 0) hx hb dX5_isLong_135 (by decide) ?_
                    exact m_zret F G rfl dX5_isLong_136 h
                  · replace h := h.2 c_16
                    exact wM_isLong_p131 F  I  G (lv_sub hl [] rfl) h
set_option maxHeartbeats 4000000 in
set_option maxRecDepth 100000 in
theorem wM_isLong {l : Launch} {D : va_G} {cl : List vw_C} {a : Nat → Nat} {d : ClassId} (hcl : cl[5]? = some (RX5, TX5, 32)) (sz : Nat) (v1 : Int32) (v2 : Int32) (v3 : Int32) (v4 : Int32) (v5 : Int32) (v6 : Int32) (I : St) (Q : Int32 → St → Prop) (h : M_isLong v1 v2 v3 v4 v5 v6 I Q) : MMi l D cl a d yX5_isLong cX5_isLong 8 .boolean rmX5_isLong [.ref (a 0), .int v1, .int v2, .int v3, .int v4, .int v5, .int v6] sz I Q := by
  refine m_enter (Qc := fun A => va_Qi Q (BM D cl a d A) A) hcl (by decide) rfl (Nat.le_of_ble_eq_true rfl) ?_
  intro p e s m below meth c ls A F hG hl
  have G := hG
  have hl : lv_has ls 8 [(0, .ref (a 0)), (1, .int v1), (2, .int v2), (3, .int v3), (4, .int v4), (5, .int v5), (6, .int v6)] := hl
  obtain ⟨hx, hb, hr, hml, hown, hts, hlocks, hA, hK, hcl⟩ := id F
  unfold M_isLong at h
  refine lv_iload hx hb dX5_isLong_0 (lv_at hl 6 rfl) ?_
  refine lv_if_ne (tgt := 9) hx hb dX5_isLong_2 (by decide) (fun c_1 => ?_) (fun c_1 => ?_)
  · replace h := h.1 c_1
    refine lv_bipush (v := 6) hx hb dX5_isLong_9 (by decide) ?_
    exact wM_isLong_p11 F v1 v2 v3 v4 v5 v6 6 I  G (lv_sub hl [0, 1, 2, 3, 4, 5, 6] rfl) h
  · replace h := h.2 c_1
    refine lv_iconst (v := 5) hx hb dX5_isLong_5 (by decide) ?_
    refine lv_goto (tgt := 11) hx hb dX5_isLong_6 (by decide) ?_
    exact wM_isLong_p11 F v1 v2 v3 v4 v5 v6 5 I  G (lv_sub hl [0, 1, 2, 3, 4, 5, 6] rfl) h
set_option maxHeartbeats 4000000 in
set_option maxRecDepth 100000 in
theorem kM_isLong {p : Program} {l : Launch} {e : Env} {s : State} {m : MethodId} {R : Room} {args : Array Value} {below : List Frame} {meth : Method} {c : Code} {D : va_G} {cl : List vw_C} {a : Nat → Nat} {d : ClassId} {A : Nat → Prop} {Q : State → Prop} {cc : ByteArray} {nL pc : Nat} {ret : Option FieldType} {ls : Array Slot} {rest : List Value} {v1 : Int32} {v2 : Int32} {v3 : Int32} {v4 : Int32} {v5 : Int32} {v6 : Int32} {I : St} {H : Heap} {locs : List Loc} {Q1 : Int32 → St → Prop} (F : FM p s m meth c args D cl d A cc nL ret) (G : GM D cl a d A s.heap I H locs) (hsz : ls.size = nL) (hR : rmX5_isLong.frames + 1 ≤ R.frames ∧ 8 + (8 + 11) + rmX5_isLong.locals ≤ R.locals) (hW : (rest.map fun v => v.category).sum ≤ 8) (hd : decode cc pc = .ok (.invokevirtual 224, 3)) (h : M_isLong v1 v2 v3 v4 v5 v6 I Q1) (k : ∀ (r : Int32) (I1 : St) (H : Heap) (locs : List Loc), GM D cl a d A s.heap I1 H locs → Q1 r I1 → W p l e R s m args below meth c H locs 0 0 Q (F0 m (pc + 3) ls (.int r :: rest))) : W p l e R s m args below meth c H locs 0 0 Q (F0 m pc ls (.int v6 :: .int v5 :: .int v4 :: .int v3 :: .int v2 :: .int v1 :: .ref (a 0) :: rest)) := by
  obtain ⟨hx, hb, hr, hml, hown, hts, hlocks, hA, hK, hcl⟩ := id F
  exact m_callVi (As := [.int v1, .int v2, .int v3, .int v4, .int v5, .int v6]) F G hsz (wM_isLong hcl H.size v1 v2 v3 v4 v5 v6 I Q1 h) (cwV 6 hts (lw_V q1559 q1561 qs69 q90 q1562) rfl rfl rfl (by decide +kernel) hR) rfl rfl hW hd k
/-! isWordAt -/
def M_isWordAt_p98 (Q : Int32 → St → Prop)   (I : St) : Prop := Q 1 I
def M_isWordAt_p10 (Q : Int32 → St → Prop)  (v1 : Int32) (v2 : Int32) (v3 : Int32) (v4 : Int32) (t0 : Int32) (I : St) : Prop := (¬ (I 0 18) = 1 → Q 0 I) ∧ ((I 0 18) = 1 → (¬ ((I 0 17) - (I 0 16)) = t0 → Q 0 I) ∧ (((I 0 17) - (I 0 16)) = t0 → vp_in (I 0 16) 96 ∧ ((¬ (I 14 ((I 0 16).toNatClampNeg)) = v1 → Q 0 I) ∧ ((I 14 ((I 0 16).toNatClampNeg)) = v1 → vp_in ((I 0 16) + 1) 96 ∧ ((¬ (I 14 (((I 0 16) + 1).toNatClampNeg)) = v2 → Q 0 I) ∧ ((I 14 (((I 0 16) + 1).toNatClampNeg)) = v2 → vp_in ((I 0 16) + 2) 96 ∧ ((¬ (I 14 (((I 0 16) + 2).toNatClampNeg)) = v3 → Q 0 I) ∧ ((I 14 (((I 0 16) + 2).toNatClampNeg)) = v3 → (v4 = 0 → M_isWordAt_p98 Q  I) ∧ (¬ v4 = 0 → vp_in ((I 0 16) + 3) 96 ∧ ((¬ (I 14 (((I 0 16) + 3).toNatClampNeg)) = v4 → Q 0 I) ∧ ((I 14 (((I 0 16) + 3).toNatClampNeg)) = v4 → M_isWordAt_p98 Q  I)))))))))))
def M_isWordAt (v1 : Int32) (v2 : Int32) (v3 : Int32) (v4 : Int32) (I : St) (Q : Int32 → St → Prop) : Prop := (¬ v4 = 0 → M_isWordAt_p10 Q v1 v2 v3 v4 4 I) ∧ (v4 = 0 → M_isWordAt_p10 Q v1 v2 v3 v4 3 I)
abbrev rmX5_isWordAt : Room := { frames := 0, cells := 0, slots := 0, locals := 0 }
set_option maxHeartbeats 4000000 in
set_option maxRecDepth 100000 in
theorem wM_isWordAt_p98 {p : Program} {l : Launch} {e : Env} {s : State} {m : MethodId} {args : Array Value} {below : List Frame} {meth : Method} {c : Code} {D : va_G} {cl : List vw_C} {a : Nat → Nat} {d : ClassId} {A : Nat → Prop} {Q : Int32 → St → Prop}  (F : FM p s m meth c args D cl d A cX5_isWordAt 6 (some .boolean))  (I : St)  {H : Heap} {locs : List Loc} {ls : Array Slot} (G : GM D cl a d A s.heap I H locs) (hl : lv_has ls 6 []) (h : M_isWordAt_p98 Q I) : wMi p l e rmX5_isWordAt s m args below meth c D cl a d A Q H locs (F0 m 98 ls []) := by
  obtain ⟨hx, hb, hr, hml, hown, hts, hlocks, hA, hK, hcl⟩ := id F
  unfold M_isWordAt_p98 at h
  refine lv_iconst (v := 1) hx hb dX5_isWordAt_98 (by decide) ?_
  refine lv_goto (tgt := 103) hx hb dX5_isWordAt_99 (by decide) ?_
  exact m_zret F G rfl dX5_isWordAt_103 h
set_option maxHeartbeats 4000000 in
set_option maxRecDepth 100000 in
theorem wM_isWordAt_p10 {p : Program} {l : Launch} {e : Env} {s : State} {m : MethodId} {args : Array Value} {below : List Frame} {meth : Method} {c : Code} {D : va_G} {cl : List vw_C} {a : Nat → Nat} {d : ClassId} {A : Nat → Prop} {Q : Int32 → St → Prop}  (F : FM p s m meth c args D cl d A cX5_isWordAt 6 (some .boolean)) (v1 : Int32) (v2 : Int32) (v3 : Int32) (v4 : Int32) (t0 : Int32) (I : St)  {H : Heap} {locs : List Loc} {ls : Array Slot} (G : GM D cl a d A s.heap I H locs) (hl : lv_has ls 6 [(0, .ref (a 0)), (1, .int v1), (2, .int v2), (3, .int v3), (4, .int v4)]) (h : M_isWordAt_p10 Q v1 v2 v3 v4 t0 I) : wMi p l e rmX5_isWordAt s m args below meth c D cl a d A Q H locs (F0 m 10 ls [.int t0]) := by
  obtain ⟨hx, hb, hr, hml, hown, hts, hlocks, hA, hK, hcl⟩ := id F
  unfold M_isWordAt_p10 at h
  refine lv_istore (lv' := [(5, .int t0), (0, .ref (a 0)), (1, .int v1), (2, .int v2), (3, .int v3), (4, .int v4)]) hx hb dX5_isWordAt_10 hl (by decide) rfl (fun ls hl => ?_)
  refine lv_aload_n hx hb dX5_isWordAt_12 rfl (lv_at hl 1 rfl) ?_
  refine mg_token F G dX5_isWordAt_13 ?_
  refine lv_iconst (v := 1) hx hb dX5_isWordAt_16 (by decide) ?_
  refine lv_icmp_ne (tgt := 102) hx hb dX5_isWordAt_17 (by decide) (fun c_2 => ?_) (fun c_2 => ?_)
  · replace h := h.1 c_2
    refine lv_iconst (v := 0) hx hb dX5_isWordAt_102 (by decide) ?_
    exact m_zret F G rfl dX5_isWordAt_103 h
  · replace h := h.2 c_2
    refine lv_aload_n hx hb dX5_isWordAt_20 rfl (lv_at hl 1 rfl) ?_
    refine mg_behind F G dX5_isWordAt_21 ?_
    refine lv_aload_n hx hb dX5_isWordAt_24 rfl (lv_at hl 1 rfl) ?_
    refine mg_begin F G dX5_isWordAt_25 ?_
    refine lv_isub hx hb dX5_isWordAt_28 ?_
    refine lv_iload hx hb dX5_isWordAt_29 (lv_at hl 0 rfl) ?_
    refine lv_icmp_ne (tgt := 102) hx hb dX5_isWordAt_31 (by decide) (fun c_3 => ?_) (fun c_3 => ?_)
    · replace h := h.1 c_3
      refine lv_iconst (v := 0) hx hb dX5_isWordAt_102 (by decide) ?_
      exact m_zret F G rfl dX5_isWordAt_103 h
    · replace h := h.2 c_3
      refine lv_aload_n hx hb dX5_isWordAt_34 rfl (lv_at hl 1 rfl) ?_
      refine mg_tape F G dX5_isWordAt_35 ?_
      refine lv_aload_n hx hb dX5_isWordAt_38 rfl (lv_at hl 1 rfl) ?_
      refine mg_begin F G dX5_isWordAt_39 ?_
      obtain ⟨b_4, h⟩ := h
      refine m_ld F G mA_14 b_4 dX5_isWordAt_42 ?_
      refine lv_iload_n hx hb dX5_isWordAt_43 rfl (lv_at hl 2 rfl) ?_
      refine lv_icmp_ne (tgt := 102) hx hb dX5_isWordAt_44 (by decide) (fun c_5 => ?_) (fun c_5 => ?_)
      · replace h := h.1 c_5
        refine lv_iconst (v := 0) hx hb dX5_isWordAt_102 (by decide) ?_
        exact m_zret F G rfl dX5_isWordAt_103 h
      · replace h := h.2 c_5
        refine lv_aload_n hx hb dX5_isWordAt_47 rfl (lv_at hl 1 rfl) ?_
        refine mg_tape F G dX5_isWordAt_48 ?_
        refine lv_aload_n hx hb dX5_isWordAt_51 rfl (lv_at hl 1 rfl) ?_
        refine mg_begin F G dX5_isWordAt_52 ?_
        refine lv_iconst (v := 1) hx hb dX5_isWordAt_55 (by decide) ?_
        refine lv_iadd hx hb dX5_isWordAt_56 ?_
        obtain ⟨b_6, h⟩ := h
        refine m_ld F G mA_14 b_6 dX5_isWordAt_57 ?_
        refine lv_iload_n hx hb dX5_isWordAt_58 rfl (lv_at hl 3 rfl) ?_
        refine lv_icmp_ne (tgt := 102) hx hb dX5_isWordAt_59 (by decide) (fun c_7 => ?_) (fun c_7 => ?_)
        · replace h := h.1 c_7
          refine lv_iconst (v := 0) hx hb dX5_isWordAt_102 (by decide) ?_
          exact m_zret F G rfl dX5_isWordAt_103 h
        · replace h := h.2 c_7
          refine lv_aload_n hx hb dX5_isWordAt_62 rfl (lv_at hl 1 rfl) ?_
          refine mg_tape F G dX5_isWordAt_63 ?_
          refine lv_aload_n hx hb dX5_isWordAt_66 rfl (lv_at hl 1 rfl) ?_
          refine mg_begin F G dX5_isWordAt_67 ?_
          refine lv_iconst (v := 2) hx hb dX5_isWordAt_70 (by decide) ?_
          refine lv_iadd hx hb dX5_isWordAt_71 ?_
          obtain ⟨b_8, h⟩ := h
          refine m_ld F G mA_14 b_8 dX5_isWordAt_72 ?_
          refine lv_iload_n hx hb dX5_isWordAt_73 rfl (lv_at hl 4 rfl) ?_
          refine lv_icmp_ne (tgt := 102) hx hb dX5_isWordAt_74 (by decide) (fun c_9 => ?_) (fun c_9 => ?_)
          · replace h := h.1 c_9
            refine lv_iconst (v := 0) hx hb dX5_isWordAt_102 (by decide) ?_
            exact m_zret F G rfl dX5_isWordAt_103 h
          · replace h := h.2 c_9
            refine lv_iload hx hb dX5_isWordAt_77 (lv_at hl 5 rfl) ?_
            refine lv_if_eq (tgt := 98) hx hb dX5_isWordAt_79 (by decide) (fun c_10 => ?_) (fun c_10 => ?_)
            · replace h := h.1 c_10
              exact wM_isWordAt_p98 F  I  G (lv_sub hl [] rfl) h
            · replace h := h.2 c_10
              refine lv_aload_n hx hb dX5_isWordAt_82 rfl (lv_at hl 1 rfl) ?_
              refine mg_tape F G dX5_isWordAt_83 ?_
              refine lv_aload_n hx hb dX5_isWordAt_86 rfl (lv_at hl 1 rfl) ?_
              refine mg_begin F G dX5_isWordAt_87 ?_
              refine lv_iconst (v := 3) hx hb dX5_isWordAt_90 (by decide) ?_
              refine lv_iadd hx hb dX5_isWordAt_91 ?_
              obtain ⟨b_11, h⟩ := h
              refine m_ld F G mA_14 b_11 dX5_isWordAt_92 ?_
              refine lv_iload hx hb dX5_isWordAt_93 (lv_at hl 5 rfl) ?_
              refine lv_icmp_ne (tgt := 102) hx hb dX5_isWordAt_95 (by decide) (fun c_12 => ?_) (fun c_12 => ?_)
              · replace h := h.1 c_12
                refine lv_iconst (v := 0) hx hb dX5_isWordAt_102 (by decide) ?_
                exact m_zret F G rfl dX5_isWordAt_103 h
              · replace h := h.2 c_12
                exact wM_isWordAt_p98 F  I  G (lv_sub hl [] rfl) h
set_option maxHeartbeats 4000000 in
set_option maxRecDepth 100000 in
theorem wM_isWordAt {l : Launch} {D : va_G} {cl : List vw_C} {a : Nat → Nat} {d : ClassId} (hcl : cl[5]? = some (RX5, TX5, 32)) (sz : Nat) (v1 : Int32) (v2 : Int32) (v3 : Int32) (v4 : Int32) (I : St) (Q : Int32 → St → Prop) (h : M_isWordAt v1 v2 v3 v4 I Q) : MMi l D cl a d yX5_isWordAt cX5_isWordAt 6 .boolean rmX5_isWordAt [.ref (a 0), .int v1, .int v2, .int v3, .int v4] sz I Q := by
  refine m_enter (Qc := fun A => va_Qi Q (BM D cl a d A) A) hcl (by decide) rfl (Nat.le_of_ble_eq_true rfl) ?_
  intro p e s m below meth c ls A F hG hl
  have G := hG
  have hl : lv_has ls 6 [(0, .ref (a 0)), (1, .int v1), (2, .int v2), (3, .int v3), (4, .int v4)] := hl
  obtain ⟨hx, hb, hr, hml, hown, hts, hlocks, hA, hK, hcl⟩ := id F
  unfold M_isWordAt at h
  refine lv_iload hx hb dX5_isWordAt_0 (lv_at hl 4 rfl) ?_
  refine lv_if_ne (tgt := 9) hx hb dX5_isWordAt_2 (by decide) (fun c_1 => ?_) (fun c_1 => ?_)
  · replace h := h.1 c_1
    refine lv_iconst (v := 4) hx hb dX5_isWordAt_9 (by decide) ?_
    exact wM_isWordAt_p10 F v1 v2 v3 v4 4 I  G (lv_sub hl [0, 1, 2, 3, 4] rfl) h
  · replace h := h.2 c_1
    refine lv_iconst (v := 3) hx hb dX5_isWordAt_5 (by decide) ?_
    refine lv_goto (tgt := 10) hx hb dX5_isWordAt_6 (by decide) ?_
    exact wM_isWordAt_p10 F v1 v2 v3 v4 3 I  G (lv_sub hl [0, 1, 2, 3, 4] rfl) h
set_option maxHeartbeats 4000000 in
set_option maxRecDepth 100000 in
theorem kM_isWordAt {p : Program} {l : Launch} {e : Env} {s : State} {m : MethodId} {R : Room} {args : Array Value} {below : List Frame} {meth : Method} {c : Code} {D : va_G} {cl : List vw_C} {a : Nat → Nat} {d : ClassId} {A : Nat → Prop} {Q : State → Prop} {cc : ByteArray} {nL pc : Nat} {ret : Option FieldType} {ls : Array Slot} {rest : List Value} {v1 : Int32} {v2 : Int32} {v3 : Int32} {v4 : Int32} {I : St} {H : Heap} {locs : List Loc} {Q1 : Int32 → St → Prop} (F : FM p s m meth c args D cl d A cc nL ret) (G : GM D cl a d A s.heap I H locs) (hsz : ls.size = nL) (hR : rmX5_isWordAt.frames + 1 ≤ R.frames ∧ 8 + (6 + 11) + rmX5_isWordAt.locals ≤ R.locals) (hW : (rest.map fun v => v.category).sum ≤ 8) (hd : decode cc pc = .ok (.invokevirtual 228, 3)) (h : M_isWordAt v1 v2 v3 v4 I Q1) (k : ∀ (r : Int32) (I1 : St) (H : Heap) (locs : List Loc), GM D cl a d A s.heap I1 H locs → Q1 r I1 → W p l e R s m args below meth c H locs 0 0 Q (F0 m (pc + 3) ls (.int r :: rest))) : W p l e R s m args below meth c H locs 0 0 Q (F0 m pc ls (.int v4 :: .int v3 :: .int v2 :: .int v1 :: .ref (a 0) :: rest)) := by
  obtain ⟨hx, hb, hr, hml, hown, hts, hlocks, hA, hK, hcl⟩ := id F
  exact m_callVi (As := [.int v1, .int v2, .int v3, .int v4]) F G hsz (wM_isWordAt hcl H.size v1 v2 v3 v4 I Q1 h) (cwV 4 hts (lw_V q1563 q1565 qs70 q90 q1566) rfl rfl rfl (by decide +kernel) hR) rfl rfl hW hd k
/-! key -/
def M_key  (I : St) (Q : Int32 → St → Prop) : Prop := M_isLong 97 103 97 105 110 0 I (fun r_1 I_2 => (r_1 = 0 → M_isWordAt 102 101 101 0 I_2 (fun r_4 I_5 => (r_4 = 0 → M_isWordAt 102 105 110 101 I_5 (fun r_7 I_8 => (r_7 = 0 → Q (-1) I_8) ∧ (¬ r_7 = 0 → Q 2 I_8))) ∧ (¬ r_4 = 0 → Q 1 I_5))) ∧ (¬ r_1 = 0 → Q 0 I_2))
abbrev rmX5_key : Room := { frames := 1, cells := 0, slots := 0, locals := 27 }
set_option maxHeartbeats 4000000 in
set_option maxRecDepth 100000 in
theorem wM_key {l : Launch} {D : va_G} {cl : List vw_C} {a : Nat → Nat} {d : ClassId} (hcl : cl[5]? = some (RX5, TX5, 32)) (sz : Nat)  (I : St) (Q : Int32 → St → Prop) (h : M_key  I Q) : MMi l D cl a d yX5_key cX5_key 1 .int rmX5_key [.ref (a 0)] sz I Q := by
  refine m_enter (Qc := fun A => va_Qi Q (BM D cl a d A) A) hcl (by decide) rfl (Nat.le_of_ble_eq_true rfl) ?_
  intro p e s m below meth c ls A F hG hl
  have G := hG
  have hl : lv_has ls 1 [(0, .ref (a 0))] := hl
  obtain ⟨hx, hb, hr, hml, hown, hts, hlocks, hA, hK, hcl⟩ := id F
  unfold M_key at h
  refine lv_aload_n hx hb dX5_key_0 rfl (lv_at hl 0 rfl) ?_
  refine lv_bipush (v := 97) hx hb dX5_key_1 (by decide) ?_
  refine lv_bipush (v := 103) hx hb dX5_key_3 (by decide) ?_
  refine lv_bipush (v := 97) hx hb dX5_key_5 (by decide) ?_
  refine lv_bipush (v := 105) hx hb dX5_key_7 (by decide) ?_
  refine lv_bipush (v := 110) hx hb dX5_key_9 (by decide) ?_
  refine lv_iconst (v := 0) hx hb dX5_key_11 (by decide) ?_
  refine kM_isLong F G hl.1 ⟨Nat.le_of_ble_eq_true rfl, Nat.le_of_ble_eq_true rfl⟩ (Nat.le_of_ble_eq_true rfl) dX5_key_12 h (fun r_1 I_2 H locs G h => ?_)
  refine lv_if_eq (tgt := 20) hx hb dX5_key_15 (by decide) (fun c_3 => ?_) (fun c_3 => ?_)
  · replace h := h.1 c_3
    refine lv_aload_n hx hb dX5_key_20 rfl (lv_at hl 0 rfl) ?_
    refine lv_bipush (v := 102) hx hb dX5_key_21 (by decide) ?_
    refine lv_bipush (v := 101) hx hb dX5_key_23 (by decide) ?_
    refine lv_bipush (v := 101) hx hb dX5_key_25 (by decide) ?_
    refine lv_iconst (v := 0) hx hb dX5_key_27 (by decide) ?_
    refine kM_isWordAt F G hl.1 ⟨Nat.le_of_ble_eq_true rfl, Nat.le_of_ble_eq_true rfl⟩ (Nat.le_of_ble_eq_true rfl) dX5_key_28 h (fun r_4 I_5 H locs G h => ?_)
    refine lv_if_eq (tgt := 36) hx hb dX5_key_31 (by decide) (fun c_6 => ?_) (fun c_6 => ?_)
    · replace h := h.1 c_6
      refine lv_aload_n hx hb dX5_key_36 rfl (lv_at hl 0 rfl) ?_
      refine lv_bipush (v := 102) hx hb dX5_key_37 (by decide) ?_
      refine lv_bipush (v := 105) hx hb dX5_key_39 (by decide) ?_
      refine lv_bipush (v := 110) hx hb dX5_key_41 (by decide) ?_
      refine lv_bipush (v := 101) hx hb dX5_key_43 (by decide) ?_
      refine kM_isWordAt F G hl.1 ⟨Nat.le_of_ble_eq_true rfl, Nat.le_of_ble_eq_true rfl⟩ (Nat.le_of_ble_eq_true rfl) dX5_key_45 h (fun r_7 I_8 H locs G h => ?_)
      refine lv_if_eq (tgt := 55) hx hb dX5_key_48 (by decide) (fun c_9 => ?_) (fun c_9 => ?_)
      · replace h := h.1 c_9
        refine lv_iconst (v := (-1)) hx hb dX5_key_55 (by decide) ?_
        exact m_iret F G dX5_key_56 h
      · replace h := h.2 c_9
        refine lv_iconst (v := 2) hx hb dX5_key_51 (by decide) ?_
        refine lv_goto (tgt := 56) hx hb dX5_key_52 (by decide) ?_
        exact m_iret F G dX5_key_56 h
    · replace h := h.2 c_6
      refine lv_iconst (v := 1) hx hb dX5_key_34 (by decide) ?_
      exact m_iret F G dX5_key_35 h
  · replace h := h.2 c_3
    refine lv_iconst (v := 0) hx hb dX5_key_18 (by decide) ?_
    exact m_iret F G dX5_key_19 h
set_option maxHeartbeats 4000000 in
set_option maxRecDepth 100000 in
theorem kM_key {p : Program} {l : Launch} {e : Env} {s : State} {m : MethodId} {R : Room} {args : Array Value} {below : List Frame} {meth : Method} {c : Code} {D : va_G} {cl : List vw_C} {a : Nat → Nat} {d : ClassId} {A : Nat → Prop} {Q : State → Prop} {cc : ByteArray} {nL pc : Nat} {ret : Option FieldType} {ls : Array Slot} {rest : List Value}  {I : St} {H : Heap} {locs : List Loc} {Q1 : Int32 → St → Prop} (F : FM p s m meth c args D cl d A cc nL ret) (G : GM D cl a d A s.heap I H locs) (hsz : ls.size = nL) (hR : rmX5_key.frames + 1 ≤ R.frames ∧ 8 + (1 + 11) + rmX5_key.locals ≤ R.locals) (hW : (rest.map fun v => v.category).sum ≤ 8) (hd : decode cc pc = .ok (.invokevirtual 280, 3)) (h : M_key  I Q1) (k : ∀ (r : Int32) (I1 : St) (H : Heap) (locs : List Loc), GM D cl a d A s.heap I1 H locs → Q1 r I1 → W p l e R s m args below meth c H locs 0 0 Q (F0 m (pc + 3) ls (.int r :: rest))) : W p l e R s m args below meth c H locs 0 0 Q (F0 m pc ls (.ref (a 0) :: rest)) := by
  obtain ⟨hx, hb, hr, hml, hown, hts, hlocks, hA, hK, hcl⟩ := id F
  exact m_callVi (As := []) F G hsz (wM_key hcl H.size  I Q1 h) (cwV 0 hts (lw_V q1555 q1557 qs68 q90 q1558) rfl rfl rfl (by decide +kernel) hR) rfl rfl hW hd k
/-! isText -/
def M_isText (v1 : Int32) (I : St) (Q : Int32 → St → Prop) : Prop := M_isIn v1.toInt64 0 (((I 1 1) - 1).toInt64) I (fun r_1 I_2 => zb r_1 ∧ Q r_1 I_2)
abbrev rmX5_isText : Room := { frames := 1, cells := 0, slots := 0, locals := 25 }
set_option maxHeartbeats 4000000 in
set_option maxRecDepth 100000 in
theorem wM_isText {l : Launch} {D : va_G} {cl : List vw_C} {a : Nat → Nat} {d : ClassId} (hcl : cl[5]? = some (RX5, TX5, 32)) (sz : Nat) (v1 : Int32) (I : St) (Q : Int32 → St → Prop) (h : M_isText v1 I Q) : MMi l D cl a d yX5_isText cX5_isText 2 .boolean rmX5_isText [.ref (a 0), .int v1] sz I Q := by
  refine m_enter (Qc := fun A => va_Qi Q (BM D cl a d A) A) hcl (by decide) rfl (Nat.le_of_ble_eq_true rfl) ?_
  intro p e s m below meth c ls A F hG hl
  have G := hG
  have hl : lv_has ls 2 [(0, .ref (a 0)), (1, .int v1)] := hl
  obtain ⟨hx, hb, hr, hml, hown, hts, hlocks, hA, hK, hcl⟩ := id F
  unfold M_isText at h
  refine lv_iload_n hx hb dX5_isText_0 rfl (lv_at hl 1 rfl) ?_
  refine lv_i2l (v := v1.toInt64) hx hb dX5_isText_1 rfl ?_
  refine lv_lconst (v := 0) hx hb dX5_isText_2 (by decide) ?_
  refine lv_aload_n hx hb dX5_isText_3 rfl (lv_at hl 0 rfl) ?_
  refine mg_s F G dX5_isText_4 ?_
  refine lv_iconst (v := 1) hx hb dX5_isText_7 (by decide) ?_
  refine m_ld F G mA_1 (by unfold vp_in; decide) dX5_isText_8 ?_
  refine lv_iconst (v := 1) hx hb dX5_isText_9 (by decide) ?_
  refine lv_isub hx hb dX5_isText_10 ?_
  refine lv_i2l (v := ((I 1 1) - 1).toInt64) hx hb dX5_isText_11 rfl ?_
  refine kM_isIn F G hl.1 ⟨Nat.le_of_ble_eq_true rfl, Nat.le_of_ble_eq_true rfl⟩ (Nat.le_of_ble_eq_true rfl) dX5_isText_12 h (fun r_1 I_2 H locs G h => ?_)
  exact m_zret F G h.1 dX5_isText_15 h.2
set_option maxHeartbeats 4000000 in
set_option maxRecDepth 100000 in
theorem kM_isText {p : Program} {l : Launch} {e : Env} {s : State} {m : MethodId} {R : Room} {args : Array Value} {below : List Frame} {meth : Method} {c : Code} {D : va_G} {cl : List vw_C} {a : Nat → Nat} {d : ClassId} {A : Nat → Prop} {Q : State → Prop} {cc : ByteArray} {nL pc : Nat} {ret : Option FieldType} {ls : Array Slot} {rest : List Value} {v1 : Int32} {I : St} {H : Heap} {locs : List Loc} {Q1 : Int32 → St → Prop} (F : FM p s m meth c args D cl d A cc nL ret) (G : GM D cl a d A s.heap I H locs) (hsz : ls.size = nL) (hR : rmX5_isText.frames + 1 ≤ R.frames ∧ 8 + (2 + 11) + rmX5_isText.locals ≤ R.locals) (hW : (rest.map fun v => v.category).sum ≤ 8) (hd : decode cc pc = .ok (.invokevirtual 286, 3)) (h : M_isText v1 I Q1) (k : ∀ (r : Int32) (I1 : St) (H : Heap) (locs : List Loc), GM D cl a d A s.heap I1 H locs → Q1 r I1 → W p l e R s m args below meth c H locs 0 0 Q (F0 m (pc + 3) ls (.int r :: rest))) : W p l e R s m args below meth c H locs 0 0 Q (F0 m pc ls (.int v1 :: .ref (a 0) :: rest)) := by
  obtain ⟨hx, hb, hr, hml, hown, hts, hlocks, hA, hK, hcl⟩ := id F
  exact m_callVi (As := [.int v1]) F G hsz (wM_isText hcl H.size v1 I Q1 h) (cwV 1 hts (lw_V q1606 q1608 qs79 q90 q1609) rfl rfl rfl (by decide +kernel) hR) rfl rfl hW hd k
/-! textTold -/
def M_textTold (v1 : Int32) (v2 : Int32) (I : St) (Q : Int32 → St → Prop) : Prop := M_isText v1 I (fun r_1 I_2 => (r_1 = 0 → Q (-1000000001) I_2) ∧ (¬ r_1 = 0 → M_isIn v2.toInt64 0 1 I_2 (fun r_4 I_5 => (¬ r_4 = 0 → M_textAt v1 I_5 (fun r_7 I_8 => vp_in (r_7 + v2) 3040 ∧ (Q (I_8 1 ((r_7 + v2).toNatClampNeg)) I_8))) ∧ (r_4 = 0 → Q (-1000000001) I_5))))
abbrev rmX5_textTold : Room := { frames := 2, cells := 0, slots := 0, locals := 46 }
set_option maxHeartbeats 4000000 in
set_option maxRecDepth 100000 in
theorem wM_textTold {l : Launch} {D : va_G} {cl : List vw_C} {a : Nat → Nat} {d : ClassId} (hcl : cl[5]? = some (RX5, TX5, 32)) (sz : Nat) (v1 : Int32) (v2 : Int32) (I : St) (Q : Int32 → St → Prop) (h : M_textTold v1 v2 I Q) : MMi l D cl a d yX5_textTold cX5_textTold 3 .int rmX5_textTold [.ref (a 0), .int v1, .int v2] sz I Q := by
  refine m_enter (Qc := fun A => va_Qi Q (BM D cl a d A) A) hcl (by decide) rfl (Nat.le_of_ble_eq_true rfl) ?_
  intro p e s m below meth c ls A F hG hl
  have G := hG
  have hl : lv_has ls 3 [(0, .ref (a 0)), (1, .int v1), (2, .int v2)] := hl
  obtain ⟨hx, hb, hr, hml, hown, hts, hlocks, hA, hK, hcl⟩ := id F
  unfold M_textTold at h
  refine lv_aload_n hx hb dX5_textTold_0 rfl (lv_at hl 0 rfl) ?_
  refine lv_iload_n hx hb dX5_textTold_1 rfl (lv_at hl 1 rfl) ?_
  refine kM_isText F G hl.1 ⟨Nat.le_of_ble_eq_true rfl, Nat.le_of_ble_eq_true rfl⟩ (Nat.le_of_ble_eq_true rfl) dX5_textTold_2 h (fun r_1 I_2 H locs G h => ?_)
  refine lv_if_eq (tgt := 18) hx hb dX5_textTold_5 (by decide) (fun c_3 => ?_) (fun c_3 => ?_)
  · replace h := h.1 c_3
    refine lv_ldc hx hb hown (hts _ q1296) dX5_textTold_18 ?_
    exact m_iret F G dX5_textTold_20 h
  · replace h := h.2 c_3
    refine lv_iload_n hx hb dX5_textTold_8 rfl (lv_at hl 2 rfl) ?_
    refine lv_i2l (v := v2.toInt64) hx hb dX5_textTold_9 rfl ?_
    refine lv_lconst (v := 0) hx hb dX5_textTold_10 (by decide) ?_
    refine lv_lconst (v := 1) hx hb dX5_textTold_11 (by decide) ?_
    refine kM_isIn F G hl.1 ⟨Nat.le_of_ble_eq_true rfl, Nat.le_of_ble_eq_true rfl⟩ (Nat.le_of_ble_eq_true rfl) dX5_textTold_12 h (fun r_4 I_5 H locs G h => ?_)
    refine lv_if_ne (tgt := 21) hx hb dX5_textTold_15 (by decide) (fun c_6 => ?_) (fun c_6 => ?_)
    · replace h := h.1 c_6
      refine lv_aload_n hx hb dX5_textTold_21 rfl (lv_at hl 0 rfl) ?_
      refine mg_s F G dX5_textTold_22 ?_
      refine lv_aload_n hx hb dX5_textTold_25 rfl (lv_at hl 0 rfl) ?_
      refine lv_iload_n hx hb dX5_textTold_26 rfl (lv_at hl 1 rfl) ?_
      refine kM_textAt F G hl.1 ⟨Nat.le_of_ble_eq_true rfl, Nat.le_of_ble_eq_true rfl⟩ (Nat.le_of_ble_eq_true rfl) dX5_textTold_27 h (fun r_7 I_8 H locs G h => ?_)
      refine lv_iload_n hx hb dX5_textTold_30 rfl (lv_at hl 2 rfl) ?_
      refine lv_iadd hx hb dX5_textTold_31 ?_
      obtain ⟨b_9, h⟩ := h
      refine m_ld F G mA_1 b_9 dX5_textTold_32 ?_
      exact m_iret F G dX5_textTold_33 h
    · replace h := h.2 c_6
      refine lv_ldc hx hb hown (hts _ q1296) dX5_textTold_18 ?_
      exact m_iret F G dX5_textTold_20 h

/-! orNone -/
def M_orNone (v0 : Int32) (I : St) (Q : Int32 → St → Prop) : Prop := (0 ≤ v0 → Q v0 I) ∧ (¬ 0 ≤ v0 → Q (-1000000005) I)
abbrev rmX5_orNone : Room := { frames := 0, cells := 0, slots := 0, locals := 0 }
set_option maxHeartbeats 4000000 in
set_option maxRecDepth 100000 in
theorem wM_orNone {l : Launch} {D : va_G} {cl : List vw_C} {a : Nat → Nat} {d : ClassId} (hcl : cl[5]? = some (RX5, TX5, 32)) (sz : Nat) (v0 : Int32) (I : St) (Q : Int32 → St → Prop) (h : M_orNone v0 I Q) : MMi l D cl a d yX5_orNone cX5_orNone 1 .int rmX5_orNone [.int v0] sz I Q := by
  refine m_enter (Qc := fun A => va_Qi Q (BM D cl a d A) A) hcl (by decide) rfl (Nat.le_of_ble_eq_true rfl) ?_
  intro p e s m below meth c ls A F hG hl
  have G := hG
  have hl : lv_has ls 1 [(0, .int v0)] := hl
  obtain ⟨hx, hb, hr, hml, hown, hts, hlocks, hA, hK, hcl⟩ := id F
  unfold M_orNone at h
  refine lv_iload_n hx hb dX5_orNone_0 rfl (lv_at hl 0 rfl) ?_
  refine lv_if_ge (tgt := 9) hx hb dX5_orNone_1 (by decide) (fun c_1 => ?_) (fun c_1 => ?_)
  · replace h := h.1 c_1
    refine lv_iload_n hx hb dX5_orNone_9 rfl (lv_at hl 0 rfl) ?_
    exact m_iret F G dX5_orNone_10 h
  · replace h := h.2 c_1
    refine lv_ldc hx hb hown (hts _ q1431) dX5_orNone_4 ?_
    refine lv_goto (tgt := 10) hx hb dX5_orNone_6 (by decide) ?_
    exact m_iret F G dX5_orNone_10 h
set_option maxHeartbeats 4000000 in
set_option maxRecDepth 100000 in
theorem kM_orNone {p : Program} {l : Launch} {e : Env} {s : State} {m : MethodId} {R : Room} {args : Array Value} {below : List Frame} {meth : Method} {c : Code} {D : va_G} {cl : List vw_C} {a : Nat → Nat} {d : ClassId} {A : Nat → Prop} {Q : State → Prop} {cc : ByteArray} {nL pc : Nat} {ret : Option FieldType} {ls : Array Slot} {rest : List Value} {v0 : Int32} {I : St} {H : Heap} {locs : List Loc} {Q1 : Int32 → St → Prop} (F : FM p s m meth c args D cl d A cc nL ret) (G : GM D cl a d A s.heap I H locs) (hsz : ls.size = nL) (hR : rmX5_orNone.frames + 1 ≤ R.frames ∧ 8 + (1 + 11) + rmX5_orNone.locals ≤ R.locals) (hW : (rest.map fun v => v.category).sum ≤ 8) (hd : decode cc pc = .ok (.invokestatic 289, 3)) (h : M_orNone v0 I Q1) (k : ∀ (r : Int32) (I1 : St) (H : Heap) (locs : List Loc), GM D cl a d A s.heap I1 H locs → Q1 r I1 → W p l e R s m args below meth c H locs 0 0 Q (F0 m (pc + 3) ls (.int r :: rest))) : W p l e R s m args below meth c H locs 0 0 Q (F0 m pc ls (.int v0 :: rest)) := by
  obtain ⟨hx, hb, hr, hml, hown, hts, hlocks, hA, hK, hcl⟩ := id F
  exact m_callSi (As := [.int v0]) F G hsz (wM_orNone hcl H.size v0 I Q1 h) (va_cwS 1 hts (lw_S q1614 q1615 q90 q1616) rfl rfl rfl (by decide +kernel) hR) rfl rfl hW hd k
/-! why -/
def M_why (v1 : Int32) (I : St) (Q : Int32 → St → Prop) : Prop := M_isIn v1.toInt64 0 2 I (fun r_1 I_2 => (r_1 = 0 → Q (-1000000001) I_2) ∧ (¬ r_1 = 0 → M_counts v1 I_2 (fun r_4 I_5 => M_orNone r_4 I_5 (fun r_6 I_7 => Q r_6 I_7))))
abbrev rmX5_why : Room := { frames := 2, cells := 0, slots := 0, locals := 44 }
set_option maxHeartbeats 4000000 in
set_option maxRecDepth 100000 in
theorem wM_why {l : Launch} {D : va_G} {cl : List vw_C} {a : Nat → Nat} {d : ClassId} (hcl : cl[5]? = some (RX5, TX5, 32)) (sz : Nat) (v1 : Int32) (I : St) (Q : Int32 → St → Prop) (h : M_why v1 I Q) : MMi l D cl a d yX5_why cX5_why 2 .int rmX5_why [.ref (a 0), .int v1] sz I Q := by
  refine m_enter (Qc := fun A => va_Qi Q (BM D cl a d A) A) hcl (by decide) rfl (Nat.le_of_ble_eq_true rfl) ?_
  intro p e s m below meth c ls A F hG hl
  have G := hG
  have hl : lv_has ls 2 [(0, .ref (a 0)), (1, .int v1)] := hl
  obtain ⟨hx, hb, hr, hml, hown, hts, hlocks, hA, hK, hcl⟩ := id F
  unfold M_why at h
  refine lv_iload_n hx hb dX5_why_0 rfl (lv_at hl 1 rfl) ?_
  refine lv_i2l (v := v1.toInt64) hx hb dX5_why_1 rfl ?_
  refine lv_lconst (v := 0) hx hb dX5_why_2 (by decide) ?_
  refine lv_ldc2 hx hb hown (hts _ q1373) dX5_why_3 ?_
  refine kM_isIn F G hl.1 ⟨Nat.le_of_ble_eq_true rfl, Nat.le_of_ble_eq_true rfl⟩ (Nat.le_of_ble_eq_true rfl) dX5_why_6 h (fun r_1 I_2 H locs G h => ?_)
  refine lv_if_eq (tgt := 23) hx hb dX5_why_9 (by decide) (fun c_3 => ?_) (fun c_3 => ?_)
  · replace h := h.1 c_3
    refine lv_ldc hx hb hown (hts _ q1296) dX5_why_23 ?_
    exact m_iret F G dX5_why_25 h
  · replace h := h.2 c_3
    refine lv_aload_n hx hb dX5_why_12 rfl (lv_at hl 0 rfl) ?_
    refine lv_iload_n hx hb dX5_why_13 rfl (lv_at hl 1 rfl) ?_
    refine kM_counts F G hl.1 ⟨Nat.le_of_ble_eq_true rfl, Nat.le_of_ble_eq_true rfl⟩ (Nat.le_of_ble_eq_true rfl) dX5_why_14 h (fun r_4 I_5 H locs G h => ?_)
    refine kM_orNone F G hl.1 ⟨Nat.le_of_ble_eq_true rfl, Nat.le_of_ble_eq_true rfl⟩ (Nat.le_of_ble_eq_true rfl) dX5_why_17 h (fun r_6 I_7 H locs G h => ?_)
    refine lv_goto (tgt := 25) hx hb dX5_why_20 (by decide) ?_
    exact m_iret F G dX5_why_25 h

/-! sheet -/
def M_sheet_L69 (Q : Int32 → St → Prop)  (v1 : Int32) : Nat → Int32 → St → Prop
  | 0, _, _ => False
  | n + 1, v4, I => (24 ≤ v4 → vp_in v1 4 ∧ (Q (I 5 (v1.toNatClampNeg)) I)) ∧ (¬ 24 ≤ v4 → vp_in ((24 * v1) + v4) 96 ∧ (M_sheet_L69 Q v1 n (v4 + 1) (sA I 6 ((24 * v1) + v4) 0)))
def M_sheet_p65 (Q : Int32 → St → Prop)  (v1 : Int32) (t0 : Int32) (t1 : Int32) (I : St) : Prop := vp_in t1 4 ∧ (∃ k69, M_sheet_L69 Q v1 k69 0 (sA I 5 t1 t0))
def M_sheet_p44 (Q : Int32 → St → Prop)  (v1 : Int32) (v2 : Int32) (v3 : Int32) (I : St) : Prop := vp_in v1 4 ∧ ((0 ≤ v2 → M_sheet_p65 Q v1 v3 v1 (sA I 4 v1 v2)) ∧ (¬ 0 ≤ v2 → M_sheet_p65 Q v1 0 v1 (sA I 4 v1 v2)))
def M_sheet_p32 (Q : Int32 → St → Prop)  (v1 : Int32) (v2 : Int32) (v3 : Int32) (I : St) : Prop := (v2 < 0 → M_sheet_p44 Q v1 v2 v3 I) ∧ (¬ v2 < 0 → (0 ≤ v3 → M_sheet_p44 Q v1 v2 v3 I) ∧ (¬ 0 ≤ v3 → Q (-1000000014) I))
def M_sheet (v1 : Int32) (v2 : Int32) (v3 : Int32) (I : St) (Q : Int32 → St → Prop) : Prop := M_isSheet v1 I (fun r_1 I_2 => (r_1 = 0 → Q (-1000000001) I_2) ∧ (¬ r_1 = 0 → M_isIn v2.toInt64 (-1) 1 I_2 (fun r_4 I_5 => (r_4 = 0 → Q (-1000000001) I_5) ∧ (¬ r_4 = 0 → (v2 < 0 → M_sheet_p32 Q v1 v2 v3 I_5) ∧ (¬ v2 < 0 → (v3 ≤ 24 → M_sheet_p32 Q v1 v2 v3 I_5) ∧ (¬ v3 ≤ 24 → Q (-1000000001) I_5))))))
abbrev rmX5_sheet : Room := { frames := 2, cells := 0, slots := 0, locals := 45 }
set_option maxHeartbeats 4000000 in
set_option maxRecDepth 100000 in
theorem wM_sheet_L69 {p : Program} {l : Launch} {e : Env} {s : State} {m : MethodId} {args : Array Value} {below : List Frame} {meth : Method} {c : Code} {D : va_G} {cl : List vw_C} {a : Nat → Nat} {d : ClassId} {A : Nat → Prop} {Q : Int32 → St → Prop}  (F : FM p s m meth c args D cl d A cX5_sheet 5 (some .int)) (v1 : Int32)  :
    ∀ (n : Nat) (v4 : Int32) (I : St) (H : Heap) (locs : List Loc) (ls : Array Slot), GM D cl a d A s.heap I H locs → lv_has ls 5 [(0, .ref (a 0)), (1, .int v1), (4, .int v4)] → M_sheet_L69 Q v1 n v4 I → wMi p l e rmX5_sheet s m args below meth c D cl a d A Q H locs (F0 m 69 ls []) := by
  obtain ⟨hx, hb, hr, hml, hown, hts, hlocks, hA, hK, hcl⟩ := id F
  intro n
  induction n with
  | zero => intro v4 I H locs ls G hl h; exact absurd h (fun q => q)
  | succ n ih =>
    intro v4 I H locs ls G hl h
    unfold M_sheet_L69 at h
    refine lv_iload hx hb dX5_sheet_69 (lv_at hl 2 rfl) ?_
    refine lv_bipush (v := 24) hx hb dX5_sheet_71 (by decide) ?_
    refine lv_icmp_ge (tgt := 95) hx hb dX5_sheet_73 (by decide) (fun c_14 => ?_) (fun c_14 => ?_)
    · replace h := h.1 c_14
      refine lv_aload_n hx hb dX5_sheet_95 rfl (lv_at hl 0 rfl) ?_
      refine mg_tSize F G dX5_sheet_96 ?_
      refine lv_iload_n hx hb dX5_sheet_99 rfl (lv_at hl 1 rfl) ?_
      obtain ⟨b_15, h⟩ := h
      refine m_ld F G mA_5 b_15 dX5_sheet_100 ?_
      exact m_iret F G dX5_sheet_101 h
    · replace h := h.2 c_14
      refine lv_aload_n hx hb dX5_sheet_76 rfl (lv_at hl 0 rfl) ?_
      refine mg_tNumber F G dX5_sheet_77 ?_
      refine lv_bipush (v := 24) hx hb dX5_sheet_80 (by decide) ?_
      refine lv_iload_n hx hb dX5_sheet_82 rfl (lv_at hl 1 rfl) ?_
      refine lv_imul hx hb dX5_sheet_83 ?_
      refine lv_iload hx hb dX5_sheet_84 (lv_at hl 2 rfl) ?_
      refine lv_iadd hx hb dX5_sheet_86 ?_
      refine lv_iconst (v := 0) hx hb dX5_sheet_87 (by decide) ?_
      obtain ⟨b_16, h⟩ := h
      refine m_st F G mA_6 b_16 dX5_sheet_88 (fun H locs G => ?_)
      refine lv_iinc (v := (v4 + 1)) (lv' := [(4, .int (v4 + 1)), (0, .ref (a 0)), (1, .int v1)]) hx hb dX5_sheet_89 hl (k := 2) rfl rfl (by decide) rfl (fun ls hl => ?_)
      refine lv_goto (tgt := 69) hx hb dX5_sheet_92 (by decide) ?_
      exact ih (v4 + 1) (sA I 6 ((24 * v1) + v4) 0) _ _ _ G (lv_sub hl [1, 2, 0] rfl) h
set_option maxHeartbeats 4000000 in
set_option maxRecDepth 100000 in
theorem wM_sheet_p65 {p : Program} {l : Launch} {e : Env} {s : State} {m : MethodId} {args : Array Value} {below : List Frame} {meth : Method} {c : Code} {D : va_G} {cl : List vw_C} {a : Nat → Nat} {d : ClassId} {A : Nat → Prop} {Q : Int32 → St → Prop}  (F : FM p s m meth c args D cl d A cX5_sheet 5 (some .int)) (v1 : Int32) (t0 : Int32) (t1 : Int32) (I : St)  {H : Heap} {locs : List Loc} {ls : Array Slot} (G : GM D cl a d A s.heap I H locs) (hl : lv_has ls 5 [(0, .ref (a 0)), (1, .int v1)]) (h : M_sheet_p65 Q v1 t0 t1 I) : wMi p l e rmX5_sheet s m args below meth c D cl a d A Q H locs (F0 m 65 ls [.int t0, .int t1, .ref (a 5)]) := by
  obtain ⟨hx, hb, hr, hml, hown, hts, hlocks, hA, hK, hcl⟩ := id F
  unfold M_sheet_p65 at h
  obtain ⟨b_13, h⟩ := h
  refine m_st F G mA_5 b_13 dX5_sheet_65 (fun H locs G => ?_)
  refine lv_iconst (v := 0) hx hb dX5_sheet_66 (by decide) ?_
  refine lv_istore (lv' := [(4, .int 0), (0, .ref (a 0)), (1, .int v1)]) hx hb dX5_sheet_67 hl (by decide) rfl (fun ls hl => ?_)
  obtain ⟨k69, h⟩ := h
  exact wM_sheet_L69 F v1  k69 0 (sA I 5 t1 t0) _ _ _ G (lv_sub hl [1, 2, 0] rfl) h
set_option maxHeartbeats 4000000 in
set_option maxRecDepth 100000 in
theorem wM_sheet_p44 {p : Program} {l : Launch} {e : Env} {s : State} {m : MethodId} {args : Array Value} {below : List Frame} {meth : Method} {c : Code} {D : va_G} {cl : List vw_C} {a : Nat → Nat} {d : ClassId} {A : Nat → Prop} {Q : Int32 → St → Prop}  (F : FM p s m meth c args D cl d A cX5_sheet 5 (some .int)) (v1 : Int32) (v2 : Int32) (v3 : Int32) (I : St)  {H : Heap} {locs : List Loc} {ls : Array Slot} (G : GM D cl a d A s.heap I H locs) (hl : lv_has ls 5 [(0, .ref (a 0)), (1, .int v1), (2, .int v2), (3, .int v3)]) (h : M_sheet_p44 Q v1 v2 v3 I) : wMi p l e rmX5_sheet s m args below meth c D cl a d A Q H locs (F0 m 44 ls []) := by
  obtain ⟨hx, hb, hr, hml, hown, hts, hlocks, hA, hK, hcl⟩ := id F
  unfold M_sheet_p44 at h
  refine lv_aload_n hx hb dX5_sheet_44 rfl (lv_at hl 0 rfl) ?_
  refine mg_tSort F G dX5_sheet_45 ?_
  refine lv_iload_n hx hb dX5_sheet_48 rfl (lv_at hl 1 rfl) ?_
  refine lv_iload_n hx hb dX5_sheet_49 rfl (lv_at hl 2 rfl) ?_
  obtain ⟨b_11, h⟩ := h
  refine m_st F G mA_4 b_11 dX5_sheet_50 (fun H locs G => ?_)
  refine lv_aload_n hx hb dX5_sheet_51 rfl (lv_at hl 0 rfl) ?_
  refine mg_tSize F G dX5_sheet_52 ?_
  refine lv_iload_n hx hb dX5_sheet_55 rfl (lv_at hl 1 rfl) ?_
  refine lv_iload_n hx hb dX5_sheet_56 rfl (lv_at hl 2 rfl) ?_
  refine lv_if_ge (tgt := 64) hx hb dX5_sheet_57 (by decide) (fun c_12 => ?_) (fun c_12 => ?_)
  · replace h := h.1 c_12
    refine lv_iload_n hx hb dX5_sheet_64 rfl (lv_at hl 3 rfl) ?_
    exact wM_sheet_p65 F v1 v3 v1 (sA I 4 v1 v2)  G (lv_sub hl [0, 1] rfl) h
  · replace h := h.2 c_12
    refine lv_iconst (v := 0) hx hb dX5_sheet_60 (by decide) ?_
    refine lv_goto (tgt := 65) hx hb dX5_sheet_61 (by decide) ?_
    exact wM_sheet_p65 F v1 0 v1 (sA I 4 v1 v2)  G (lv_sub hl [0, 1] rfl) h
set_option maxHeartbeats 4000000 in
set_option maxRecDepth 100000 in
theorem wM_sheet_p32 {p : Program} {l : Launch} {e : Env} {s : State} {m : MethodId} {args : Array Value} {below : List Frame} {meth : Method} {c : Code} {D : va_G} {cl : List vw_C} {a : Nat → Nat} {d : ClassId} {A : Nat → Prop} {Q : Int32 → St → Prop}  (F : FM p s m meth c args D cl d A cX5_sheet 5 (some .int)) (v1 : Int32) (v2 : Int32) (v3 : Int32) (I : St)  {H : Heap} {locs : List Loc} {ls : Array Slot} (G : GM D cl a d A s.heap I H locs) (hl : lv_has ls 5 [(0, .ref (a 0)), (1, .int v1), (2, .int v2), (3, .int v3)]) (h : M_sheet_p32 Q v1 v2 v3 I) : wMi p l e rmX5_sheet s m args below meth c D cl a d A Q H locs (F0 m 32 ls []) := by
  obtain ⟨hx, hb, hr, hml, hown, hts, hlocks, hA, hK, hcl⟩ := id F
  unfold M_sheet_p32 at h
  refine lv_iload_n hx hb dX5_sheet_32 rfl (lv_at hl 2 rfl) ?_
  refine lv_if_lt (tgt := 44) hx hb dX5_sheet_33 (by decide) (fun c_9 => ?_) (fun c_9 => ?_)
  · replace h := h.1 c_9
    exact wM_sheet_p44 F v1 v2 v3 I  G (lv_sub hl [0, 1, 2, 3] rfl) h
  · replace h := h.2 c_9
    refine lv_iload_n hx hb dX5_sheet_36 rfl (lv_at hl 3 rfl) ?_
    refine lv_if_ge (tgt := 44) hx hb dX5_sheet_37 (by decide) (fun c_10 => ?_) (fun c_10 => ?_)
    · replace h := h.1 c_10
      exact wM_sheet_p44 F v1 v2 v3 I  G (lv_sub hl [0, 1, 2, 3] rfl) h
    · replace h := h.2 c_10
      refine lv_ldcw hx hb hown (hts _ q1622) dX5_sheet_40 ?_
      exact m_iret F G dX5_sheet_43 h
set_option maxHeartbeats 4000000 in
set_option maxRecDepth 100000 in
theorem wM_sheet {l : Launch} {D : va_G} {cl : List vw_C} {a : Nat → Nat} {d : ClassId} (hcl : cl[5]? = some (RX5, TX5, 32)) (sz : Nat) (v1 : Int32) (v2 : Int32) (v3 : Int32) (I : St) (Q : Int32 → St → Prop) (h : M_sheet v1 v2 v3 I Q) : MMi l D cl a d yX5_sheet cX5_sheet 5 .int rmX5_sheet [.ref (a 0), .int v1, .int v2, .int v3] sz I Q := by
  refine m_enter (Qc := fun A => va_Qi Q (BM D cl a d A) A) hcl (by decide) rfl (Nat.le_of_ble_eq_true rfl) ?_
  intro p e s m below meth c ls A F hG hl
  have G := hG
  have hl : lv_has ls 5 [(0, .ref (a 0)), (1, .int v1), (2, .int v2), (3, .int v3)] := hl
  obtain ⟨hx, hb, hr, hml, hown, hts, hlocks, hA, hK, hcl⟩ := id F
  unfold M_sheet at h
  refine lv_iload_n hx hb dX5_sheet_0 rfl (lv_at hl 1 rfl) ?_
  refine kM_isSheet F G hl.1 ⟨Nat.le_of_ble_eq_true rfl, Nat.le_of_ble_eq_true rfl⟩ (Nat.le_of_ble_eq_true rfl) dX5_sheet_1 h (fun r_1 I_2 H locs G h => ?_)
  refine lv_if_eq (tgt := 29) hx hb dX5_sheet_4 (by decide) (fun c_3 => ?_) (fun c_3 => ?_)
  · replace h := h.1 c_3
    refine lv_ldc hx hb hown (hts _ q1296) dX5_sheet_29 ?_
    exact m_iret F G dX5_sheet_31 h
  · replace h := h.2 c_3
    refine lv_iload_n hx hb dX5_sheet_7 rfl (lv_at hl 2 rfl) ?_
    refine lv_i2l (v := v2.toInt64) hx hb dX5_sheet_8 rfl ?_
    refine lv_ldc2 hx hb hown (hts _ q1621) dX5_sheet_9 ?_
    refine lv_lconst (v := 1) hx hb dX5_sheet_12 (by decide) ?_
    refine kM_isIn F G hl.1 ⟨Nat.le_of_ble_eq_true rfl, Nat.le_of_ble_eq_true rfl⟩ (Nat.le_of_ble_eq_true rfl) dX5_sheet_13 h (fun r_4 I_5 H locs G h => ?_)
    refine lv_if_eq (tgt := 29) hx hb dX5_sheet_16 (by decide) (fun c_6 => ?_) (fun c_6 => ?_)
    · replace h := h.1 c_6
      refine lv_ldc hx hb hown (hts _ q1296) dX5_sheet_29 ?_
      exact m_iret F G dX5_sheet_31 h
    · replace h := h.2 c_6
      refine lv_iload_n hx hb dX5_sheet_19 rfl (lv_at hl 2 rfl) ?_
      refine lv_if_lt (tgt := 32) hx hb dX5_sheet_20 (by decide) (fun c_7 => ?_) (fun c_7 => ?_)
      · replace h := h.1 c_7
        exact wM_sheet_p32 F v1 v2 v3 I_5  G (lv_sub hl [0, 1, 2, 3] rfl) h
      · replace h := h.2 c_7
        refine lv_iload_n hx hb dX5_sheet_23 rfl (lv_at hl 3 rfl) ?_
        refine lv_bipush (v := 24) hx hb dX5_sheet_24 (by decide) ?_
        refine lv_icmp_le (tgt := 32) hx hb dX5_sheet_26 (by decide) (fun c_8 => ?_) (fun c_8 => ?_)
        · replace h := h.1 c_8
          exact wM_sheet_p32 F v1 v2 v3 I_5  G (lv_sub hl [0, 1, 2, 3] rfl) h
        · replace h := h.2 c_8
          refine lv_ldc hx hb hown (hts _ q1296) dX5_sheet_29 ?_
          exact m_iret F G dX5_sheet_31 h

/-! mark -/
def M_mark_p125 (Q : Int32 → St → Prop)  (t0 : Int32) (t1 : Int32) (I : St) : Prop := vp_in t1 96 ∧ (Q 1 (sA I 6 t1 t0))
def M_mark_p95 (Q : Int32 → St → Prop)  (v1 : Int32) (v2 : Int32) (v3 : Int32) (I : St) : Prop := vp_in v1 4 ∧ ((¬ (I 4 (v1.toNatClampNeg)) = 0 → M_mark_p125 Q v3 ((24 * v1) + v2) I) ∧ ((I 4 (v1.toNatClampNeg)) = 0 → M_mark_p125 Q ((v3 <<< (16 &&& 31)) >>> (16 &&& 31)) ((24 * v1) + v2) I))
def M_mark_p62 (Q : Int32 → St → Prop)  (v1 : Int32) (v2 : Int32) (v3 : Int32) (I : St) : Prop := vp_in v1 4 ∧ ((¬ (I 4 (v1.toNatClampNeg)) = 1 → M_mark_p95 Q v1 v2 v3 I) ∧ ((I 4 (v1.toNatClampNeg)) = 1 → (v3 = (-1000000005) → M_mark_p95 Q v1 v2 v3 I) ∧ (¬ v3 = (-1000000005) → M_isIn v3.toInt64 (-99999) 99999 I (fun r_16 I_17 => (¬ r_16 = 0 → M_mark_p95 Q v1 v2 v3 I_17) ∧ (r_16 = 0 → Q (-1000000001) I_17)))))
def M_mark (v1 : Int32) (v2 : Int32) (v3 : Int32) (I : St) (Q : Int32 → St → Prop) : Prop := M_isSheet v1 I (fun r_1 I_2 => (¬ r_1 = 0 → vp_in v1 4 ∧ ((0 ≤ (I_2 4 (v1.toNatClampNeg)) → vp_in v1 4 ∧ (M_isIn v2.toInt64 0 (((I_2 5 (v1.toNatClampNeg)) - 1).toInt64) I_2 (fun r_7 I_8 => (¬ r_7 = 0 → vp_in v1 4 ∧ ((¬ (I_8 4 (v1.toNatClampNeg)) = 0 → M_mark_p62 Q v1 v2 v3 I_8) ∧ ((I_8 4 (v1.toNatClampNeg)) = 0 → (¬ v3 = (-1000000005) → M_mark_p62 Q v1 v2 v3 I_8) ∧ (v3 = (-1000000005) → Q (-1000000012) I_8)))) ∧ (r_7 = 0 → Q (-1000000013) I_8)))) ∧ (¬ 0 ≤ (I_2 4 (v1.toNatClampNeg)) → Q (-1000000011) I_2))) ∧ (r_1 = 0 → Q (-1000000001) I_2))
abbrev rmX5_mark : Room := { frames := 2, cells := 0, slots := 0, locals := 45 }
set_option maxHeartbeats 4000000 in
set_option maxRecDepth 100000 in
theorem wM_mark_p125 {p : Program} {l : Launch} {e : Env} {s : State} {m : MethodId} {args : Array Value} {below : List Frame} {meth : Method} {c : Code} {D : va_G} {cl : List vw_C} {a : Nat → Nat} {d : ClassId} {A : Nat → Prop} {Q : Int32 → St → Prop}  (F : FM p s m meth c args D cl d A cX5_mark 4 (some .int)) (t0 : Int32) (t1 : Int32) (I : St)  {H : Heap} {locs : List Loc} {ls : Array Slot} (G : GM D cl a d A s.heap I H locs) (hl : lv_has ls 4 []) (h : M_mark_p125 Q t0 t1 I) : wMi p l e rmX5_mark s m args below meth c D cl a d A Q H locs (F0 m 125 ls [.int t0, .int t1, .ref (a 6)]) := by
  obtain ⟨hx, hb, hr, hml, hown, hts, hlocks, hA, hK, hcl⟩ := id F
  unfold M_mark_p125 at h
  obtain ⟨b_21, h⟩ := h
  refine m_st F G mA_6 b_21 dX5_mark_125 (fun H locs G => ?_)
  refine lv_iconst (v := 1) hx hb dX5_mark_126 (by decide) ?_
  exact m_iret F G dX5_mark_127 h
set_option maxHeartbeats 4000000 in
set_option maxRecDepth 100000 in
theorem wM_mark_p95 {p : Program} {l : Launch} {e : Env} {s : State} {m : MethodId} {args : Array Value} {below : List Frame} {meth : Method} {c : Code} {D : va_G} {cl : List vw_C} {a : Nat → Nat} {d : ClassId} {A : Nat → Prop} {Q : Int32 → St → Prop}  (F : FM p s m meth c args D cl d A cX5_mark 4 (some .int)) (v1 : Int32) (v2 : Int32) (v3 : Int32) (I : St)  {H : Heap} {locs : List Loc} {ls : Array Slot} (G : GM D cl a d A s.heap I H locs) (hl : lv_has ls 4 [(0, .ref (a 0)), (1, .int v1), (2, .int v2), (3, .int v3)]) (h : M_mark_p95 Q v1 v2 v3 I) : wMi p l e rmX5_mark s m args below meth c D cl a d A Q H locs (F0 m 95 ls []) := by
  obtain ⟨hx, hb, hr, hml, hown, hts, hlocks, hA, hK, hcl⟩ := id F
  unfold M_mark_p95 at h
  refine lv_aload_n hx hb dX5_mark_95 rfl (lv_at hl 0 rfl) ?_
  refine mg_tNumber F G dX5_mark_96 ?_
  refine lv_bipush (v := 24) hx hb dX5_mark_99 (by decide) ?_
  refine lv_iload_n hx hb dX5_mark_101 rfl (lv_at hl 1 rfl) ?_
  refine lv_imul hx hb dX5_mark_102 ?_
  refine lv_iload_n hx hb dX5_mark_103 rfl (lv_at hl 2 rfl) ?_
  refine lv_iadd hx hb dX5_mark_104 ?_
  refine lv_aload_n hx hb dX5_mark_105 rfl (lv_at hl 0 rfl) ?_
  refine mg_tSort F G dX5_mark_106 ?_
  refine lv_iload_n hx hb dX5_mark_109 rfl (lv_at hl 1 rfl) ?_
  obtain ⟨b_19, h⟩ := h
  refine m_ld F G mA_4 b_19 dX5_mark_110 ?_
  refine lv_if_ne (tgt := 124) hx hb dX5_mark_111 (by decide) (fun c_20 => ?_) (fun c_20 => ?_)
  · replace h := h.1 c_20
    refine lv_iload_n hx hb dX5_mark_124 rfl (lv_at hl 3 rfl) ?_
    exact wM_mark_p125 F v3 ((24 * v1) + v2) I  G (lv_sub hl [] rfl) h
  · replace h := h.2 c_20
    refine lv_iload_n hx hb dX5_mark_114 rfl (lv_at hl 3 rfl) ?_
    refine lv_bipush (v := 16) hx hb dX5_mark_115 (by decide) ?_
    refine lv_ishl hx hb dX5_mark_117 ?_
    refine lv_bipush (v := 16) hx hb dX5_mark_118 (by decide) ?_
    refine lv_ishr hx hb dX5_mark_120 ?_
    refine lv_goto (tgt := 125) hx hb dX5_mark_121 (by decide) ?_
    exact wM_mark_p125 F ((v3 <<< (16 &&& 31)) >>> (16 &&& 31)) ((24 * v1) + v2) I  G (lv_sub hl [] rfl) h
set_option maxHeartbeats 4000000 in
set_option maxRecDepth 100000 in
theorem wM_mark_p62 {p : Program} {l : Launch} {e : Env} {s : State} {m : MethodId} {args : Array Value} {below : List Frame} {meth : Method} {c : Code} {D : va_G} {cl : List vw_C} {a : Nat → Nat} {d : ClassId} {A : Nat → Prop} {Q : Int32 → St → Prop}  (F : FM p s m meth c args D cl d A cX5_mark 4 (some .int)) (v1 : Int32) (v2 : Int32) (v3 : Int32) (I : St)  {H : Heap} {locs : List Loc} {ls : Array Slot} (G : GM D cl a d A s.heap I H locs) (hl : lv_has ls 4 [(0, .ref (a 0)), (1, .int v1), (2, .int v2), (3, .int v3)]) (h : M_mark_p62 Q v1 v2 v3 I) : wMi p l e rmX5_mark s m args below meth c D cl a d A Q H locs (F0 m 62 ls []) := by
  obtain ⟨hx, hb, hr, hml, hown, hts, hlocks, hA, hK, hcl⟩ := id F
  unfold M_mark_p62 at h
  refine lv_aload_n hx hb dX5_mark_62 rfl (lv_at hl 0 rfl) ?_
  refine mg_tSort F G dX5_mark_63 ?_
  refine lv_iload_n hx hb dX5_mark_66 rfl (lv_at hl 1 rfl) ?_
  obtain ⟨b_13, h⟩ := h
  refine m_ld F G mA_4 b_13 dX5_mark_67 ?_
  refine lv_iconst (v := 1) hx hb dX5_mark_68 (by decide) ?_
  refine lv_icmp_ne (tgt := 95) hx hb dX5_mark_69 (by decide) (fun c_14 => ?_) (fun c_14 => ?_)
  · replace h := h.1 c_14
    exact wM_mark_p95 F v1 v2 v3 I  G (lv_sub hl [0, 1, 2, 3] rfl) h
  · replace h := h.2 c_14
    refine lv_iload_n hx hb dX5_mark_72 rfl (lv_at hl 3 rfl) ?_
    refine lv_ldc hx hb hown (hts _ q1431) dX5_mark_73 ?_
    refine lv_icmp_eq (tgt := 95) hx hb dX5_mark_75 (by decide) (fun c_15 => ?_) (fun c_15 => ?_)
    · replace h := h.1 c_15
      exact wM_mark_p95 F v1 v2 v3 I  G (lv_sub hl [0, 1, 2, 3] rfl) h
    · replace h := h.2 c_15
      refine lv_iload_n hx hb dX5_mark_78 rfl (lv_at hl 3 rfl) ?_
      refine lv_i2l (v := v3.toInt64) hx hb dX5_mark_79 rfl ?_
      refine lv_ldc2 hx hb hown (hts _ q1628) dX5_mark_80 ?_
      refine lv_ldc2 hx hb hown (hts _ q1629) dX5_mark_83 ?_
      refine kM_isIn F G hl.1 ⟨Nat.le_of_ble_eq_true rfl, Nat.le_of_ble_eq_true rfl⟩ (Nat.le_of_ble_eq_true rfl) dX5_mark_86 h (fun r_16 I_17 H locs G h => ?_)
      refine lv_if_ne (tgt := 95) hx hb dX5_mark_89 (by decide) (fun c_18 => ?_) (fun c_18 => ?_)
      · replace h := h.1 c_18
        exact wM_mark_p95 F v1 v2 v3 I_17  G (lv_sub hl [0, 1, 2, 3] rfl) h
      · replace h := h.2 c_18
        refine lv_ldc hx hb hown (hts _ q1296) dX5_mark_92 ?_
        exact m_iret F G dX5_mark_94 h
set_option maxHeartbeats 4000000 in
set_option maxRecDepth 100000 in
theorem wM_mark {l : Launch} {D : va_G} {cl : List vw_C} {a : Nat → Nat} {d : ClassId} (hcl : cl[5]? = some (RX5, TX5, 32)) (sz : Nat) (v1 : Int32) (v2 : Int32) (v3 : Int32) (I : St) (Q : Int32 → St → Prop) (h : M_mark v1 v2 v3 I Q) : MMi l D cl a d yX5_mark cX5_mark 4 .int rmX5_mark [.ref (a 0), .int v1, .int v2, .int v3] sz I Q := by
  refine m_enter (Qc := fun A => va_Qi Q (BM D cl a d A) A) hcl (by decide) rfl (Nat.le_of_ble_eq_true rfl) ?_
  intro p e s m below meth c ls A F hG hl
  have G := hG
  have hl : lv_has ls 4 [(0, .ref (a 0)), (1, .int v1), (2, .int v2), (3, .int v3)] := hl
  obtain ⟨hx, hb, hr, hml, hown, hts, hlocks, hA, hK, hcl⟩ := id F
  unfold M_mark at h
  refine lv_iload_n hx hb dX5_mark_0 rfl (lv_at hl 1 rfl) ?_
  refine kM_isSheet F G hl.1 ⟨Nat.le_of_ble_eq_true rfl, Nat.le_of_ble_eq_true rfl⟩ (Nat.le_of_ble_eq_true rfl) dX5_mark_1 h (fun r_1 I_2 H locs G h => ?_)
  refine lv_if_ne (tgt := 10) hx hb dX5_mark_4 (by decide) (fun c_3 => ?_) (fun c_3 => ?_)
  · replace h := h.1 c_3
    refine lv_aload_n hx hb dX5_mark_10 rfl (lv_at hl 0 rfl) ?_
    refine mg_tSort F G dX5_mark_11 ?_
    refine lv_iload_n hx hb dX5_mark_14 rfl (lv_at hl 1 rfl) ?_
    obtain ⟨b_4, h⟩ := h
    refine m_ld F G mA_4 b_4 dX5_mark_15 ?_
    refine lv_if_ge (tgt := 22) hx hb dX5_mark_16 (by decide) (fun c_5 => ?_) (fun c_5 => ?_)
    · replace h := h.1 c_5
      refine lv_iload_n hx hb dX5_mark_22 rfl (lv_at hl 2 rfl) ?_
      refine lv_i2l (v := v2.toInt64) hx hb dX5_mark_23 rfl ?_
      refine lv_lconst (v := 0) hx hb dX5_mark_24 (by decide) ?_
      refine lv_aload_n hx hb dX5_mark_25 rfl (lv_at hl 0 rfl) ?_
      refine mg_tSize F G dX5_mark_26 ?_
      refine lv_iload_n hx hb dX5_mark_29 rfl (lv_at hl 1 rfl) ?_
      obtain ⟨b_6, h⟩ := h
      refine m_ld F G mA_5 b_6 dX5_mark_30 ?_
      refine lv_iconst (v := 1) hx hb dX5_mark_31 (by decide) ?_
      refine lv_isub hx hb dX5_mark_32 ?_
      refine lv_i2l (v := ((I_2 5 (v1.toNatClampNeg)) - 1).toInt64) hx hb dX5_mark_33 rfl ?_
      refine kM_isIn F G hl.1 ⟨Nat.le_of_ble_eq_true rfl, Nat.le_of_ble_eq_true rfl⟩ (Nat.le_of_ble_eq_true rfl) dX5_mark_34 h (fun r_7 I_8 H locs G h => ?_)
      refine lv_if_ne (tgt := 44) hx hb dX5_mark_37 (by decide) (fun c_9 => ?_) (fun c_9 => ?_)
      · replace h := h.1 c_9
        refine lv_aload_n hx hb dX5_mark_44 rfl (lv_at hl 0 rfl) ?_
        refine mg_tSort F G dX5_mark_45 ?_
        refine lv_iload_n hx hb dX5_mark_48 rfl (lv_at hl 1 rfl) ?_
        obtain ⟨b_10, h⟩ := h
        refine m_ld F G mA_4 b_10 dX5_mark_49 ?_
        refine lv_if_ne (tgt := 62) hx hb dX5_mark_50 (by decide) (fun c_11 => ?_) (fun c_11 => ?_)
        · replace h := h.1 c_11
          exact wM_mark_p62 F v1 v2 v3 I_8  G (lv_sub hl [0, 1, 2, 3] rfl) h
        · replace h := h.2 c_11
          refine lv_iload_n hx hb dX5_mark_53 rfl (lv_at hl 3 rfl) ?_
          refine lv_ldc hx hb hown (hts _ q1431) dX5_mark_54 ?_
          refine lv_icmp_ne (tgt := 62) hx hb dX5_mark_56 (by decide) (fun c_12 => ?_) (fun c_12 => ?_)
          · replace h := h.1 c_12
            exact wM_mark_p62 F v1 v2 v3 I_8  G (lv_sub hl [0, 1, 2, 3] rfl) h
          · replace h := h.2 c_12
            refine lv_ldc hx hb hown (hts _ q1360) dX5_mark_59 ?_
            exact m_iret F G dX5_mark_61 h
      · replace h := h.2 c_9
        refine lv_ldcw hx hb hown (hts _ q1627) dX5_mark_40 ?_
        exact m_iret F G dX5_mark_43 h
    · replace h := h.2 c_5
      refine lv_ldc hx hb hown (hts _ q1491) dX5_mark_19 ?_
      exact m_iret F G dX5_mark_21 h
  · replace h := h.2 c_3
    refine lv_ldc hx hb hown (hts _ q1296) dX5_mark_7 ?_
    exact m_iret F G dX5_mark_9 h

/-! within -/
def M_within (v0 : Int32) (v1 : Int32) (I : St) (Q : Int32 → St → Prop) : Prop := (0 ≤ v0 → (v0 ≤ v1 → Q v0 I) ∧ (¬ v0 ≤ v1 → Q v1 I)) ∧ (¬ 0 ≤ v0 → Q 0 I)
abbrev rmX5_within : Room := { frames := 0, cells := 0, slots := 0, locals := 0 }
set_option maxHeartbeats 4000000 in
set_option maxRecDepth 100000 in
theorem wM_within {l : Launch} {D : va_G} {cl : List vw_C} {a : Nat → Nat} {d : ClassId} (hcl : cl[5]? = some (RX5, TX5, 32)) (sz : Nat) (v0 : Int32) (v1 : Int32) (I : St) (Q : Int32 → St → Prop) (h : M_within v0 v1 I Q) : MMi l D cl a d yX5_within cX5_within 2 .int rmX5_within [.int v0, .int v1] sz I Q := by
  refine m_enter (Qc := fun A => va_Qi Q (BM D cl a d A) A) hcl (by decide) rfl (Nat.le_of_ble_eq_true rfl) ?_
  intro p e s m below meth c ls A F hG hl
  have G := hG
  have hl : lv_has ls 2 [(0, .int v0), (1, .int v1)] := hl
  obtain ⟨hx, hb, hr, hml, hown, hts, hlocks, hA, hK, hcl⟩ := id F
  unfold M_within at h
  refine lv_iload_n hx hb dX5_within_0 rfl (lv_at hl 0 rfl) ?_
  refine lv_if_ge (tgt := 8) hx hb dX5_within_1 (by decide) (fun c_1 => ?_) (fun c_1 => ?_)
  · replace h := h.1 c_1
    refine lv_iload_n hx hb dX5_within_8 rfl (lv_at hl 0 rfl) ?_
    refine lv_iload_n hx hb dX5_within_9 rfl (lv_at hl 1 rfl) ?_
    refine lv_icmp_le (tgt := 17) hx hb dX5_within_10 (by decide) (fun c_2 => ?_) (fun c_2 => ?_)
    · replace h := h.1 c_2
      refine lv_iload_n hx hb dX5_within_17 rfl (lv_at hl 0 rfl) ?_
      exact m_iret F G dX5_within_18 h
    · replace h := h.2 c_2
      refine lv_iload_n hx hb dX5_within_13 rfl (lv_at hl 1 rfl) ?_
      refine lv_goto (tgt := 18) hx hb dX5_within_14 (by decide) ?_
      exact m_iret F G dX5_within_18 h
  · replace h := h.2 c_1
    refine lv_iconst (v := 0) hx hb dX5_within_4 (by decide) ?_
    refine lv_goto (tgt := 18) hx hb dX5_within_5 (by decide) ?_
    exact m_iret F G dX5_within_18 h
set_option maxHeartbeats 4000000 in
set_option maxRecDepth 100000 in
theorem kM_within {p : Program} {l : Launch} {e : Env} {s : State} {m : MethodId} {R : Room} {args : Array Value} {below : List Frame} {meth : Method} {c : Code} {D : va_G} {cl : List vw_C} {a : Nat → Nat} {d : ClassId} {A : Nat → Prop} {Q : State → Prop} {cc : ByteArray} {nL pc : Nat} {ret : Option FieldType} {ls : Array Slot} {rest : List Value} {v0 : Int32} {v1 : Int32} {I : St} {H : Heap} {locs : List Loc} {Q1 : Int32 → St → Prop} (F : FM p s m meth c args D cl d A cc nL ret) (G : GM D cl a d A s.heap I H locs) (hsz : ls.size = nL) (hR : rmX5_within.frames + 1 ≤ R.frames ∧ 8 + (2 + 11) + rmX5_within.locals ≤ R.locals) (hW : (rest.map fun v => v.category).sum ≤ 8) (hd : decode cc pc = .ok (.invokestatic 304, 3)) (h : M_within v0 v1 I Q1) (k : ∀ (r : Int32) (I1 : St) (H : Heap) (locs : List Loc), GM D cl a d A s.heap I1 H locs → Q1 r I1 → W p l e R s m args below meth c H locs 0 0 Q (F0 m (pc + 3) ls (.int r :: rest))) : W p l e R s m args below meth c H locs 0 0 Q (F0 m pc ls (.int v1 :: .int v0 :: rest)) := by
  obtain ⟨hx, hb, hr, hml, hown, hts, hlocks, hA, hK, hcl⟩ := id F
  exact m_callSi (As := [.int v0, .int v1]) F G hsz (wM_within hcl H.size v0 v1 I Q1 h) (va_cwS 2 hts (lw_S q1634 q1635 q90 q1636) rfl rfl rfl (by decide +kernel) hR) rfl rfl hW hd k
/-! pour -/
def M_pour_p116 (Q : Int32 → St → Prop) (K26 : Int32 → Int32 → St → Prop) (v1 : Int32) (v3 : Int32) (t0 : Int32) (t1 : Int32) (I : St) : Prop := ∀ x_18 : Int32, x_18 = (t1 + t0) → K26 x_18 (v3 + 1) I
def M_pour_p89 (Q : Int32 → St → Prop) (K26 : Int32 → Int32 → St → Prop) (v1 : Int32) (v2 : Int32) (v3 : Int32) (t0 : Int32) (I : St) : Prop := M_becomes ((10 + (3 * v3)) + 1) t0 I (fun r_15 I_16 => (¬ t0 = r_15 → M_pour_p116 Q K26 v1 v3 1 v2 I_16) ∧ (t0 = r_15 → M_pour_p116 Q K26 v1 v3 0 v2 I_16))
def M_pour_L26 (Q : Int32 → St → Prop)  (v1 : Int32) : Nat → Int32 → Int32 → St → Prop
  | 0, _, _, _ => False
  | n + 1, v2, v3, I => vp_in v1 4 ∧ (((I 5 (v1.toNatClampNeg)) ≤ v3 → Q v2 I) ∧ (¬ (I 5 (v1.toNatClampNeg)) ≤ v3 → ((I 1 0) ≤ v3 → Q v2 I) ∧ (¬ (I 1 0) ≤ v3 → vp_in ((24 * v1) + v3) 96 ∧ (∀ x_10 : Int32, x_10 = (I 6 (((24 * v1) + v3).toNatClampNeg)) → (¬ x_10 = (-1000000005) → M_within x_10 59 I (fun r_12 I_13 => M_pour_p89 Q (fun v2_ v3_ I_ => M_pour_L26 Q v1 n v2_ v3_ I_) v1 v2 v3 r_12 I_13)) ∧ (x_10 = (-1000000005) → vp_in ((10 + (3 * v3)) + 1) 3040 ∧ (M_pour_p89 Q (fun v2_ v3_ I_ => M_pour_L26 Q v1 n v2_ v3_ I_) v1 v2 v3 (I 1 (((10 + (3 * v3)) + 1).toNatClampNeg)) I))))))
def M_pour (v1 : Int32) (I : St) (Q : Int32 → St → Prop) : Prop := M_isSheet v1 I (fun r_1 I_2 => (¬ r_1 = 0 → vp_in v1 4 ∧ ((0 ≤ (I_2 4 (v1.toNatClampNeg)) → ∃ k26, M_pour_L26 Q v1 k26 0 0 I_2) ∧ (¬ 0 ≤ (I_2 4 (v1.toNatClampNeg)) → Q (-1000000011) I_2))) ∧ (r_1 = 0 → Q (-1000000001) I_2))
abbrev rmX5_pour : Room := { frames := 2, cells := 0, slots := 0, locals := 45 }
set_option maxHeartbeats 4000000 in
set_option maxRecDepth 100000 in
theorem wM_pour_p116 {p : Program} {l : Launch} {e : Env} {s : State} {m : MethodId} {args : Array Value} {below : List Frame} {meth : Method} {c : Code} {D : va_G} {cl : List vw_C} {a : Nat → Nat} {d : ClassId} {A : Nat → Prop} {Q : Int32 → St → Prop} {K26 : Int32 → Int32 → St → Prop} (F : FM p s m meth c args D cl d A cX5_pour 6 (some .int)) (v1 : Int32) (v3 : Int32) (t0 : Int32) (t1 : Int32) (I : St) (hK26 : ∀ (v2 : Int32) (v3 : Int32) (I : St) (H : Heap) (locs : List Loc) (ls : Array Slot), GM D cl a d A s.heap I H locs → lv_has ls 6 [(0, .ref (a 0)), (1, .int v1), (2, .int v2), (3, .int v3)] → K26 v2 v3 I → wMi p l e rmX5_pour s m args below meth c D cl a d A Q H locs (F0 m 26 ls [])) {H : Heap} {locs : List Loc} {ls : Array Slot} (G : GM D cl a d A s.heap I H locs) (hl : lv_has ls 6 [(0, .ref (a 0)), (1, .int v1), (3, .int v3)]) (h : M_pour_p116 Q K26 v1 v3 t0 t1 I) : wMi p l e rmX5_pour s m args below meth c D cl a d A Q H locs (F0 m 116 ls [.int t0, .int t1]) := by
  obtain ⟨hx, hb, hr, hml, hown, hts, hlocks, hA, hK, hcl⟩ := id F
  unfold M_pour_p116 at h
  refine lv_iadd hx hb dX5_pour_116 ?_
  refine lv_topi (fun x_18 ex_18 => ?_)
  replace h := h x_18 ex_18
  refine lv_istore_n (lv' := [(2, .int x_18), (0, .ref (a 0)), (1, .int v1), (3, .int v3)]) hx hb dX5_pour_117 rfl hl (by decide) rfl (fun ls hl => ?_)
  refine lv_iinc (v := (v3 + 1)) (lv' := [(3, .int (v3 + 1)), (2, .int x_18), (0, .ref (a 0)), (1, .int v1)]) hx hb dX5_pour_118 hl (k := 3) rfl rfl (by decide) rfl (fun ls hl => ?_)
  refine lv_goto (tgt := 26) hx hb dX5_pour_121 (by decide) ?_
  exact hK26 x_18 (v3 + 1) I _ _ _ G (lv_sub hl [2, 3, 1, 0] rfl) h
set_option maxHeartbeats 4000000 in
set_option maxRecDepth 100000 in
theorem wM_pour_p89 {p : Program} {l : Launch} {e : Env} {s : State} {m : MethodId} {args : Array Value} {below : List Frame} {meth : Method} {c : Code} {D : va_G} {cl : List vw_C} {a : Nat → Nat} {d : ClassId} {A : Nat → Prop} {Q : Int32 → St → Prop} {K26 : Int32 → Int32 → St → Prop} (F : FM p s m meth c args D cl d A cX5_pour 6 (some .int)) (v1 : Int32) (v2 : Int32) (v3 : Int32) (t0 : Int32) (I : St) (hK26 : ∀ (v2 : Int32) (v3 : Int32) (I : St) (H : Heap) (locs : List Loc) (ls : Array Slot), GM D cl a d A s.heap I H locs → lv_has ls 6 [(0, .ref (a 0)), (1, .int v1), (2, .int v2), (3, .int v3)] → K26 v2 v3 I → wMi p l e rmX5_pour s m args below meth c D cl a d A Q H locs (F0 m 26 ls [])) {H : Heap} {locs : List Loc} {ls : Array Slot} (G : GM D cl a d A s.heap I H locs) (hl : lv_has ls 6 [(0, .ref (a 0)), (1, .int v1), (2, .int v2), (3, .int v3)]) (h : M_pour_p89 Q K26 v1 v2 v3 t0 I) : wMi p l e rmX5_pour s m args below meth c D cl a d A Q H locs (F0 m 89 ls [.int t0]) := by
  obtain ⟨hx, hb, hr, hml, hown, hts, hlocks, hA, hK, hcl⟩ := id F
  unfold M_pour_p89 at h
  refine lv_istore (lv' := [(5, .int t0), (0, .ref (a 0)), (1, .int v1), (2, .int v2), (3, .int v3)]) hx hb dX5_pour_89 hl (by decide) rfl (fun ls hl => ?_)
  refine lv_iload_n hx hb dX5_pour_91 rfl (lv_at hl 3 rfl) ?_
  refine lv_iload hx hb dX5_pour_92 (lv_at hl 0 rfl) ?_
  refine lv_aload_n hx hb dX5_pour_94 rfl (lv_at hl 1 rfl) ?_
  refine lv_bipush (v := 10) hx hb dX5_pour_95 (by decide) ?_
  refine lv_iconst (v := 3) hx hb dX5_pour_97 (by decide) ?_
  refine lv_iload_n hx hb dX5_pour_98 rfl (lv_at hl 4 rfl) ?_
  refine lv_imul hx hb dX5_pour_99 ?_
  refine lv_iadd hx hb dX5_pour_100 ?_
  refine lv_iconst (v := 1) hx hb dX5_pour_101 (by decide) ?_
  refine lv_iadd hx hb dX5_pour_102 ?_
  refine lv_iload hx hb dX5_pour_103 (lv_at hl 0 rfl) ?_
  refine kM_becomes F G hl.1 ⟨Nat.le_of_ble_eq_true rfl, Nat.le_of_ble_eq_true rfl⟩ (Nat.le_of_ble_eq_true rfl) dX5_pour_105 h (fun r_15 I_16 H locs G h => ?_)
  refine lv_icmp_ne (tgt := 115) hx hb dX5_pour_108 (by decide) (fun c_17 => ?_) (fun c_17 => ?_)
  · replace h := h.1 c_17
    refine lv_iconst (v := 1) hx hb dX5_pour_115 (by decide) ?_
    exact wM_pour_p116 F v1 v3 1 v2 I_16 hK26 G (lv_sub hl [1, 2, 4] rfl) h
  · replace h := h.2 c_17
    refine lv_iconst (v := 0) hx hb dX5_pour_111 (by decide) ?_
    refine lv_goto (tgt := 116) hx hb dX5_pour_112 (by decide) ?_
    exact wM_pour_p116 F v1 v3 0 v2 I_16 hK26 G (lv_sub hl [1, 2, 4] rfl) h
set_option maxHeartbeats 4000000 in
set_option maxRecDepth 100000 in
theorem wM_pour_L26 {p : Program} {l : Launch} {e : Env} {s : State} {m : MethodId} {args : Array Value} {below : List Frame} {meth : Method} {c : Code} {D : va_G} {cl : List vw_C} {a : Nat → Nat} {d : ClassId} {A : Nat → Prop} {Q : Int32 → St → Prop}  (F : FM p s m meth c args D cl d A cX5_pour 6 (some .int)) (v1 : Int32)  :
    ∀ (n : Nat) (v2 : Int32) (v3 : Int32) (I : St) (H : Heap) (locs : List Loc) (ls : Array Slot), GM D cl a d A s.heap I H locs → lv_has ls 6 [(0, .ref (a 0)), (1, .int v1), (2, .int v2), (3, .int v3)] → M_pour_L26 Q v1 n v2 v3 I → wMi p l e rmX5_pour s m args below meth c D cl a d A Q H locs (F0 m 26 ls []) := by
  obtain ⟨hx, hb, hr, hml, hown, hts, hlocks, hA, hK, hcl⟩ := id F
  intro n
  induction n with
  | zero => intro v2 v3 I H locs ls G hl h; exact absurd h (fun q => q)
  | succ n ih =>
    intro v2 v3 I H locs ls G hl h
    unfold M_pour_L26 at h
    refine lv_iload_n hx hb dX5_pour_26 rfl (lv_at hl 3 rfl) ?_
    refine lv_aload_n hx hb dX5_pour_27 rfl (lv_at hl 0 rfl) ?_
    refine mg_tSize F G dX5_pour_28 ?_
    refine lv_iload_n hx hb dX5_pour_31 rfl (lv_at hl 1 rfl) ?_
    obtain ⟨b_6, h⟩ := h
    refine m_ld F G mA_5 b_6 dX5_pour_32 ?_
    refine lv_icmp_ge (tgt := 124) hx hb dX5_pour_33 (by decide) (fun c_7 => ?_) (fun c_7 => ?_)
    · replace h := h.1 c_7
      refine lv_iload_n hx hb dX5_pour_124 rfl (lv_at hl 2 rfl) ?_
      exact m_iret F G dX5_pour_125 h
    · replace h := h.2 c_7
      refine lv_iload_n hx hb dX5_pour_36 rfl (lv_at hl 3 rfl) ?_
      refine lv_aload_n hx hb dX5_pour_37 rfl (lv_at hl 0 rfl) ?_
      refine mg_s F G dX5_pour_38 ?_
      refine lv_iconst (v := 0) hx hb dX5_pour_41 (by decide) ?_
      refine m_ld F G mA_1 (by unfold vp_in; decide) dX5_pour_42 ?_
      refine lv_icmp_ge (tgt := 124) hx hb dX5_pour_43 (by decide) (fun c_8 => ?_) (fun c_8 => ?_)
      · replace h := h.1 c_8
        refine lv_iload_n hx hb dX5_pour_124 rfl (lv_at hl 2 rfl) ?_
        exact m_iret F G dX5_pour_125 h
      · replace h := h.2 c_8
        refine lv_aload_n hx hb dX5_pour_46 rfl (lv_at hl 0 rfl) ?_
        refine mg_tNumber F G dX5_pour_47 ?_
        refine lv_bipush (v := 24) hx hb dX5_pour_50 (by decide) ?_
        refine lv_iload_n hx hb dX5_pour_52 rfl (lv_at hl 1 rfl) ?_
        refine lv_imul hx hb dX5_pour_53 ?_
        refine lv_iload_n hx hb dX5_pour_54 rfl (lv_at hl 3 rfl) ?_
        refine lv_iadd hx hb dX5_pour_55 ?_
        obtain ⟨b_9, h⟩ := h
        refine m_ld F G mA_6 b_9 dX5_pour_56 ?_
        refine lv_topi (fun x_10 ex_10 => ?_)
        replace h := h x_10 ex_10
        refine lv_istore (lv' := [(4, .int x_10), (0, .ref (a 0)), (1, .int v1), (2, .int v2), (3, .int v3)]) hx hb dX5_pour_57 hl (by decide) rfl (fun ls hl => ?_)
        refine lv_iload hx hb dX5_pour_59 (lv_at hl 0 rfl) ?_
        refine lv_ldc hx hb hown (hts _ q1431) dX5_pour_61 ?_
        refine lv_icmp_ne (tgt := 82) hx hb dX5_pour_63 (by decide) (fun c_11 => ?_) (fun c_11 => ?_)
        · replace h := h.1 c_11
          refine lv_iload hx hb dX5_pour_82 (lv_at hl 0 rfl) ?_
          refine lv_bipush (v := 59) hx hb dX5_pour_84 (by decide) ?_
          refine kM_within F G hl.1 ⟨Nat.le_of_ble_eq_true rfl, Nat.le_of_ble_eq_true rfl⟩ (Nat.le_of_ble_eq_true rfl) dX5_pour_86 h (fun r_12 I_13 H locs G h => ?_)
          exact wM_pour_p89 F v1 v2 v3 r_12 I_13 ih G (lv_sub hl [1, 2, 3, 4] rfl) h
        · replace h := h.2 c_11
          refine lv_aload_n hx hb dX5_pour_66 rfl (lv_at hl 1 rfl) ?_
          refine mg_s F G dX5_pour_67 ?_
          refine lv_bipush (v := 10) hx hb dX5_pour_70 (by decide) ?_
          refine lv_iconst (v := 3) hx hb dX5_pour_72 (by decide) ?_
          refine lv_iload_n hx hb dX5_pour_73 rfl (lv_at hl 4 rfl) ?_
          refine lv_imul hx hb dX5_pour_74 ?_
          refine lv_iadd hx hb dX5_pour_75 ?_
          refine lv_iconst (v := 1) hx hb dX5_pour_76 (by decide) ?_
          refine lv_iadd hx hb dX5_pour_77 ?_
          obtain ⟨b_14, h⟩ := h
          refine m_ld F G mA_1 b_14 dX5_pour_78 ?_
          refine lv_goto (tgt := 89) hx hb dX5_pour_79 (by decide) ?_
          exact wM_pour_p89 F v1 v2 v3 (I 1 (((10 + (3 * v3)) + 1).toNatClampNeg)) I ih G (lv_sub hl [1, 2, 3, 4] rfl) h
set_option maxHeartbeats 4000000 in
set_option maxRecDepth 100000 in
theorem wM_pour {l : Launch} {D : va_G} {cl : List vw_C} {a : Nat → Nat} {d : ClassId} (hcl : cl[5]? = some (RX5, TX5, 32)) (sz : Nat) (v1 : Int32) (I : St) (Q : Int32 → St → Prop) (h : M_pour v1 I Q) : MMi l D cl a d yX5_pour cX5_pour 6 .int rmX5_pour [.ref (a 0), .int v1] sz I Q := by
  refine m_enter (Qc := fun A => va_Qi Q (BM D cl a d A) A) hcl (by decide) rfl (Nat.le_of_ble_eq_true rfl) ?_
  intro p e s m below meth c ls A F hG hl
  have G := hG
  have hl : lv_has ls 6 [(0, .ref (a 0)), (1, .int v1)] := hl
  obtain ⟨hx, hb, hr, hml, hown, hts, hlocks, hA, hK, hcl⟩ := id F
  unfold M_pour at h
  refine lv_iload_n hx hb dX5_pour_0 rfl (lv_at hl 1 rfl) ?_
  refine kM_isSheet F G hl.1 ⟨Nat.le_of_ble_eq_true rfl, Nat.le_of_ble_eq_true rfl⟩ (Nat.le_of_ble_eq_true rfl) dX5_pour_1 h (fun r_1 I_2 H locs G h => ?_)
  refine lv_if_ne (tgt := 10) hx hb dX5_pour_4 (by decide) (fun c_3 => ?_) (fun c_3 => ?_)
  · replace h := h.1 c_3
    refine lv_aload_n hx hb dX5_pour_10 rfl (lv_at hl 0 rfl) ?_
    refine mg_tSort F G dX5_pour_11 ?_
    refine lv_iload_n hx hb dX5_pour_14 rfl (lv_at hl 1 rfl) ?_
    obtain ⟨b_4, h⟩ := h
    refine m_ld F G mA_4 b_4 dX5_pour_15 ?_
    refine lv_if_ge (tgt := 22) hx hb dX5_pour_16 (by decide) (fun c_5 => ?_) (fun c_5 => ?_)
    · replace h := h.1 c_5
      refine lv_iconst (v := 0) hx hb dX5_pour_22 (by decide) ?_
      refine lv_istore_n (lv' := [(2, .int 0), (0, .ref (a 0)), (1, .int v1)]) hx hb dX5_pour_23 rfl hl (by decide) rfl (fun ls hl => ?_)
      refine lv_iconst (v := 0) hx hb dX5_pour_24 (by decide) ?_
      refine lv_istore_n (lv' := [(3, .int 0), (2, .int 0), (0, .ref (a 0)), (1, .int v1)]) hx hb dX5_pour_25 rfl hl (by decide) rfl (fun ls hl => ?_)
      obtain ⟨k26, h⟩ := h
      exact wM_pour_L26 F v1  k26 0 0 I_2 _ _ _ G (lv_sub hl [2, 3, 1, 0] rfl) h
    · replace h := h.2 c_5
      refine lv_ldc hx hb hown (hts _ q1491) dX5_pour_19 ?_
      exact m_iret F G dX5_pour_21 h
  · replace h := h.2 c_3
    refine lv_ldc hx hb hown (hts _ q1296) dX5_pour_7 ?_
    exact m_iret F G dX5_pour_9 h

/-! reads -/
def M_reads_p77 (Q : Int32 → St → Prop) (K24 : Int32 → St → Prop) (v1 : Int32) (v2 : Int32) (I : St) : Prop := K24 (v2 + 1) I
def M_reads_L24 (Q : Int32 → St → Prop)  (v1 : Int32) : Nat → Int32 → St → Prop
  | 0, _, _ => False
  | n + 1, v2, I => vp_in v1 4 ∧ (((I 5 (v1.toNatClampNeg)) ≤ v2 → Q (-1000000005) I) ∧ (¬ (I 5 (v1.toNatClampNeg)) ≤ v2 → vp_in ((24 * v1) + v2) 96 ∧ (∀ x_9 : Int32, x_9 = (I 6 (((24 * v1) + v2).toNatClampNeg)) → (x_9 = (-1000000005) → M_reads_p77 Q (fun v2_ I_ => M_reads_L24 Q v1 n v2_ I_) v1 v2 I) ∧ (¬ x_9 = (-1000000005) → ((I 1 0) ≤ v2 → Q v2 I) ∧ (¬ (I 1 0) ≤ v2 → M_timeNow  I (fun r_12 I_13 => M_strikes v2 r_12 I_13 (fun r_14 I_15 => (x_9 = r_14 → M_reads_p77 Q (fun v2_ I_ => M_reads_L24 Q v1 n v2_ I_) v1 v2 I_15) ∧ (¬ x_9 = r_14 → Q v2 I_15))))))))
def M_reads (v1 : Int32) (I : St) (Q : Int32 → St → Prop) : Prop := M_isSheet v1 I (fun r_1 I_2 => (¬ r_1 = 0 → vp_in v1 4 ∧ ((0 ≤ (I_2 4 (v1.toNatClampNeg)) → ∃ k24, M_reads_L24 Q v1 k24 0 I_2) ∧ (¬ 0 ≤ (I_2 4 (v1.toNatClampNeg)) → Q (-1000000011) I_2))) ∧ (r_1 = 0 → Q (-1000000001) I_2))
abbrev rmX5_reads : Room := { frames := 4, cells := 0, slots := 0, locals := 96 }
set_option maxHeartbeats 4000000 in
set_option maxRecDepth 100000 in
theorem wM_reads_p77 {p : Program} {l : Launch} {e : Env} {s : State} {m : MethodId} {args : Array Value} {below : List Frame} {meth : Method} {c : Code} {D : va_G} {cl : List vw_C} {a : Nat → Nat} {d : ClassId} {A : Nat → Prop} {Q : Int32 → St → Prop} {K24 : Int32 → St → Prop} (F : FM p s m meth c args D cl d A cX5_reads 4 (some .int)) (v1 : Int32) (v2 : Int32) (I : St) (hK24 : ∀ (v2 : Int32) (I : St) (H : Heap) (locs : List Loc) (ls : Array Slot), GM D cl a d A s.heap I H locs → lv_has ls 4 [(0, .ref (a 0)), (1, .int v1), (2, .int v2)] → K24 v2 I → wMi p l e rmX5_reads s m args below meth c D cl a d A Q H locs (F0 m 24 ls [])) {H : Heap} {locs : List Loc} {ls : Array Slot} (G : GM D cl a d A s.heap I H locs) (hl : lv_has ls 4 [(0, .ref (a 0)), (1, .int v1), (2, .int v2)]) (h : M_reads_p77 Q K24 v1 v2 I) : wMi p l e rmX5_reads s m args below meth c D cl a d A Q H locs (F0 m 77 ls []) := by
  obtain ⟨hx, hb, hr, hml, hown, hts, hlocks, hA, hK, hcl⟩ := id F
  unfold M_reads_p77 at h
  refine lv_iinc (v := (v2 + 1)) (lv' := [(2, .int (v2 + 1)), (0, .ref (a 0)), (1, .int v1)]) hx hb dX5_reads_77 hl (k := 2) rfl rfl (by decide) rfl (fun ls hl => ?_)
  refine lv_goto (tgt := 24) hx hb dX5_reads_80 (by decide) ?_
  exact hK24 (v2 + 1) I _ _ _ G (lv_sub hl [1, 2, 0] rfl) h
set_option maxHeartbeats 4000000 in
set_option maxRecDepth 100000 in
theorem wM_reads_L24 {p : Program} {l : Launch} {e : Env} {s : State} {m : MethodId} {args : Array Value} {below : List Frame} {meth : Method} {c : Code} {D : va_G} {cl : List vw_C} {a : Nat → Nat} {d : ClassId} {A : Nat → Prop} {Q : Int32 → St → Prop}  (F : FM p s m meth c args D cl d A cX5_reads 4 (some .int)) (v1 : Int32)  :
    ∀ (n : Nat) (v2 : Int32) (I : St) (H : Heap) (locs : List Loc) (ls : Array Slot), GM D cl a d A s.heap I H locs → lv_has ls 4 [(0, .ref (a 0)), (1, .int v1), (2, .int v2)] → M_reads_L24 Q v1 n v2 I → wMi p l e rmX5_reads s m args below meth c D cl a d A Q H locs (F0 m 24 ls []) := by
  obtain ⟨hx, hb, hr, hml, hown, hts, hlocks, hA, hK, hcl⟩ := id F
  intro n
  induction n with
  | zero => intro v2 I H locs ls G hl h; exact absurd h (fun q => q)
  | succ n ih =>
    intro v2 I H locs ls G hl h
    unfold M_reads_L24 at h
    refine lv_iload_n hx hb dX5_reads_24 rfl (lv_at hl 2 rfl) ?_
    refine lv_aload_n hx hb dX5_reads_25 rfl (lv_at hl 0 rfl) ?_
    refine mg_tSize F G dX5_reads_26 ?_
    refine lv_iload_n hx hb dX5_reads_29 rfl (lv_at hl 1 rfl) ?_
    obtain ⟨b_6, h⟩ := h
    refine m_ld F G mA_5 b_6 dX5_reads_30 ?_
    refine lv_icmp_ge (tgt := 83) hx hb dX5_reads_31 (by decide) (fun c_7 => ?_) (fun c_7 => ?_)
    · replace h := h.1 c_7
      refine lv_ldc hx hb hown (hts _ q1431) dX5_reads_83 ?_
      exact m_iret F G dX5_reads_85 h
    · replace h := h.2 c_7
      refine lv_aload_n hx hb dX5_reads_34 rfl (lv_at hl 0 rfl) ?_
      refine mg_tNumber F G dX5_reads_35 ?_
      refine lv_bipush (v := 24) hx hb dX5_reads_38 (by decide) ?_
      refine lv_iload_n hx hb dX5_reads_40 rfl (lv_at hl 1 rfl) ?_
      refine lv_imul hx hb dX5_reads_41 ?_
      refine lv_iload_n hx hb dX5_reads_42 rfl (lv_at hl 2 rfl) ?_
      refine lv_iadd hx hb dX5_reads_43 ?_
      obtain ⟨b_8, h⟩ := h
      refine m_ld F G mA_6 b_8 dX5_reads_44 ?_
      refine lv_topi (fun x_9 ex_9 => ?_)
      replace h := h x_9 ex_9
      refine lv_istore_n (lv' := [(3, .int x_9), (0, .ref (a 0)), (1, .int v1), (2, .int v2)]) hx hb dX5_reads_45 rfl hl (by decide) rfl (fun ls hl => ?_)
      refine lv_iload_n hx hb dX5_reads_46 rfl (lv_at hl 0 rfl) ?_
      refine lv_ldc hx hb hown (hts _ q1431) dX5_reads_47 ?_
      refine lv_icmp_eq (tgt := 77) hx hb dX5_reads_49 (by decide) (fun c_10 => ?_) (fun c_10 => ?_)
      · replace h := h.1 c_10
        exact wM_reads_p77 F v1 v2 I ih G (lv_sub hl [1, 2, 3] rfl) h
      · replace h := h.2 c_10
        refine lv_iload_n hx hb dX5_reads_52 rfl (lv_at hl 3 rfl) ?_
        refine lv_aload_n hx hb dX5_reads_53 rfl (lv_at hl 1 rfl) ?_
        refine mg_s F G dX5_reads_54 ?_
        refine lv_iconst (v := 0) hx hb dX5_reads_57 (by decide) ?_
        refine m_ld F G mA_1 (by unfold vp_in; decide) dX5_reads_58 ?_
        refine lv_icmp_ge (tgt := 75) hx hb dX5_reads_59 (by decide) (fun c_11 => ?_) (fun c_11 => ?_)
        · replace h := h.1 c_11
          refine lv_iload_n hx hb dX5_reads_75 rfl (lv_at hl 3 rfl) ?_
          exact m_iret F G dX5_reads_76 h
        · replace h := h.2 c_11
          refine lv_iload_n hx hb dX5_reads_62 rfl (lv_at hl 0 rfl) ?_
          refine lv_aload_n hx hb dX5_reads_63 rfl (lv_at hl 1 rfl) ?_
          refine lv_iload_n hx hb dX5_reads_64 rfl (lv_at hl 3 rfl) ?_
          refine lv_aload_n hx hb dX5_reads_65 rfl (lv_at hl 1 rfl) ?_
          refine kM_timeNow F G hl.1 ⟨Nat.le_of_ble_eq_true rfl, Nat.le_of_ble_eq_true rfl⟩ (Nat.le_of_ble_eq_true rfl) dX5_reads_66 h (fun r_12 I_13 H locs G h => ?_)
          refine kM_strikes F G hl.1 ⟨Nat.le_of_ble_eq_true rfl, Nat.le_of_ble_eq_true rfl⟩ (Nat.le_of_ble_eq_true rfl) dX5_reads_69 h (fun r_14 I_15 H locs G h => ?_)
          refine lv_icmp_eq (tgt := 77) hx hb dX5_reads_72 (by decide) (fun c_16 => ?_) (fun c_16 => ?_)
          · replace h := h.1 c_16
            exact wM_reads_p77 F v1 v2 I_15 ih G (lv_sub hl [1, 2, 3] rfl) h
          · replace h := h.2 c_16
            refine lv_iload_n hx hb dX5_reads_75 rfl (lv_at hl 3 rfl) ?_
            exact m_iret F G dX5_reads_76 h
set_option maxHeartbeats 4000000 in
set_option maxRecDepth 100000 in
theorem wM_reads {l : Launch} {D : va_G} {cl : List vw_C} {a : Nat → Nat} {d : ClassId} (hcl : cl[5]? = some (RX5, TX5, 32)) (sz : Nat) (v1 : Int32) (I : St) (Q : Int32 → St → Prop) (h : M_reads v1 I Q) : MMi l D cl a d yX5_reads cX5_reads 4 .int rmX5_reads [.ref (a 0), .int v1] sz I Q := by
  refine m_enter (Qc := fun A => va_Qi Q (BM D cl a d A) A) hcl (by decide) rfl (Nat.le_of_ble_eq_true rfl) ?_
  intro p e s m below meth c ls A F hG hl
  have G := hG
  have hl : lv_has ls 4 [(0, .ref (a 0)), (1, .int v1)] := hl
  obtain ⟨hx, hb, hr, hml, hown, hts, hlocks, hA, hK, hcl⟩ := id F
  unfold M_reads at h
  refine lv_iload_n hx hb dX5_reads_0 rfl (lv_at hl 1 rfl) ?_
  refine kM_isSheet F G hl.1 ⟨Nat.le_of_ble_eq_true rfl, Nat.le_of_ble_eq_true rfl⟩ (Nat.le_of_ble_eq_true rfl) dX5_reads_1 h (fun r_1 I_2 H locs G h => ?_)
  refine lv_if_ne (tgt := 10) hx hb dX5_reads_4 (by decide) (fun c_3 => ?_) (fun c_3 => ?_)
  · replace h := h.1 c_3
    refine lv_aload_n hx hb dX5_reads_10 rfl (lv_at hl 0 rfl) ?_
    refine mg_tSort F G dX5_reads_11 ?_
    refine lv_iload_n hx hb dX5_reads_14 rfl (lv_at hl 1 rfl) ?_
    obtain ⟨b_4, h⟩ := h
    refine m_ld F G mA_4 b_4 dX5_reads_15 ?_
    refine lv_if_ge (tgt := 22) hx hb dX5_reads_16 (by decide) (fun c_5 => ?_) (fun c_5 => ?_)
    · replace h := h.1 c_5
      refine lv_iconst (v := 0) hx hb dX5_reads_22 (by decide) ?_
      refine lv_istore_n (lv' := [(2, .int 0), (0, .ref (a 0)), (1, .int v1)]) hx hb dX5_reads_23 rfl hl (by decide) rfl (fun ls hl => ?_)
      obtain ⟨k24, h⟩ := h
      exact wM_reads_L24 F v1  k24 0 I_2 _ _ _ G (lv_sub hl [1, 2, 0] rfl) h
    · replace h := h.2 c_5
      refine lv_ldc hx hb hown (hts _ q1491) dX5_reads_19 ?_
      exact m_iret F G dX5_reads_21 h
  · replace h := h.2 c_3
    refine lv_ldc hx hb hown (hts _ q1296) dX5_reads_7 ?_
    exact m_iret F G dX5_reads_9 h

/-! copy -/
def M_copy_L149 (Q : Int32 → St → Prop)  (v3 : Int32) (v4 : Int32) (v5 : Int32) : Nat → Int32 → St → Prop
  | 0, _, _ => False
  | n + 1, v6, I => (v5 ≤ v6 → Q v5 I) ∧ (¬ v5 ≤ v6 → vp_in v6 24 ∧ (vp_in (((24 * v3) + v4) + v6) 96 ∧ (M_copy_L149 Q v3 v4 v5 n (v6 + 1) (sA I 6 (((24 * v3) + v4) + v6) (I 17 (v6.toNatClampNeg))))))
def M_copy_L112 (Q : Int32 → St → Prop)  (v1 : Int32) (v2 : Int32) (v3 : Int32) (v4 : Int32) (v5 : Int32) : Nat → Int32 → St → Prop
  | 0, _, _ => False
  | n + 1, v6, I => (v5 ≤ v6 → ∃ k149, M_copy_L149 Q v3 v4 v5 k149 0 I) ∧ (¬ v5 ≤ v6 → vp_in (((24 * v1) + v2) + v6) 96 ∧ (vp_in v6 24 ∧ (M_copy_L112 Q v1 v2 v3 v4 v5 n (v6 + 1) (sA I 17 v6 (I 6 ((((24 * v1) + v2) + v6).toNatClampNeg))))))
def M_copy (v1 : Int32) (v2 : Int32) (v3 : Int32) (v4 : Int32) (v5 : Int32) (I : St) (Q : Int32 → St → Prop) : Prop := M_isSheet v1 I (fun r_1 I_2 => (r_1 = 0 → Q (-1000000001) I_2) ∧ (¬ r_1 = 0 → M_isSheet v3 I_2 (fun r_4 I_5 => (¬ r_4 = 0 → vp_in v1 4 ∧ (((I_5 4 (v1.toNatClampNeg)) < 0 → Q (-1000000011) I_5) ∧ (¬ (I_5 4 (v1.toNatClampNeg)) < 0 → vp_in v3 4 ∧ ((0 ≤ (I_5 4 (v3.toNatClampNeg)) → vp_in v1 4 ∧ (vp_in v3 4 ∧ (((I_5 4 (v1.toNatClampNeg)) = (I_5 4 (v3.toNatClampNeg)) → (v2 < 0 → Q (-1000000013) I_5) ∧ (¬ v2 < 0 → (v4 < 0 → Q (-1000000013) I_5) ∧ (¬ v4 < 0 → (v5 < 0 → Q (-1000000013) I_5) ∧ (¬ v5 < 0 → vp_in v1 4 ∧ ((0 < (lg_cmp (v2.toInt64 + v5.toInt64) ((I_5 5 (v1.toNatClampNeg)).toInt64)) → Q (-1000000013) I_5) ∧ (¬ 0 < (lg_cmp (v2.toInt64 + v5.toInt64) ((I_5 5 (v1.toNatClampNeg)).toInt64)) → vp_in v3 4 ∧ (((lg_cmp (v4.toInt64 + v5.toInt64) ((I_5 5 (v3.toNatClampNeg)).toInt64)) ≤ 0 → ∃ k112, M_copy_L112 Q v1 v2 v3 v4 v5 k112 0 I_5) ∧ (¬ (lg_cmp (v4.toInt64 + v5.toInt64) ((I_5 5 (v3.toNatClampNeg)).toInt64)) ≤ 0 → Q (-1000000013) I_5)))))))) ∧ (¬ (I_5 4 (v1.toNatClampNeg)) = (I_5 4 (v3.toNatClampNeg)) → Q (-1000000012) I_5)))) ∧ (¬ 0 ≤ (I_5 4 (v3.toNatClampNeg)) → Q (-1000000011) I_5))))) ∧ (r_4 = 0 → Q (-1000000001) I_5))))
abbrev rmX5_copy : Room := { frames := 2, cells := 0, slots := 0, locals := 45 }
set_option maxHeartbeats 4000000 in
set_option maxRecDepth 100000 in
theorem wM_copy_L149 {p : Program} {l : Launch} {e : Env} {s : State} {m : MethodId} {args : Array Value} {below : List Frame} {meth : Method} {c : Code} {D : va_G} {cl : List vw_C} {a : Nat → Nat} {d : ClassId} {A : Nat → Prop} {Q : Int32 → St → Prop}  (F : FM p s m meth c args D cl d A cX5_copy 7 (some .int)) (v3 : Int32) (v4 : Int32) (v5 : Int32)  :
    ∀ (n : Nat) (v6 : Int32) (I : St) (H : Heap) (locs : List Loc) (ls : Array Slot), GM D cl a d A s.heap I H locs → lv_has ls 7 [(0, .ref (a 0)), (3, .int v3), (4, .int v4), (5, .int v5), (6, .int v6)] → M_copy_L149 Q v3 v4 v5 n v6 I → wMi p l e rmX5_copy s m args below meth c D cl a d A Q H locs (F0 m 149 ls []) := by
  obtain ⟨hx, hb, hr, hml, hown, hts, hlocks, hA, hK, hcl⟩ := id F
  intro n
  induction n with
  | zero => intro v6 I H locs ls G hl h; exact absurd h (fun q => q)
  | succ n ih =>
    intro v6 I H locs ls G hl h
    unfold M_copy_L149 at h
    refine lv_iload hx hb dX5_copy_149 (lv_at hl 4 rfl) ?_
    refine lv_iload hx hb dX5_copy_151 (lv_at hl 3 rfl) ?_
    refine lv_icmp_ge (tgt := 184) hx hb dX5_copy_153 (by decide) (fun c_24 => ?_) (fun c_24 => ?_)
    · replace h := h.1 c_24
      refine lv_iload hx hb dX5_copy_184 (lv_at hl 3 rfl) ?_
      exact m_iret F G dX5_copy_186 h
    · replace h := h.2 c_24
      refine lv_aload_n hx hb dX5_copy_156 rfl (lv_at hl 0 rfl) ?_
      refine mg_tNumber F G dX5_copy_157 ?_
      refine lv_bipush (v := 24) hx hb dX5_copy_160 (by decide) ?_
      refine lv_iload_n hx hb dX5_copy_162 rfl (lv_at hl 1 rfl) ?_
      refine lv_imul hx hb dX5_copy_163 ?_
      refine lv_iload hx hb dX5_copy_164 (lv_at hl 2 rfl) ?_
      refine lv_iadd hx hb dX5_copy_166 ?_
      refine lv_iload hx hb dX5_copy_167 (lv_at hl 4 rfl) ?_
      refine lv_iadd hx hb dX5_copy_169 ?_
      refine lv_aload_n hx hb dX5_copy_170 rfl (lv_at hl 0 rfl) ?_
      refine mg_carried F G dX5_copy_171 ?_
      refine lv_iload hx hb dX5_copy_174 (lv_at hl 4 rfl) ?_
      obtain ⟨b_25, h⟩ := h
      refine m_ld F G mA_17 b_25 dX5_copy_176 ?_
      obtain ⟨b_26, h⟩ := h
      refine m_st F G mA_6 b_26 dX5_copy_177 (fun H locs G => ?_)
      refine lv_iinc (v := (v6 + 1)) (lv' := [(6, .int (v6 + 1)), (0, .ref (a 0)), (3, .int v3), (4, .int v4), (5, .int v5)]) hx hb dX5_copy_178 hl (k := 4) rfl rfl (by decide) rfl (fun ls hl => ?_)
      refine lv_goto (tgt := 149) hx hb dX5_copy_181 (by decide) ?_
      exact ih (v6 + 1) (sA I 6 (((24 * v3) + v4) + v6) (I 17 (v6.toNatClampNeg))) _ _ _ G (lv_sub hl [1, 2, 3, 4, 0] rfl) h
set_option maxHeartbeats 4000000 in
set_option maxRecDepth 100000 in
theorem wM_copy_L112 {p : Program} {l : Launch} {e : Env} {s : State} {m : MethodId} {args : Array Value} {below : List Frame} {meth : Method} {c : Code} {D : va_G} {cl : List vw_C} {a : Nat → Nat} {d : ClassId} {A : Nat → Prop} {Q : Int32 → St → Prop}  (F : FM p s m meth c args D cl d A cX5_copy 7 (some .int)) (v1 : Int32) (v2 : Int32) (v3 : Int32) (v4 : Int32) (v5 : Int32)  :
    ∀ (n : Nat) (v6 : Int32) (I : St) (H : Heap) (locs : List Loc) (ls : Array Slot), GM D cl a d A s.heap I H locs → lv_has ls 7 [(0, .ref (a 0)), (1, .int v1), (2, .int v2), (3, .int v3), (4, .int v4), (5, .int v5), (6, .int v6)] → M_copy_L112 Q v1 v2 v3 v4 v5 n v6 I → wMi p l e rmX5_copy s m args below meth c D cl a d A Q H locs (F0 m 112 ls []) := by
  obtain ⟨hx, hb, hr, hml, hown, hts, hlocks, hA, hK, hcl⟩ := id F
  intro n
  induction n with
  | zero => intro v6 I H locs ls G hl h; exact absurd h (fun q => q)
  | succ n ih =>
    intro v6 I H locs ls G hl h
    unfold M_copy_L112 at h
    refine lv_iload hx hb dX5_copy_112 (lv_at hl 6 rfl) ?_
    refine lv_iload hx hb dX5_copy_114 (lv_at hl 5 rfl) ?_
    refine lv_icmp_ge (tgt := 146) hx hb dX5_copy_116 (by decide) (fun c_21 => ?_) (fun c_21 => ?_)
    · replace h := h.1 c_21
      refine lv_iconst (v := 0) hx hb dX5_copy_146 (by decide) ?_
      refine lv_istore (lv' := [(6, .int 0), (0, .ref (a 0)), (1, .int v1), (2, .int v2), (3, .int v3), (4, .int v4), (5, .int v5)]) hx hb dX5_copy_147 hl (by decide) rfl (fun ls hl => ?_)
      obtain ⟨k149, h⟩ := h
      exact wM_copy_L149 F v3 v4 v5  k149 0 I _ _ _ G (lv_sub hl [1, 4, 5, 6, 0] rfl) h
    · replace h := h.2 c_21
      refine lv_aload_n hx hb dX5_copy_119 rfl (lv_at hl 0 rfl) ?_
      refine mg_carried F G dX5_copy_120 ?_
      refine lv_iload hx hb dX5_copy_123 (lv_at hl 6 rfl) ?_
      refine lv_aload_n hx hb dX5_copy_125 rfl (lv_at hl 0 rfl) ?_
      refine mg_tNumber F G dX5_copy_126 ?_
      refine lv_bipush (v := 24) hx hb dX5_copy_129 (by decide) ?_
      refine lv_iload_n hx hb dX5_copy_131 rfl (lv_at hl 1 rfl) ?_
      refine lv_imul hx hb dX5_copy_132 ?_
      refine lv_iload_n hx hb dX5_copy_133 rfl (lv_at hl 2 rfl) ?_
      refine lv_iadd hx hb dX5_copy_134 ?_
      refine lv_iload hx hb dX5_copy_135 (lv_at hl 6 rfl) ?_
      refine lv_iadd hx hb dX5_copy_137 ?_
      obtain ⟨b_22, h⟩ := h
      refine m_ld F G mA_6 b_22 dX5_copy_138 ?_
      obtain ⟨b_23, h⟩ := h
      refine m_st F G mA_17 b_23 dX5_copy_139 (fun H locs G => ?_)
      refine lv_iinc (v := (v6 + 1)) (lv' := [(6, .int (v6 + 1)), (0, .ref (a 0)), (1, .int v1), (2, .int v2), (3, .int v3), (4, .int v4), (5, .int v5)]) hx hb dX5_copy_140 hl (k := 6) rfl rfl (by decide) rfl (fun ls hl => ?_)
      refine lv_goto (tgt := 112) hx hb dX5_copy_143 (by decide) ?_
      exact ih (v6 + 1) (sA I 17 v6 (I 6 ((((24 * v1) + v2) + v6).toNatClampNeg))) _ _ _ G (lv_sub hl [1, 2, 3, 4, 5, 6, 0] rfl) h
set_option maxHeartbeats 4000000 in
set_option maxRecDepth 100000 in
theorem wM_copy {l : Launch} {D : va_G} {cl : List vw_C} {a : Nat → Nat} {d : ClassId} (hcl : cl[5]? = some (RX5, TX5, 32)) (sz : Nat) (v1 : Int32) (v2 : Int32) (v3 : Int32) (v4 : Int32) (v5 : Int32) (I : St) (Q : Int32 → St → Prop) (h : M_copy v1 v2 v3 v4 v5 I Q) : MMi l D cl a d yX5_copy cX5_copy 7 .int rmX5_copy [.ref (a 0), .int v1, .int v2, .int v3, .int v4, .int v5] sz I Q := by
  refine m_enter (Qc := fun A => va_Qi Q (BM D cl a d A) A) hcl (by decide) rfl (Nat.le_of_ble_eq_true rfl) ?_
  intro p e s m below meth c ls A F hG hl
  have G := hG
  have hl : lv_has ls 7 [(0, .ref (a 0)), (1, .int v1), (2, .int v2), (3, .int v3), (4, .int v4), (5, .int v5)] := hl
  obtain ⟨hx, hb, hr, hml, hown, hts, hlocks, hA, hK, hcl⟩ := id F
  unfold M_copy at h
  refine lv_iload_n hx hb dX5_copy_0 rfl (lv_at hl 1 rfl) ?_
  refine kM_isSheet F G hl.1 ⟨Nat.le_of_ble_eq_true rfl, Nat.le_of_ble_eq_true rfl⟩ (Nat.le_of_ble_eq_true rfl) dX5_copy_1 h (fun r_1 I_2 H locs G h => ?_)
  refine lv_if_eq (tgt := 14) hx hb dX5_copy_4 (by decide) (fun c_3 => ?_) (fun c_3 => ?_)
  · replace h := h.1 c_3
    refine lv_ldc hx hb hown (hts _ q1296) dX5_copy_14 ?_
    exact m_iret F G dX5_copy_16 h
  · replace h := h.2 c_3
    refine lv_iload_n hx hb dX5_copy_7 rfl (lv_at hl 3 rfl) ?_
    refine kM_isSheet F G hl.1 ⟨Nat.le_of_ble_eq_true rfl, Nat.le_of_ble_eq_true rfl⟩ (Nat.le_of_ble_eq_true rfl) dX5_copy_8 h (fun r_4 I_5 H locs G h => ?_)
    refine lv_if_ne (tgt := 17) hx hb dX5_copy_11 (by decide) (fun c_6 => ?_) (fun c_6 => ?_)
    · replace h := h.1 c_6
      refine lv_aload_n hx hb dX5_copy_17 rfl (lv_at hl 0 rfl) ?_
      refine mg_tSort F G dX5_copy_18 ?_
      refine lv_iload_n hx hb dX5_copy_21 rfl (lv_at hl 1 rfl) ?_
      obtain ⟨b_7, h⟩ := h
      refine m_ld F G mA_4 b_7 dX5_copy_22 ?_
      refine lv_if_lt (tgt := 35) hx hb dX5_copy_23 (by decide) (fun c_8 => ?_) (fun c_8 => ?_)
      · replace h := h.1 c_8
        refine lv_ldc hx hb hown (hts _ q1491) dX5_copy_35 ?_
        exact m_iret F G dX5_copy_37 h
      · replace h := h.2 c_8
        refine lv_aload_n hx hb dX5_copy_26 rfl (lv_at hl 0 rfl) ?_
        refine mg_tSort F G dX5_copy_27 ?_
        refine lv_iload_n hx hb dX5_copy_30 rfl (lv_at hl 3 rfl) ?_
        obtain ⟨b_9, h⟩ := h
        refine m_ld F G mA_4 b_9 dX5_copy_31 ?_
        refine lv_if_ge (tgt := 38) hx hb dX5_copy_32 (by decide) (fun c_10 => ?_) (fun c_10 => ?_)
        · replace h := h.1 c_10
          refine lv_aload_n hx hb dX5_copy_38 rfl (lv_at hl 0 rfl) ?_
          refine mg_tSort F G dX5_copy_39 ?_
          refine lv_iload_n hx hb dX5_copy_42 rfl (lv_at hl 1 rfl) ?_
          obtain ⟨b_11, h⟩ := h
          refine m_ld F G mA_4 b_11 dX5_copy_43 ?_
          refine lv_aload_n hx hb dX5_copy_44 rfl (lv_at hl 0 rfl) ?_
          refine mg_tSort F G dX5_copy_45 ?_
          refine lv_iload_n hx hb dX5_copy_48 rfl (lv_at hl 3 rfl) ?_
          obtain ⟨b_12, h⟩ := h
          refine m_ld F G mA_4 b_12 dX5_copy_49 ?_
          refine lv_icmp_eq (tgt := 56) hx hb dX5_copy_50 (by decide) (fun c_13 => ?_) (fun c_13 => ?_)
          · replace h := h.1 c_13
            refine lv_iload_n hx hb dX5_copy_56 rfl (lv_at hl 2 rfl) ?_
            refine lv_if_lt (tgt := 105) hx hb dX5_copy_57 (by decide) (fun c_14 => ?_) (fun c_14 => ?_)
            · replace h := h.1 c_14
              refine lv_ldcw hx hb hown (hts _ q1627) dX5_copy_105 ?_
              exact m_iret F G dX5_copy_108 h
            · replace h := h.2 c_14
              refine lv_iload hx hb dX5_copy_60 (lv_at hl 4 rfl) ?_
              refine lv_if_lt (tgt := 105) hx hb dX5_copy_62 (by decide) (fun c_15 => ?_) (fun c_15 => ?_)
              · replace h := h.1 c_15
                refine lv_ldcw hx hb hown (hts _ q1627) dX5_copy_105 ?_
                exact m_iret F G dX5_copy_108 h
              · replace h := h.2 c_15
                refine lv_iload hx hb dX5_copy_65 (lv_at hl 5 rfl) ?_
                refine lv_if_lt (tgt := 105) hx hb dX5_copy_67 (by decide) (fun c_16 => ?_) (fun c_16 => ?_)
                · replace h := h.1 c_16
                  refine lv_ldcw hx hb hown (hts _ q1627) dX5_copy_105 ?_
                  exact m_iret F G dX5_copy_108 h
                · replace h := h.2 c_16
                  refine lv_iload_n hx hb dX5_copy_70 rfl (lv_at hl 2 rfl) ?_
                  refine lv_i2l (v := v2.toInt64) hx hb dX5_copy_71 rfl ?_
                  refine lv_iload hx hb dX5_copy_72 (lv_at hl 5 rfl) ?_
                  refine lv_i2l (v := v5.toInt64) hx hb dX5_copy_74 rfl ?_
                  refine lv_ladd hx hb dX5_copy_75 ?_
                  refine lv_aload_n hx hb dX5_copy_76 rfl (lv_at hl 0 rfl) ?_
                  refine mg_tSize F G dX5_copy_77 ?_
                  refine lv_iload_n hx hb dX5_copy_80 rfl (lv_at hl 1 rfl) ?_
                  obtain ⟨b_17, h⟩ := h
                  refine m_ld F G mA_5 b_17 dX5_copy_81 ?_
                  refine lv_i2l (v := (I_5 5 (v1.toNatClampNeg)).toInt64) hx hb dX5_copy_82 rfl ?_
                  refine W.lcmp hx hb dX5_copy_83 ?_
                  refine lv_if_gt (tgt := 105) hx hb dX5_copy_84 (by decide) (fun c_18 => ?_) (fun c_18 => ?_)
                  · replace h := h.1 c_18
                    refine lv_ldcw hx hb hown (hts _ q1627) dX5_copy_105 ?_
                    exact m_iret F G dX5_copy_108 h
                  · replace h := h.2 c_18
                    refine lv_iload hx hb dX5_copy_87 (lv_at hl 4 rfl) ?_
                    refine lv_i2l (v := v4.toInt64) hx hb dX5_copy_89 rfl ?_
                    refine lv_iload hx hb dX5_copy_90 (lv_at hl 5 rfl) ?_
                    refine lv_i2l (v := v5.toInt64) hx hb dX5_copy_92 rfl ?_
                    refine lv_ladd hx hb dX5_copy_93 ?_
                    refine lv_aload_n hx hb dX5_copy_94 rfl (lv_at hl 0 rfl) ?_
                    refine mg_tSize F G dX5_copy_95 ?_
                    refine lv_iload_n hx hb dX5_copy_98 rfl (lv_at hl 3 rfl) ?_
                    obtain ⟨b_19, h⟩ := h
                    refine m_ld F G mA_5 b_19 dX5_copy_99 ?_
                    refine lv_i2l (v := (I_5 5 (v3.toNatClampNeg)).toInt64) hx hb dX5_copy_100 rfl ?_
                    refine W.lcmp hx hb dX5_copy_101 ?_
                    refine lv_if_le (tgt := 109) hx hb dX5_copy_102 (by decide) (fun c_20 => ?_) (fun c_20 => ?_)
                    · replace h := h.1 c_20
                      refine lv_iconst (v := 0) hx hb dX5_copy_109 (by decide) ?_
                      refine lv_istore (lv' := [(6, .int 0), (0, .ref (a 0)), (1, .int v1), (2, .int v2), (3, .int v3), (4, .int v4), (5, .int v5)]) hx hb dX5_copy_110 hl (by decide) rfl (fun ls hl => ?_)
                      obtain ⟨k112, h⟩ := h
                      exact wM_copy_L112 F v1 v2 v3 v4 v5  k112 0 I_5 _ _ _ G (lv_sub hl [1, 2, 3, 4, 5, 6, 0] rfl) h
                    · replace h := h.2 c_20
                      refine lv_ldcw hx hb hown (hts _ q1627) dX5_copy_105 ?_
                      exact m_iret F G dX5_copy_108 h
          · replace h := h.2 c_13
            refine lv_ldc hx hb hown (hts _ q1360) dX5_copy_53 ?_
            exact m_iret F G dX5_copy_55 h
        · replace h := h.2 c_10
          refine lv_ldc hx hb hown (hts _ q1491) dX5_copy_35 ?_
          exact m_iret F G dX5_copy_37 h
    · replace h := h.2 c_6
      refine lv_ldc hx hb hown (hts _ q1296) dX5_copy_14 ?_
      exact m_iret F G dX5_copy_16 h

/-! isSlot -/
def M_isSlot (v0 : Int32) (I : St) (Q : Int32 → St → Prop) : Prop := M_isIn v0.toInt64 0 4 I (fun r_1 I_2 => zb r_1 ∧ Q r_1 I_2)
abbrev rmX5_isSlot : Room := { frames := 1, cells := 0, slots := 0, locals := 25 }
set_option maxHeartbeats 4000000 in
set_option maxRecDepth 100000 in
theorem wM_isSlot {l : Launch} {D : va_G} {cl : List vw_C} {a : Nat → Nat} {d : ClassId} (hcl : cl[5]? = some (RX5, TX5, 32)) (sz : Nat) (v0 : Int32) (I : St) (Q : Int32 → St → Prop) (h : M_isSlot v0 I Q) : MMi l D cl a d yX5_isSlot cX5_isSlot 1 .boolean rmX5_isSlot [.int v0] sz I Q := by
  refine m_enter (Qc := fun A => va_Qi Q (BM D cl a d A) A) hcl (by decide) rfl (Nat.le_of_ble_eq_true rfl) ?_
  intro p e s m below meth c ls A F hG hl
  have G := hG
  have hl : lv_has ls 1 [(0, .int v0)] := hl
  obtain ⟨hx, hb, hr, hml, hown, hts, hlocks, hA, hK, hcl⟩ := id F
  unfold M_isSlot at h
  refine lv_iload_n hx hb dX5_isSlot_0 rfl (lv_at hl 0 rfl) ?_
  refine lv_i2l (v := v0.toInt64) hx hb dX5_isSlot_1 rfl ?_
  refine lv_lconst (v := 0) hx hb dX5_isSlot_2 (by decide) ?_
  refine lv_ldc2 hx hb hown (hts _ q1652) dX5_isSlot_3 ?_
  refine kM_isIn F G hl.1 ⟨Nat.le_of_ble_eq_true rfl, Nat.le_of_ble_eq_true rfl⟩ (Nat.le_of_ble_eq_true rfl) dX5_isSlot_6 h (fun r_1 I_2 H locs G h => ?_)
  exact m_zret F G h.1 dX5_isSlot_9 h.2
set_option maxHeartbeats 4000000 in
set_option maxRecDepth 100000 in
theorem kM_isSlot {p : Program} {l : Launch} {e : Env} {s : State} {m : MethodId} {R : Room} {args : Array Value} {below : List Frame} {meth : Method} {c : Code} {D : va_G} {cl : List vw_C} {a : Nat → Nat} {d : ClassId} {A : Nat → Prop} {Q : State → Prop} {cc : ByteArray} {nL pc : Nat} {ret : Option FieldType} {ls : Array Slot} {rest : List Value} {v0 : Int32} {I : St} {H : Heap} {locs : List Loc} {Q1 : Int32 → St → Prop} (F : FM p s m meth c args D cl d A cc nL ret) (G : GM D cl a d A s.heap I H locs) (hsz : ls.size = nL) (hR : rmX5_isSlot.frames + 1 ≤ R.frames ∧ 8 + (1 + 11) + rmX5_isSlot.locals ≤ R.locals) (hW : (rest.map fun v => v.category).sum ≤ 8) (hd : decode cc pc = .ok (.invokestatic 309, 3)) (h : M_isSlot v0 I Q1) (k : ∀ (r : Int32) (I1 : St) (H : Heap) (locs : List Loc), GM D cl a d A s.heap I1 H locs → Q1 r I1 → W p l e R s m args below meth c H locs 0 0 Q (F0 m (pc + 3) ls (.int r :: rest))) : W p l e R s m args below meth c H locs 0 0 Q (F0 m pc ls (.int v0 :: rest)) := by
  obtain ⟨hx, hb, hr, hml, hown, hts, hlocks, hA, hK, hcl⟩ := id F
  exact m_callSi (As := [.int v0]) F G hsz (wM_isSlot hcl H.size v0 I Q1 h) (va_cwS 1 hts (lw_S q1649 q1650 q90 q1651) rfl rfl rfl (by decide +kernel) hR) rfl rfl hW hd k
/-! lay -/
def M_lay_L149 (Q : Int32 → St → Prop)  (v1 : Int32) (v3 : Int32) (v5 : Int32) : Nat → Int32 → St → Prop
  | 0, _, _ => False
  | n + 1, v6, I => (24 ≤ v6 → Q v5 I) ∧ (¬ 24 ≤ v6 → vp_in ((24 * v3) + v6) 96 ∧ (vp_in ((24 * v1) + v6) 120 ∧ (M_lay_L149 Q v1 v3 v5 n (v6 + 1) (sA I 11 ((24 * v1) + v6) (I 6 (((24 * v3) + v6).toNatClampNeg))))))
def M_lay_p128 (Q : Int32 → St → Prop)  (v1 : Int32) (v2 : Int32) (v3 : Int32) (v5 : Int32) (t0 : Int32) (t1 : Int32) (I : St) : Prop := vp_in t1 5 ∧ ((¬ v2 = 2 → Q v5 (sA I 9 t1 t0)) ∧ (v2 = 2 → vp_in v3 4 ∧ (vp_in v1 5 ∧ (∃ k149, M_lay_L149 Q v1 v3 v5 k149 0 (sA (sA I 9 t1 t0) 10 v1 ((sA I 9 t1 t0) 5 (v3.toNatClampNeg)))))))
def M_lay_p108 (Q : Int32 → St → Prop)  (v1 : Int32) (v2 : Int32) (v3 : Int32) (v5 : Int32) (t0 : Int32) (t1 : Int32) (I : St) : Prop := vp_in t1 5 ∧ ((¬ v2 = 1 → M_lay_p128 Q v1 v2 v3 v5 0 v1 (sA I 8 t1 t0)) ∧ (v2 = 1 → M_worth v3 (sA I 8 t1 t0) (fun r_26 I_27 => M_lay_p128 Q v1 v2 v3 v5 r_26 v1 I_27)))
def M_lay_p73 (Q : Int32 → St → Prop)  (v1 : Int32) (v2 : Int32) (v3 : Int32) (I : St) : Prop := vp_in v1 5 ∧ (∀ x_19 : Int32, x_19 = (I 7 (v1.toNatClampNeg)) → vp_in v1 5 ∧ ((¬ v2 = 1 → M_lay_p108 Q v1 v2 v3 x_19 v3 v1 (sA I 7 v1 v2)) ∧ (v2 = 1 → M_of v3 0 (sA I 7 v1 v2) (fun r_22 I_23 => M_lay_p108 Q v1 v2 v3 x_19 r_22 v1 I_23))))
def M_lay_p39 (Q : Int32 → St → Prop)  (v1 : Int32) (v2 : Int32) (v3 : Int32) (t0 : Int32) (I : St) : Prop := M_isSlot v1 I (fun r_11 I_12 => (r_11 = 0 → Q (-1000000001) I_12) ∧ (¬ r_11 = 0 → (¬ t0 = 0 → (¬ v2 = 2 → M_lay_p73 Q v1 v2 v3 I_12) ∧ (v2 = 2 → vp_in v3 4 ∧ ((0 ≤ (I_12 4 (v3.toNatClampNeg)) → M_lay_p73 Q v1 v2 v3 I_12) ∧ (¬ 0 ≤ (I_12 4 (v3.toNatClampNeg)) → Q (-1000000011) I_12)))) ∧ (t0 = 0 → Q (-1000000001) I_12)))
def M_lay_p38 (Q : Int32 → St → Prop)  (v1 : Int32) (v2 : Int32) (v3 : Int32) (I : St) : Prop := M_lay_p39 Q v1 v2 v3 0 I
def M_lay_p34 (Q : Int32 → St → Prop)  (v1 : Int32) (v2 : Int32) (v3 : Int32) (I : St) : Prop := M_lay_p39 Q v1 v2 v3 1 I
def M_lay_p22 (Q : Int32 → St → Prop)  (v1 : Int32) (v2 : Int32) (v3 : Int32) (I : St) : Prop := (¬ v2 = 2 → M_lay_p38 Q v1 v2 v3 I) ∧ (v2 = 2 → M_isSheet v3 I (fun r_8 I_9 => (r_8 = 0 → M_lay_p38 Q v1 v2 v3 I_9) ∧ (¬ r_8 = 0 → M_lay_p34 Q v1 v2 v3 I_9)))
def M_lay (v1 : Int32) (v2 : Int32) (v3 : Int32) (I : St) (Q : Int32 → St → Prop) : Prop := (v2 = 0 → M_lay_p34 Q v1 v2 v3 I) ∧ (¬ v2 = 0 → (v2 = 3 → M_lay_p34 Q v1 v2 v3 I) ∧ (¬ v2 = 3 → (¬ v2 = 1 → M_lay_p22 Q v1 v2 v3 I) ∧ (v2 = 1 → M_isClock v3 I (fun r_4 I_5 => (¬ r_4 = 0 → M_lay_p34 Q v1 v2 v3 I_5) ∧ (r_4 = 0 → M_lay_p22 Q v1 v2 v3 I_5)))))
abbrev rmX5_lay : Room := { frames := 2, cells := 0, slots := 0, locals := 46 }
set_option maxHeartbeats 4000000 in
set_option maxRecDepth 100000 in
theorem wM_lay_L149 {p : Program} {l : Launch} {e : Env} {s : State} {m : MethodId} {args : Array Value} {below : List Frame} {meth : Method} {c : Code} {D : va_G} {cl : List vw_C} {a : Nat → Nat} {d : ClassId} {A : Nat → Prop} {Q : Int32 → St → Prop}  (F : FM p s m meth c args D cl d A cX5_lay 7 (some .int)) (v1 : Int32) (v3 : Int32) (v5 : Int32)  :
    ∀ (n : Nat) (v6 : Int32) (I : St) (H : Heap) (locs : List Loc) (ls : Array Slot), GM D cl a d A s.heap I H locs → lv_has ls 7 [(0, .ref (a 0)), (1, .int v1), (3, .int v3), (5, .int v5), (6, .int v6)] → M_lay_L149 Q v1 v3 v5 n v6 I → wMi p l e rmX5_lay s m args below meth c D cl a d A Q H locs (F0 m 149 ls []) := by
  obtain ⟨hx, hb, hr, hml, hown, hts, hlocks, hA, hK, hcl⟩ := id F
  intro n
  induction n with
  | zero => intro v6 I H locs ls G hl h; exact absurd h (fun q => q)
  | succ n ih =>
    intro v6 I H locs ls G hl h
    unfold M_lay_L149 at h
    refine lv_iload hx hb dX5_lay_149 (lv_at hl 4 rfl) ?_
    refine lv_bipush (v := 24) hx hb dX5_lay_151 (by decide) ?_
    refine lv_icmp_ge (tgt := 186) hx hb dX5_lay_153 (by decide) (fun c_32 => ?_) (fun c_32 => ?_)
    · replace h := h.1 c_32
      refine lv_iload hx hb dX5_lay_186 (lv_at hl 3 rfl) ?_
      exact m_iret F G dX5_lay_188 h
    · replace h := h.2 c_32
      refine lv_aload_n hx hb dX5_lay_156 rfl (lv_at hl 0 rfl) ?_
      refine mg_heldRow F G dX5_lay_157 ?_
      refine lv_bipush (v := 24) hx hb dX5_lay_160 (by decide) ?_
      refine lv_iload_n hx hb dX5_lay_162 rfl (lv_at hl 1 rfl) ?_
      refine lv_imul hx hb dX5_lay_163 ?_
      refine lv_iload hx hb dX5_lay_164 (lv_at hl 4 rfl) ?_
      refine lv_iadd hx hb dX5_lay_166 ?_
      refine lv_aload_n hx hb dX5_lay_167 rfl (lv_at hl 0 rfl) ?_
      refine mg_tNumber F G dX5_lay_168 ?_
      refine lv_bipush (v := 24) hx hb dX5_lay_171 (by decide) ?_
      refine lv_iload_n hx hb dX5_lay_173 rfl (lv_at hl 2 rfl) ?_
      refine lv_imul hx hb dX5_lay_174 ?_
      refine lv_iload hx hb dX5_lay_175 (lv_at hl 4 rfl) ?_
      refine lv_iadd hx hb dX5_lay_177 ?_
      obtain ⟨b_33, h⟩ := h
      refine m_ld F G mA_6 b_33 dX5_lay_178 ?_
      obtain ⟨b_34, h⟩ := h
      refine m_st F G mA_11 b_34 dX5_lay_179 (fun H locs G => ?_)
      refine lv_iinc (v := (v6 + 1)) (lv' := [(6, .int (v6 + 1)), (0, .ref (a 0)), (1, .int v1), (3, .int v3), (5, .int v5)]) hx hb dX5_lay_180 hl (k := 4) rfl rfl (by decide) rfl (fun ls hl => ?_)
      refine lv_goto (tgt := 149) hx hb dX5_lay_183 (by decide) ?_
      exact ih (v6 + 1) (sA I 11 ((24 * v1) + v6) (I 6 (((24 * v3) + v6).toNatClampNeg))) _ _ _ G (lv_sub hl [1, 2, 3, 4, 0] rfl) h
set_option maxHeartbeats 4000000 in
set_option maxRecDepth 100000 in
theorem wM_lay_p128 {p : Program} {l : Launch} {e : Env} {s : State} {m : MethodId} {args : Array Value} {below : List Frame} {meth : Method} {c : Code} {D : va_G} {cl : List vw_C} {a : Nat → Nat} {d : ClassId} {A : Nat → Prop} {Q : Int32 → St → Prop}  (F : FM p s m meth c args D cl d A cX5_lay 7 (some .int)) (v1 : Int32) (v2 : Int32) (v3 : Int32) (v5 : Int32) (t0 : Int32) (t1 : Int32) (I : St)  {H : Heap} {locs : List Loc} {ls : Array Slot} (G : GM D cl a d A s.heap I H locs) (hl : lv_has ls 7 [(0, .ref (a 0)), (1, .int v1), (2, .int v2), (3, .int v3), (5, .int v5)]) (h : M_lay_p128 Q v1 v2 v3 v5 t0 t1 I) : wMi p l e rmX5_lay s m args below meth c D cl a d A Q H locs (F0 m 128 ls [.int t0, .int t1, .ref (a 9)]) := by
  obtain ⟨hx, hb, hr, hml, hown, hts, hlocks, hA, hK, hcl⟩ := id F
  unfold M_lay_p128 at h
  obtain ⟨b_28, h⟩ := h
  refine m_st F G mA_9 b_28 dX5_lay_128 (fun H locs G => ?_)
  refine lv_iload_n hx hb dX5_lay_129 rfl (lv_at hl 2 rfl) ?_
  refine lv_iconst (v := 2) hx hb dX5_lay_130 (by decide) ?_
  refine lv_icmp_ne (tgt := 186) hx hb dX5_lay_131 (by decide) (fun c_29 => ?_) (fun c_29 => ?_)
  · replace h := h.1 c_29
    refine lv_iload hx hb dX5_lay_186 (lv_at hl 4 rfl) ?_
    exact m_iret F G dX5_lay_188 h
  · replace h := h.2 c_29
    refine lv_aload_n hx hb dX5_lay_134 rfl (lv_at hl 0 rfl) ?_
    refine mg_heldSize F G dX5_lay_135 ?_
    refine lv_iload_n hx hb dX5_lay_138 rfl (lv_at hl 1 rfl) ?_
    refine lv_aload_n hx hb dX5_lay_139 rfl (lv_at hl 0 rfl) ?_
    refine mg_tSize F G dX5_lay_140 ?_
    refine lv_iload_n hx hb dX5_lay_143 rfl (lv_at hl 3 rfl) ?_
    obtain ⟨b_30, h⟩ := h
    refine m_ld F G mA_5 b_30 dX5_lay_144 ?_
    obtain ⟨b_31, h⟩ := h
    refine m_st F G mA_10 b_31 dX5_lay_145 (fun H locs G => ?_)
    refine lv_iconst (v := 0) hx hb dX5_lay_146 (by decide) ?_
    refine lv_istore (lv' := [(6, .int 0), (0, .ref (a 0)), (1, .int v1), (2, .int v2), (3, .int v3), (5, .int v5)]) hx hb dX5_lay_147 hl (by decide) rfl (fun ls hl => ?_)
    obtain ⟨k149, h⟩ := h
    exact wM_lay_L149 F v1 v3 v5  k149 0 (sA (sA I 9 t1 t0) 10 v1 ((sA I 9 t1 t0) 5 (v3.toNatClampNeg))) _ _ _ G (lv_sub hl [1, 2, 4, 5, 0] rfl) h
set_option maxHeartbeats 4000000 in
set_option maxRecDepth 100000 in
theorem wM_lay_p108 {p : Program} {l : Launch} {e : Env} {s : State} {m : MethodId} {args : Array Value} {below : List Frame} {meth : Method} {c : Code} {D : va_G} {cl : List vw_C} {a : Nat → Nat} {d : ClassId} {A : Nat → Prop} {Q : Int32 → St → Prop}  (F : FM p s m meth c args D cl d A cX5_lay 7 (some .int)) (v1 : Int32) (v2 : Int32) (v3 : Int32) (v5 : Int32) (t0 : Int32) (t1 : Int32) (I : St)  {H : Heap} {locs : List Loc} {ls : Array Slot} (G : GM D cl a d A s.heap I H locs) (hl : lv_has ls 7 [(0, .ref (a 0)), (1, .int v1), (2, .int v2), (3, .int v3), (5, .int v5)]) (h : M_lay_p108 Q v1 v2 v3 v5 t0 t1 I) : wMi p l e rmX5_lay s m args below meth c D cl a d A Q H locs (F0 m 108 ls [.int t0, .int t1, .ref (a 8)]) := by
  obtain ⟨hx, hb, hr, hml, hown, hts, hlocks, hA, hK, hcl⟩ := id F
  unfold M_lay_p108 at h
  obtain ⟨b_24, h⟩ := h
  refine m_st F G mA_8 b_24 dX5_lay_108 (fun H locs G => ?_)
  refine lv_aload_n hx hb dX5_lay_109 rfl (lv_at hl 0 rfl) ?_
  refine mg_heldWorth F G dX5_lay_110 ?_
  refine lv_iload_n hx hb dX5_lay_113 rfl (lv_at hl 1 rfl) ?_
  refine lv_iload_n hx hb dX5_lay_114 rfl (lv_at hl 2 rfl) ?_
  refine lv_iconst (v := 1) hx hb dX5_lay_115 (by decide) ?_
  refine lv_icmp_ne (tgt := 127) hx hb dX5_lay_116 (by decide) (fun c_25 => ?_) (fun c_25 => ?_)
  · replace h := h.1 c_25
    refine lv_iconst (v := 0) hx hb dX5_lay_127 (by decide) ?_
    exact wM_lay_p128 F v1 v2 v3 v5 0 v1 (sA I 8 t1 t0)  G (lv_sub hl [0, 1, 2, 3, 4] rfl) h
  · replace h := h.2 c_25
    refine lv_aload_n hx hb dX5_lay_119 rfl (lv_at hl 0 rfl) ?_
    refine lv_iload_n hx hb dX5_lay_120 rfl (lv_at hl 3 rfl) ?_
    refine kM_worth F G hl.1 ⟨Nat.le_of_ble_eq_true rfl, Nat.le_of_ble_eq_true rfl⟩ (Nat.le_of_ble_eq_true rfl) dX5_lay_121 h (fun r_26 I_27 H locs G h => ?_)
    refine lv_goto (tgt := 128) hx hb dX5_lay_124 (by decide) ?_
    exact wM_lay_p128 F v1 v2 v3 v5 r_26 v1 I_27  G (lv_sub hl [0, 1, 2, 3, 4] rfl) h
set_option maxHeartbeats 4000000 in
set_option maxRecDepth 100000 in
theorem wM_lay_p73 {p : Program} {l : Launch} {e : Env} {s : State} {m : MethodId} {args : Array Value} {below : List Frame} {meth : Method} {c : Code} {D : va_G} {cl : List vw_C} {a : Nat → Nat} {d : ClassId} {A : Nat → Prop} {Q : Int32 → St → Prop}  (F : FM p s m meth c args D cl d A cX5_lay 7 (some .int)) (v1 : Int32) (v2 : Int32) (v3 : Int32) (I : St)  {H : Heap} {locs : List Loc} {ls : Array Slot} (G : GM D cl a d A s.heap I H locs) (hl : lv_has ls 7 [(0, .ref (a 0)), (1, .int v1), (2, .int v2), (3, .int v3)]) (h : M_lay_p73 Q v1 v2 v3 I) : wMi p l e rmX5_lay s m args below meth c D cl a d A Q H locs (F0 m 73 ls []) := by
  obtain ⟨hx, hb, hr, hml, hown, hts, hlocks, hA, hK, hcl⟩ := id F
  unfold M_lay_p73 at h
  refine lv_aload_n hx hb dX5_lay_73 rfl (lv_at hl 0 rfl) ?_
  refine mg_held F G dX5_lay_74 ?_
  refine lv_iload_n hx hb dX5_lay_77 rfl (lv_at hl 1 rfl) ?_
  obtain ⟨b_18, h⟩ := h
  refine m_ld F G mA_7 b_18 dX5_lay_78 ?_
  refine lv_topi (fun x_19 ex_19 => ?_)
  replace h := h x_19 ex_19
  refine lv_istore (lv' := [(5, .int x_19), (0, .ref (a 0)), (1, .int v1), (2, .int v2), (3, .int v3)]) hx hb dX5_lay_79 hl (by decide) rfl (fun ls hl => ?_)
  refine lv_aload_n hx hb dX5_lay_81 rfl (lv_at hl 1 rfl) ?_
  refine mg_held F G dX5_lay_82 ?_
  refine lv_iload_n hx hb dX5_lay_85 rfl (lv_at hl 2 rfl) ?_
  refine lv_iload_n hx hb dX5_lay_86 rfl (lv_at hl 3 rfl) ?_
  obtain ⟨b_20, h⟩ := h
  refine m_st F G mA_7 b_20 dX5_lay_87 (fun H locs G => ?_)
  refine lv_aload_n hx hb dX5_lay_88 rfl (lv_at hl 1 rfl) ?_
  refine mg_heldNumber F G dX5_lay_89 ?_
  refine lv_iload_n hx hb dX5_lay_92 rfl (lv_at hl 2 rfl) ?_
  refine lv_iload_n hx hb dX5_lay_93 rfl (lv_at hl 3 rfl) ?_
  refine lv_iconst (v := 1) hx hb dX5_lay_94 (by decide) ?_
  refine lv_icmp_ne (tgt := 107) hx hb dX5_lay_95 (by decide) (fun c_21 => ?_) (fun c_21 => ?_)
  · replace h := h.1 c_21
    refine lv_iload_n hx hb dX5_lay_107 rfl (lv_at hl 4 rfl) ?_
    exact wM_lay_p108 F v1 v2 v3 x_19 v3 v1 (sA I 7 v1 v2)  G (lv_sub hl [1, 2, 3, 4, 0] rfl) h
  · replace h := h.2 c_21
    refine lv_aload_n hx hb dX5_lay_98 rfl (lv_at hl 1 rfl) ?_
    refine lv_iload_n hx hb dX5_lay_99 rfl (lv_at hl 4 rfl) ?_
    refine lv_iconst (v := 0) hx hb dX5_lay_100 (by decide) ?_
    refine kM_of F G hl.1 ⟨Nat.le_of_ble_eq_true rfl, Nat.le_of_ble_eq_true rfl⟩ (Nat.le_of_ble_eq_true rfl) dX5_lay_101 h (fun r_22 I_23 H locs G h => ?_)
    refine lv_goto (tgt := 108) hx hb dX5_lay_104 (by decide) ?_
    exact wM_lay_p108 F v1 v2 v3 x_19 r_22 v1 I_23  G (lv_sub hl [1, 2, 3, 4, 0] rfl) h
set_option maxHeartbeats 4000000 in
set_option maxRecDepth 100000 in
theorem wM_lay_p39 {p : Program} {l : Launch} {e : Env} {s : State} {m : MethodId} {args : Array Value} {below : List Frame} {meth : Method} {c : Code} {D : va_G} {cl : List vw_C} {a : Nat → Nat} {d : ClassId} {A : Nat → Prop} {Q : Int32 → St → Prop}  (F : FM p s m meth c args D cl d A cX5_lay 7 (some .int)) (v1 : Int32) (v2 : Int32) (v3 : Int32) (t0 : Int32) (I : St)  {H : Heap} {locs : List Loc} {ls : Array Slot} (G : GM D cl a d A s.heap I H locs) (hl : lv_has ls 7 [(0, .ref (a 0)), (1, .int v1), (2, .int v2), (3, .int v3)]) (h : M_lay_p39 Q v1 v2 v3 t0 I) : wMi p l e rmX5_lay s m args below meth c D cl a d A Q H locs (F0 m 39 ls [.int t0]) := by
  obtain ⟨hx, hb, hr, hml, hown, hts, hlocks, hA, hK, hcl⟩ := id F
  unfold M_lay_p39 at h
  refine lv_istore (lv' := [(4, .int t0), (0, .ref (a 0)), (1, .int v1), (2, .int v2), (3, .int v3)]) hx hb dX5_lay_39 hl (by decide) rfl (fun ls hl => ?_)
  refine lv_iload_n hx hb dX5_lay_41 rfl (lv_at hl 2 rfl) ?_
  refine kM_isSlot F G hl.1 ⟨Nat.le_of_ble_eq_true rfl, Nat.le_of_ble_eq_true rfl⟩ (Nat.le_of_ble_eq_true rfl) dX5_lay_42 h (fun r_11 I_12 H locs G h => ?_)
  refine lv_if_eq (tgt := 53) hx hb dX5_lay_45 (by decide) (fun c_13 => ?_) (fun c_13 => ?_)
  · replace h := h.1 c_13
    refine lv_ldc hx hb hown (hts _ q1296) dX5_lay_53 ?_
    exact m_iret F G dX5_lay_55 h
  · replace h := h.2 c_13
    refine lv_iload hx hb dX5_lay_48 (lv_at hl 0 rfl) ?_
    refine lv_if_ne (tgt := 56) hx hb dX5_lay_50 (by decide) (fun c_14 => ?_) (fun c_14 => ?_)
    · replace h := h.1 c_14
      refine lv_iload_n hx hb dX5_lay_56 rfl (lv_at hl 3 rfl) ?_
      refine lv_iconst (v := 2) hx hb dX5_lay_57 (by decide) ?_
      refine lv_icmp_ne (tgt := 73) hx hb dX5_lay_58 (by decide) (fun c_15 => ?_) (fun c_15 => ?_)
      · replace h := h.1 c_15
        exact wM_lay_p73 F v1 v2 v3 I_12  G (lv_sub hl [1, 2, 3, 4] rfl) h
      · replace h := h.2 c_15
        refine lv_aload_n hx hb dX5_lay_61 rfl (lv_at hl 1 rfl) ?_
        refine mg_tSort F G dX5_lay_62 ?_
        refine lv_iload_n hx hb dX5_lay_65 rfl (lv_at hl 4 rfl) ?_
        obtain ⟨b_16, h⟩ := h
        refine m_ld F G mA_4 b_16 dX5_lay_66 ?_
        refine lv_if_ge (tgt := 73) hx hb dX5_lay_67 (by decide) (fun c_17 => ?_) (fun c_17 => ?_)
        · replace h := h.1 c_17
          exact wM_lay_p73 F v1 v2 v3 I_12  G (lv_sub hl [1, 2, 3, 4] rfl) h
        · replace h := h.2 c_17
          refine lv_ldc hx hb hown (hts _ q1491) dX5_lay_70 ?_
          exact m_iret F G dX5_lay_72 h
    · replace h := h.2 c_14
      refine lv_ldc hx hb hown (hts _ q1296) dX5_lay_53 ?_
      exact m_iret F G dX5_lay_55 h
set_option maxHeartbeats 4000000 in
set_option maxRecDepth 100000 in
theorem wM_lay_p38 {p : Program} {l : Launch} {e : Env} {s : State} {m : MethodId} {args : Array Value} {below : List Frame} {meth : Method} {c : Code} {D : va_G} {cl : List vw_C} {a : Nat → Nat} {d : ClassId} {A : Nat → Prop} {Q : Int32 → St → Prop}  (F : FM p s m meth c args D cl d A cX5_lay 7 (some .int)) (v1 : Int32) (v2 : Int32) (v3 : Int32) (I : St)  {H : Heap} {locs : List Loc} {ls : Array Slot} (G : GM D cl a d A s.heap I H locs) (hl : lv_has ls 7 [(0, .ref (a 0)), (1, .int v1), (2, .int v2), (3, .int v3)]) (h : M_lay_p38 Q v1 v2 v3 I) : wMi p l e rmX5_lay s m args below meth c D cl a d A Q H locs (F0 m 38 ls []) := by
  obtain ⟨hx, hb, hr, hml, hown, hts, hlocks, hA, hK, hcl⟩ := id F
  unfold M_lay_p38 at h
  refine lv_iconst (v := 0) hx hb dX5_lay_38 (by decide) ?_
  exact wM_lay_p39 F v1 v2 v3 0 I  G (lv_sub hl [0, 1, 2, 3] rfl) h
set_option maxHeartbeats 4000000 in
set_option maxRecDepth 100000 in
theorem wM_lay_p34 {p : Program} {l : Launch} {e : Env} {s : State} {m : MethodId} {args : Array Value} {below : List Frame} {meth : Method} {c : Code} {D : va_G} {cl : List vw_C} {a : Nat → Nat} {d : ClassId} {A : Nat → Prop} {Q : Int32 → St → Prop}  (F : FM p s m meth c args D cl d A cX5_lay 7 (some .int)) (v1 : Int32) (v2 : Int32) (v3 : Int32) (I : St)  {H : Heap} {locs : List Loc} {ls : Array Slot} (G : GM D cl a d A s.heap I H locs) (hl : lv_has ls 7 [(0, .ref (a 0)), (1, .int v1), (2, .int v2), (3, .int v3)]) (h : M_lay_p34 Q v1 v2 v3 I) : wMi p l e rmX5_lay s m args below meth c D cl a d A Q H locs (F0 m 34 ls []) := by
  obtain ⟨hx, hb, hr, hml, hown, hts, hlocks, hA, hK, hcl⟩ := id F
  unfold M_lay_p34 at h
  refine lv_iconst (v := 1) hx hb dX5_lay_34 (by decide) ?_
  refine lv_goto (tgt := 39) hx hb dX5_lay_35 (by decide) ?_
  exact wM_lay_p39 F v1 v2 v3 1 I  G (lv_sub hl [0, 1, 2, 3] rfl) h
set_option maxHeartbeats 4000000 in
set_option maxRecDepth 100000 in
theorem wM_lay_p22 {p : Program} {l : Launch} {e : Env} {s : State} {m : MethodId} {args : Array Value} {below : List Frame} {meth : Method} {c : Code} {D : va_G} {cl : List vw_C} {a : Nat → Nat} {d : ClassId} {A : Nat → Prop} {Q : Int32 → St → Prop}  (F : FM p s m meth c args D cl d A cX5_lay 7 (some .int)) (v1 : Int32) (v2 : Int32) (v3 : Int32) (I : St)  {H : Heap} {locs : List Loc} {ls : Array Slot} (G : GM D cl a d A s.heap I H locs) (hl : lv_has ls 7 [(0, .ref (a 0)), (1, .int v1), (2, .int v2), (3, .int v3)]) (h : M_lay_p22 Q v1 v2 v3 I) : wMi p l e rmX5_lay s m args below meth c D cl a d A Q H locs (F0 m 22 ls []) := by
  obtain ⟨hx, hb, hr, hml, hown, hts, hlocks, hA, hK, hcl⟩ := id F
  unfold M_lay_p22 at h
  refine lv_iload_n hx hb dX5_lay_22 rfl (lv_at hl 2 rfl) ?_
  refine lv_iconst (v := 2) hx hb dX5_lay_23 (by decide) ?_
  refine lv_icmp_ne (tgt := 38) hx hb dX5_lay_24 (by decide) (fun c_7 => ?_) (fun c_7 => ?_)
  · replace h := h.1 c_7
    exact wM_lay_p38 F v1 v2 v3 I  G (lv_sub hl [0, 1, 2, 3] rfl) h
  · replace h := h.2 c_7
    refine lv_iload_n hx hb dX5_lay_27 rfl (lv_at hl 3 rfl) ?_
    refine kM_isSheet F G hl.1 ⟨Nat.le_of_ble_eq_true rfl, Nat.le_of_ble_eq_true rfl⟩ (Nat.le_of_ble_eq_true rfl) dX5_lay_28 h (fun r_8 I_9 H locs G h => ?_)
    refine lv_if_eq (tgt := 38) hx hb dX5_lay_31 (by decide) (fun c_10 => ?_) (fun c_10 => ?_)
    · replace h := h.1 c_10
      exact wM_lay_p38 F v1 v2 v3 I_9  G (lv_sub hl [0, 1, 2, 3] rfl) h
    · replace h := h.2 c_10
      exact wM_lay_p34 F v1 v2 v3 I_9  G (lv_sub hl [0, 1, 2, 3] rfl) h
set_option maxHeartbeats 4000000 in
set_option maxRecDepth 100000 in
theorem wM_lay {l : Launch} {D : va_G} {cl : List vw_C} {a : Nat → Nat} {d : ClassId} (hcl : cl[5]? = some (RX5, TX5, 32)) (sz : Nat) (v1 : Int32) (v2 : Int32) (v3 : Int32) (I : St) (Q : Int32 → St → Prop) (h : M_lay v1 v2 v3 I Q) : MMi l D cl a d yX5_lay cX5_lay 7 .int rmX5_lay [.ref (a 0), .int v1, .int v2, .int v3] sz I Q := by
  refine m_enter (Qc := fun A => va_Qi Q (BM D cl a d A) A) hcl (by decide) rfl (Nat.le_of_ble_eq_true rfl) ?_
  intro p e s m below meth c ls A F hG hl
  have G := hG
  have hl : lv_has ls 7 [(0, .ref (a 0)), (1, .int v1), (2, .int v2), (3, .int v3)] := hl
  obtain ⟨hx, hb, hr, hml, hown, hts, hlocks, hA, hK, hcl⟩ := id F
  unfold M_lay at h
  refine lv_iload_n hx hb dX5_lay_0 rfl (lv_at hl 2 rfl) ?_
  refine lv_if_eq (tgt := 34) hx hb dX5_lay_1 (by decide) (fun c_1 => ?_) (fun c_1 => ?_)
  · replace h := h.1 c_1
    exact wM_lay_p34 F v1 v2 v3 I  G (lv_sub hl [0, 1, 2, 3] rfl) h
  · replace h := h.2 c_1
    refine lv_iload_n hx hb dX5_lay_4 rfl (lv_at hl 2 rfl) ?_
    refine lv_iconst (v := 3) hx hb dX5_lay_5 (by decide) ?_
    refine lv_icmp_eq (tgt := 34) hx hb dX5_lay_6 (by decide) (fun c_2 => ?_) (fun c_2 => ?_)
    · replace h := h.1 c_2
      exact wM_lay_p34 F v1 v2 v3 I  G (lv_sub hl [0, 1, 2, 3] rfl) h
    · replace h := h.2 c_2
      refine lv_iload_n hx hb dX5_lay_9 rfl (lv_at hl 2 rfl) ?_
      refine lv_iconst (v := 1) hx hb dX5_lay_10 (by decide) ?_
      refine lv_icmp_ne (tgt := 22) hx hb dX5_lay_11 (by decide) (fun c_3 => ?_) (fun c_3 => ?_)
      · replace h := h.1 c_3
        exact wM_lay_p22 F v1 v2 v3 I  G (lv_sub hl [0, 1, 2, 3] rfl) h
      · replace h := h.2 c_3
        refine lv_aload_n hx hb dX5_lay_14 rfl (lv_at hl 0 rfl) ?_
        refine lv_iload_n hx hb dX5_lay_15 rfl (lv_at hl 3 rfl) ?_
        refine kM_isClock F G hl.1 ⟨Nat.le_of_ble_eq_true rfl, Nat.le_of_ble_eq_true rfl⟩ (Nat.le_of_ble_eq_true rfl) dX5_lay_16 h (fun r_4 I_5 H locs G h => ?_)
        refine lv_if_ne (tgt := 34) hx hb dX5_lay_19 (by decide) (fun c_6 => ?_) (fun c_6 => ?_)
        · replace h := h.1 c_6
          exact wM_lay_p34 F v1 v2 v3 I_5  G (lv_sub hl [0, 1, 2, 3] rfl) h
        · replace h := h.2 c_6
          exact wM_lay_p22 F v1 v2 v3 I_5  G (lv_sub hl [0, 1, 2, 3] rfl) h

/-! ask -/
def M_ask (v1 : Int32) (v2 : Int32) (I : St) (Q : Int32 → St → Prop) : Prop := M_isSlot v1 I (fun r_1 I_2 => (r_1 = 0 → Q (-1000000001) I_2) ∧ (¬ r_1 = 0 → M_isIn v2.toInt64 0 5 I_2 (fun r_4 I_5 => (¬ r_4 = 0 → vp_in v1 5 ∧ ((¬ (I_5 7 (v1.toNatClampNeg)) = 0 → vp_in v1 5 ∧ ((¬ (I_5 7 (v1.toNatClampNeg)) = 1 → Q (-1000000012) I_5) ∧ ((I_5 7 (v1.toNatClampNeg)) = 1 → vp_in v1 5 ∧ (M_isOf (I_5 8 (v1.toNatClampNeg)) v2 I_5 (fun r_12 I_13 => (r_12 = 0 → Q (-1000000012) I_13) ∧ (¬ r_12 = 0 → vp_in v1 5 ∧ (Q (I_13 9 (v1.toNatClampNeg)) I_13))))))) ∧ ((I_5 7 (v1.toNatClampNeg)) = 0 → Q (-1000000011) I_5))) ∧ (r_4 = 0 → Q (-1000000001) I_5))))
abbrev rmX5_ask : Room := { frames := 2, cells := 0, slots := 0, locals := 45 }
set_option maxHeartbeats 4000000 in
set_option maxRecDepth 100000 in
theorem wM_ask {l : Launch} {D : va_G} {cl : List vw_C} {a : Nat → Nat} {d : ClassId} (hcl : cl[5]? = some (RX5, TX5, 32)) (sz : Nat) (v1 : Int32) (v2 : Int32) (I : St) (Q : Int32 → St → Prop) (h : M_ask v1 v2 I Q) : MMi l D cl a d yX5_ask cX5_ask 3 .int rmX5_ask [.ref (a 0), .int v1, .int v2] sz I Q := by
  refine m_enter (Qc := fun A => va_Qi Q (BM D cl a d A) A) hcl (by decide) rfl (Nat.le_of_ble_eq_true rfl) ?_
  intro p e s m below meth c ls A F hG hl
  have G := hG
  have hl : lv_has ls 3 [(0, .ref (a 0)), (1, .int v1), (2, .int v2)] := hl
  obtain ⟨hx, hb, hr, hml, hown, hts, hlocks, hA, hK, hcl⟩ := id F
  unfold M_ask at h
  refine lv_iload_n hx hb dX5_ask_0 rfl (lv_at hl 1 rfl) ?_
  refine kM_isSlot F G hl.1 ⟨Nat.le_of_ble_eq_true rfl, Nat.le_of_ble_eq_true rfl⟩ (Nat.le_of_ble_eq_true rfl) dX5_ask_1 h (fun r_1 I_2 H locs G h => ?_)
  refine lv_if_eq (tgt := 19) hx hb dX5_ask_4 (by decide) (fun c_3 => ?_) (fun c_3 => ?_)
  · replace h := h.1 c_3
    refine lv_ldc hx hb hown (hts _ q1296) dX5_ask_19 ?_
    exact m_iret F G dX5_ask_21 h
  · replace h := h.2 c_3
    refine lv_iload_n hx hb dX5_ask_7 rfl (lv_at hl 2 rfl) ?_
    refine lv_i2l (v := v2.toInt64) hx hb dX5_ask_8 rfl ?_
    refine lv_lconst (v := 0) hx hb dX5_ask_9 (by decide) ?_
    refine lv_ldc2 hx hb hown (hts _ q1290) dX5_ask_10 ?_
    refine kM_isIn F G hl.1 ⟨Nat.le_of_ble_eq_true rfl, Nat.le_of_ble_eq_true rfl⟩ (Nat.le_of_ble_eq_true rfl) dX5_ask_13 h (fun r_4 I_5 H locs G h => ?_)
    refine lv_if_ne (tgt := 22) hx hb dX5_ask_16 (by decide) (fun c_6 => ?_) (fun c_6 => ?_)
    · replace h := h.1 c_6
      refine lv_aload_n hx hb dX5_ask_22 rfl (lv_at hl 0 rfl) ?_
      refine mg_held F G dX5_ask_23 ?_
      refine lv_iload_n hx hb dX5_ask_26 rfl (lv_at hl 1 rfl) ?_
      obtain ⟨b_7, h⟩ := h
      refine m_ld F G mA_7 b_7 dX5_ask_27 ?_
      refine lv_if_ne (tgt := 34) hx hb dX5_ask_28 (by decide) (fun c_8 => ?_) (fun c_8 => ?_)
      · replace h := h.1 c_8
        refine lv_aload_n hx hb dX5_ask_34 rfl (lv_at hl 0 rfl) ?_
        refine mg_held F G dX5_ask_35 ?_
        refine lv_iload_n hx hb dX5_ask_38 rfl (lv_at hl 1 rfl) ?_
        obtain ⟨b_9, h⟩ := h
        refine m_ld F G mA_7 b_9 dX5_ask_39 ?_
        refine lv_iconst (v := 1) hx hb dX5_ask_40 (by decide) ?_
        refine lv_icmp_ne (tgt := 66) hx hb dX5_ask_41 (by decide) (fun c_10 => ?_) (fun c_10 => ?_)
        · replace h := h.1 c_10
          refine lv_ldc hx hb hown (hts _ q1360) dX5_ask_66 ?_
          exact m_iret F G dX5_ask_68 h
        · replace h := h.2 c_10
          refine lv_aload_n hx hb dX5_ask_44 rfl (lv_at hl 0 rfl) ?_
          refine mg_heldNumber F G dX5_ask_45 ?_
          refine lv_iload_n hx hb dX5_ask_48 rfl (lv_at hl 1 rfl) ?_
          obtain ⟨b_11, h⟩ := h
          refine m_ld F G mA_8 b_11 dX5_ask_49 ?_
          refine lv_iload_n hx hb dX5_ask_50 rfl (lv_at hl 2 rfl) ?_
          refine kM_isOf F G hl.1 ⟨Nat.le_of_ble_eq_true rfl, Nat.le_of_ble_eq_true rfl⟩ (Nat.le_of_ble_eq_true rfl) dX5_ask_51 h (fun r_12 I_13 H locs G h => ?_)
          refine lv_if_eq (tgt := 66) hx hb dX5_ask_54 (by decide) (fun c_14 => ?_) (fun c_14 => ?_)
          · replace h := h.1 c_14
            refine lv_ldc hx hb hown (hts _ q1360) dX5_ask_66 ?_
            exact m_iret F G dX5_ask_68 h
          · replace h := h.2 c_14
            refine lv_aload_n hx hb dX5_ask_57 rfl (lv_at hl 0 rfl) ?_
            refine mg_heldWorth F G dX5_ask_58 ?_
            refine lv_iload_n hx hb dX5_ask_61 rfl (lv_at hl 1 rfl) ?_
            obtain ⟨b_15, h⟩ := h
            refine m_ld F G mA_9 b_15 dX5_ask_62 ?_
            refine lv_goto (tgt := 68) hx hb dX5_ask_63 (by decide) ?_
            exact m_iret F G dX5_ask_68 h
      · replace h := h.2 c_8
        refine lv_ldc hx hb hown (hts _ q1491) dX5_ask_31 ?_
        exact m_iret F G dX5_ask_33 h
    · replace h := h.2 c_6
      refine lv_ldc hx hb hown (hts _ q1296) dX5_ask_19 ?_
      exact m_iret F G dX5_ask_21 h

/-! item -/
def M_item (v1 : Int32) (v2 : Int32) (I : St) (Q : Int32 → St → Prop) : Prop := M_isSlot v1 I (fun r_1 I_2 => (¬ r_1 = 0 → vp_in v1 5 ∧ (((I_2 7 (v1.toNatClampNeg)) = 2 → vp_in v1 5 ∧ (M_isIn v2.toInt64 0 (((I_2 10 (v1.toNatClampNeg)) - 1).toInt64) I_2 (fun r_7 I_8 => (¬ r_7 = 0 → vp_in ((24 * v1) + v2) 120 ∧ (∀ x_11 : Int32, x_11 = (I_8 11 (((24 * v1) + v2).toNatClampNeg)) → (¬ x_11 = (-1000000005) → Q x_11 I_8) ∧ (x_11 = (-1000000005) → Q (-1000000012) I_8))) ∧ (r_7 = 0 → Q (-1000000013) I_8)))) ∧ (¬ (I_2 7 (v1.toNatClampNeg)) = 2 → vp_in v1 5 ∧ ((¬ (I_2 7 (v1.toNatClampNeg)) = 0 → Q (-1000000012) I_2) ∧ ((I_2 7 (v1.toNatClampNeg)) = 0 → Q (-1000000011) I_2))))) ∧ (r_1 = 0 → Q (-1000000001) I_2))
abbrev rmX5_item : Room := { frames := 2, cells := 0, slots := 0, locals := 45 }
set_option maxHeartbeats 4000000 in
set_option maxRecDepth 100000 in
theorem wM_item {l : Launch} {D : va_G} {cl : List vw_C} {a : Nat → Nat} {d : ClassId} (hcl : cl[5]? = some (RX5, TX5, 32)) (sz : Nat) (v1 : Int32) (v2 : Int32) (I : St) (Q : Int32 → St → Prop) (h : M_item v1 v2 I Q) : MMi l D cl a d yX5_item cX5_item 4 .int rmX5_item [.ref (a 0), .int v1, .int v2] sz I Q := by
  refine m_enter (Qc := fun A => va_Qi Q (BM D cl a d A) A) hcl (by decide) rfl (Nat.le_of_ble_eq_true rfl) ?_
  intro p e s m below meth c ls A F hG hl
  have G := hG
  have hl : lv_has ls 4 [(0, .ref (a 0)), (1, .int v1), (2, .int v2)] := hl
  obtain ⟨hx, hb, hr, hml, hown, hts, hlocks, hA, hK, hcl⟩ := id F
  unfold M_item at h
  refine lv_iload_n hx hb dX5_item_0 rfl (lv_at hl 1 rfl) ?_
  refine kM_isSlot F G hl.1 ⟨Nat.le_of_ble_eq_true rfl, Nat.le_of_ble_eq_true rfl⟩ (Nat.le_of_ble_eq_true rfl) dX5_item_1 h (fun r_1 I_2 H locs G h => ?_)
  refine lv_if_ne (tgt := 10) hx hb dX5_item_4 (by decide) (fun c_3 => ?_) (fun c_3 => ?_)
  · replace h := h.1 c_3
    refine lv_aload_n hx hb dX5_item_10 rfl (lv_at hl 0 rfl) ?_
    refine mg_held F G dX5_item_11 ?_
    refine lv_iload_n hx hb dX5_item_14 rfl (lv_at hl 1 rfl) ?_
    obtain ⟨b_4, h⟩ := h
    refine m_ld F G mA_7 b_4 dX5_item_15 ?_
    refine lv_iconst (v := 2) hx hb dX5_item_16 (by decide) ?_
    refine lv_icmp_eq (tgt := 37) hx hb dX5_item_17 (by decide) (fun c_5 => ?_) (fun c_5 => ?_)
    · replace h := h.1 c_5
      refine lv_iload_n hx hb dX5_item_37 rfl (lv_at hl 2 rfl) ?_
      refine lv_i2l (v := v2.toInt64) hx hb dX5_item_38 rfl ?_
      refine lv_lconst (v := 0) hx hb dX5_item_39 (by decide) ?_
      refine lv_aload_n hx hb dX5_item_40 rfl (lv_at hl 0 rfl) ?_
      refine mg_heldSize F G dX5_item_41 ?_
      refine lv_iload_n hx hb dX5_item_44 rfl (lv_at hl 1 rfl) ?_
      obtain ⟨b_6, h⟩ := h
      refine m_ld F G mA_10 b_6 dX5_item_45 ?_
      refine lv_iconst (v := 1) hx hb dX5_item_46 (by decide) ?_
      refine lv_isub hx hb dX5_item_47 ?_
      refine lv_i2l (v := ((I_2 10 (v1.toNatClampNeg)) - 1).toInt64) hx hb dX5_item_48 rfl ?_
      refine kM_isIn F G hl.1 ⟨Nat.le_of_ble_eq_true rfl, Nat.le_of_ble_eq_true rfl⟩ (Nat.le_of_ble_eq_true rfl) dX5_item_49 h (fun r_7 I_8 H locs G h => ?_)
      refine lv_if_ne (tgt := 59) hx hb dX5_item_52 (by decide) (fun c_9 => ?_) (fun c_9 => ?_)
      · replace h := h.1 c_9
        refine lv_aload_n hx hb dX5_item_59 rfl (lv_at hl 0 rfl) ?_
        refine mg_heldRow F G dX5_item_60 ?_
        refine lv_bipush (v := 24) hx hb dX5_item_63 (by decide) ?_
        refine lv_iload_n hx hb dX5_item_65 rfl (lv_at hl 1 rfl) ?_
        refine lv_imul hx hb dX5_item_66 ?_
        refine lv_iload_n hx hb dX5_item_67 rfl (lv_at hl 2 rfl) ?_
        refine lv_iadd hx hb dX5_item_68 ?_
        obtain ⟨b_10, h⟩ := h
        refine m_ld F G mA_11 b_10 dX5_item_69 ?_
        refine lv_topi (fun x_11 ex_11 => ?_)
        replace h := h x_11 ex_11
        refine lv_istore_n (lv' := [(3, .int x_11), (0, .ref (a 0)), (1, .int v1), (2, .int v2)]) hx hb dX5_item_70 rfl hl (by decide) rfl (fun ls hl => ?_)
        refine lv_iload_n hx hb dX5_item_71 rfl (lv_at hl 0 rfl) ?_
        refine lv_ldc hx hb hown (hts _ q1431) dX5_item_72 ?_
        refine lv_icmp_ne (tgt := 82) hx hb dX5_item_74 (by decide) (fun c_12 => ?_) (fun c_12 => ?_)
        · replace h := h.1 c_12
          refine lv_iload_n hx hb dX5_item_82 rfl (lv_at hl 0 rfl) ?_
          exact m_iret F G dX5_item_83 h
        · replace h := h.2 c_12
          refine lv_ldc hx hb hown (hts _ q1360) dX5_item_77 ?_
          refine lv_goto (tgt := 83) hx hb dX5_item_79 (by decide) ?_
          exact m_iret F G dX5_item_83 h
      · replace h := h.2 c_9
        refine lv_ldcw hx hb hown (hts _ q1627) dX5_item_55 ?_
        exact m_iret F G dX5_item_58 h
    · replace h := h.2 c_5
      refine lv_aload_n hx hb dX5_item_20 rfl (lv_at hl 0 rfl) ?_
      refine mg_held F G dX5_item_21 ?_
      refine lv_iload_n hx hb dX5_item_24 rfl (lv_at hl 1 rfl) ?_
      obtain ⟨b_13, h⟩ := h
      refine m_ld F G mA_7 b_13 dX5_item_25 ?_
      refine lv_if_ne (tgt := 34) hx hb dX5_item_26 (by decide) (fun c_14 => ?_) (fun c_14 => ?_)
      · replace h := h.1 c_14
        refine lv_ldc hx hb hown (hts _ q1360) dX5_item_34 ?_
        exact m_iret F G dX5_item_36 h
      · replace h := h.2 c_14
        refine lv_ldc hx hb hown (hts _ q1491) dX5_item_29 ?_
        refine lv_goto (tgt := 36) hx hb dX5_item_31 (by decide) ?_
        exact m_iret F G dX5_item_36 h
  · replace h := h.2 c_3
    refine lv_ldc hx hb hown (hts _ q1296) dX5_item_7 ?_
    exact m_iret F G dX5_item_9 h

/-! rest -/
def M_rest (v1 : Int32) (v2 : Int32) (I : St) (Q : Int32 → St → Prop) : Prop := M_isSlot v1 I (fun r_1 I_2 => (¬ r_1 = 0 → vp_in v1 5 ∧ (((I_2 7 (v1.toNatClampNeg)) = 3 → (¬ v2 = 0 → vp_in v1 5 ∧ (¬ v2 = 0 ∧ (Q ((I_2 8 (v1.toNatClampNeg)) - (I_2 8 (v1.toNatClampNeg)) / v2 * v2) I_2))) ∧ (v2 = 0 → Q (-1000000002) I_2)) ∧ (¬ (I_2 7 (v1.toNatClampNeg)) = 3 → vp_in v1 5 ∧ ((¬ (I_2 7 (v1.toNatClampNeg)) = 0 → Q (-1000000012) I_2) ∧ ((I_2 7 (v1.toNatClampNeg)) = 0 → Q (-1000000011) I_2))))) ∧ (r_1 = 0 → Q (-1000000001) I_2))
abbrev rmX5_rest : Room := { frames := 2, cells := 0, slots := 0, locals := 45 }
set_option maxHeartbeats 4000000 in
set_option maxRecDepth 100000 in
theorem wM_rest {l : Launch} {D : va_G} {cl : List vw_C} {a : Nat → Nat} {d : ClassId} (hcl : cl[5]? = some (RX5, TX5, 32)) (sz : Nat) (v1 : Int32) (v2 : Int32) (I : St) (Q : Int32 → St → Prop) (h : M_rest v1 v2 I Q) : MMi l D cl a d yX5_rest cX5_rest 3 .int rmX5_rest [.ref (a 0), .int v1, .int v2] sz I Q := by
  refine m_enter (Qc := fun A => va_Qi Q (BM D cl a d A) A) hcl (by decide) rfl (Nat.le_of_ble_eq_true rfl) ?_
  intro p e s m below meth c ls A F hG hl
  have G := hG
  have hl : lv_has ls 3 [(0, .ref (a 0)), (1, .int v1), (2, .int v2)] := hl
  obtain ⟨hx, hb, hr, hml, hown, hts, hlocks, hA, hK, hcl⟩ := id F
  unfold M_rest at h
  refine lv_iload_n hx hb dX5_rest_0 rfl (lv_at hl 1 rfl) ?_
  refine kM_isSlot F G hl.1 ⟨Nat.le_of_ble_eq_true rfl, Nat.le_of_ble_eq_true rfl⟩ (Nat.le_of_ble_eq_true rfl) dX5_rest_1 h (fun r_1 I_2 H locs G h => ?_)
  refine lv_if_ne (tgt := 10) hx hb dX5_rest_4 (by decide) (fun c_3 => ?_) (fun c_3 => ?_)
  · replace h := h.1 c_3
    refine lv_aload_n hx hb dX5_rest_10 rfl (lv_at hl 0 rfl) ?_
    refine mg_held F G dX5_rest_11 ?_
    refine lv_iload_n hx hb dX5_rest_14 rfl (lv_at hl 1 rfl) ?_
    obtain ⟨b_4, h⟩ := h
    refine m_ld F G mA_7 b_4 dX5_rest_15 ?_
    refine lv_iconst (v := 3) hx hb dX5_rest_16 (by decide) ?_
    refine lv_icmp_eq (tgt := 37) hx hb dX5_rest_17 (by decide) (fun c_5 => ?_) (fun c_5 => ?_)
    · replace h := h.1 c_5
      refine lv_iload_n hx hb dX5_rest_37 rfl (lv_at hl 2 rfl) ?_
      refine lv_if_ne (tgt := 47) hx hb dX5_rest_38 (by decide) (fun c_6 => ?_) (fun c_6 => ?_)
      · replace h := h.1 c_6
        refine lv_aload_n hx hb dX5_rest_47 rfl (lv_at hl 0 rfl) ?_
        refine mg_heldNumber F G dX5_rest_48 ?_
        refine lv_iload_n hx hb dX5_rest_51 rfl (lv_at hl 1 rfl) ?_
        obtain ⟨b_7, h⟩ := h
        refine m_ld F G mA_8 b_7 dX5_rest_52 ?_
        refine lv_iload_n hx hb dX5_rest_53 rfl (lv_at hl 2 rfl) ?_
        obtain ⟨z_8, h⟩ := h
        refine lv_irem hx hb dX5_rest_54 z_8 ?_
        exact m_iret F G dX5_rest_55 h
      · replace h := h.2 c_6
        refine lv_ldcw hx hb hown (hts _ q1665) dX5_rest_41 ?_
        refine lv_goto (tgt := 55) hx hb dX5_rest_44 (by decide) ?_
        exact m_iret F G dX5_rest_55 h
    · replace h := h.2 c_5
      refine lv_aload_n hx hb dX5_rest_20 rfl (lv_at hl 0 rfl) ?_
      refine mg_held F G dX5_rest_21 ?_
      refine lv_iload_n hx hb dX5_rest_24 rfl (lv_at hl 1 rfl) ?_
      obtain ⟨b_9, h⟩ := h
      refine m_ld F G mA_7 b_9 dX5_rest_25 ?_
      refine lv_if_ne (tgt := 34) hx hb dX5_rest_26 (by decide) (fun c_10 => ?_) (fun c_10 => ?_)
      · replace h := h.1 c_10
        refine lv_ldc hx hb hown (hts _ q1360) dX5_rest_34 ?_
        exact m_iret F G dX5_rest_36 h
      · replace h := h.2 c_10
        refine lv_ldc hx hb hown (hts _ q1491) dX5_rest_29 ?_
        refine lv_goto (tgt := 36) hx hb dX5_rest_31 (by decide) ?_
        exact m_iret F G dX5_rest_36 h
  · replace h := h.2 c_3
    refine lv_ldc hx hb hown (hts _ q1296) dX5_rest_7 ?_
    exact m_iret F G dX5_rest_9 h

/-! tell -/
def M_tell (v1 : Int32) (I : St) (Q : Int32 → St → Prop) : Prop := (¬ (I 0 30) = 60 → vp_in (I 0 30) 60 ∧ (Q ((sF (sA I 18 (I 0 30) v1) 30 (((sA I 18 (I 0 30) v1) 0 30) + 1)) 0 30) (sF (sA I 18 (I 0 30) v1) 30 (((sA I 18 (I 0 30) v1) 0 30) + 1)))) ∧ ((I 0 30) = 60 → Q (-1000000003) I)
abbrev rmX5_tell : Room := { frames := 0, cells := 0, slots := 0, locals := 0 }
set_option maxHeartbeats 4000000 in
set_option maxRecDepth 100000 in
theorem wM_tell {l : Launch} {D : va_G} {cl : List vw_C} {a : Nat → Nat} {d : ClassId} (hcl : cl[5]? = some (RX5, TX5, 32)) (sz : Nat) (v1 : Int32) (I : St) (Q : Int32 → St → Prop) (h : M_tell v1 I Q) : MMi l D cl a d yX5_tell cX5_tell 2 .int rmX5_tell [.ref (a 0), .int v1] sz I Q := by
  refine m_enter (Qc := fun A => va_Qi Q (BM D cl a d A) A) hcl (by decide) rfl (Nat.le_of_ble_eq_true rfl) ?_
  intro p e s m below meth c ls A F hG hl
  have G := hG
  have hl : lv_has ls 2 [(0, .ref (a 0)), (1, .int v1)] := hl
  obtain ⟨hx, hb, hr, hml, hown, hts, hlocks, hA, hK, hcl⟩ := id F
  unfold M_tell at h
  refine lv_aload_n hx hb dX5_tell_0 rfl (lv_at hl 0 rfl) ?_
  refine mg_waiting F G dX5_tell_1 ?_
  refine lv_bipush (v := 60) hx hb dX5_tell_4 (by decide) ?_
  refine lv_icmp_ne (tgt := 12) hx hb dX5_tell_6 (by decide) (fun c_1 => ?_) (fun c_1 => ?_)
  · replace h := h.1 c_1
    refine lv_aload_n hx hb dX5_tell_12 rfl (lv_at hl 0 rfl) ?_
    refine mg_waits F G dX5_tell_13 ?_
    refine lv_aload_n hx hb dX5_tell_16 rfl (lv_at hl 0 rfl) ?_
    refine mg_waiting F G dX5_tell_17 ?_
    refine lv_iload_n hx hb dX5_tell_20 rfl (lv_at hl 1 rfl) ?_
    obtain ⟨b_2, h⟩ := h
    refine m_st F G mA_18 b_2 dX5_tell_21 (fun H locs G => ?_)
    refine lv_aload_n hx hb dX5_tell_22 rfl (lv_at hl 0 rfl) ?_
    refine lv_dup hx hb dX5_tell_23 rfl ?_
    refine mg_waiting F G dX5_tell_24 ?_
    refine lv_iconst (v := 1) hx hb dX5_tell_27 (by decide) ?_
    refine lv_iadd hx hb dX5_tell_28 ?_
    refine mp_waiting F G dX5_tell_29 (fun H locs G => ?_)
    refine lv_aload_n hx hb dX5_tell_32 rfl (lv_at hl 0 rfl) ?_
    refine mg_waiting F G dX5_tell_33 ?_
    exact m_iret F G dX5_tell_36 h
  · replace h := h.2 c_1
    refine lv_ldc hx hb hown (hts _ q1297) dX5_tell_9 ?_
    exact m_iret F G dX5_tell_11 h

/-! setAside -/
def M_setAside_1_3_L2 (Q : St → Prop)   : Nat → Int32 → St → Prop
  | 0, _, _ => False
  | n + 1, v3, I => (2840 ≤ v3 → Q I) ∧ (¬ 2840 ≤ v3 → vp_in v3 3040 ∧ (vp_in v3 3040 ∧ (M_setAside_1_3_L2 Q n (v3 + 1) (sA I 3 v3 (I 1 (v3.toNatClampNeg))))))
def M_setAside_1_3  (I : St) (Q : St → Prop) : Prop := ∃ k2, M_setAside_1_3_L2 Q k2 0 I
abbrev rmX5_setAside_1_3 : Room := { frames := 0, cells := 0, slots := 0, locals := 0 }
set_option maxHeartbeats 4000000 in
set_option maxRecDepth 100000 in
theorem wM_setAside_1_3_L2 {p : Program} {l : Launch} {e : Env} {s : State} {m : MethodId} {args : Array Value} {below : List Frame} {meth : Method} {c : Code} {D : va_G} {cl : List vw_C} {a : Nat → Nat} {d : ClassId} {A : Nat → Prop} {Q : St → Prop}  (F : FM p s m meth c args D cl d A cX5_setAside 4 none)   :
    ∀ (n : Nat) (v3 : Int32) (I : St) (H : Heap) (locs : List Loc) (ls : Array Slot), GM D cl a d A s.heap I H locs → lv_has ls 4 [(1, .ref (a 1)), (2, .ref (a 3)), (3, .int v3)] → M_setAside_1_3_L2 Q n v3 I → wMv p l e rmX5_setAside_1_3 s m args below meth c D cl a d A Q H locs (F0 m 2 ls []) := by
  obtain ⟨hx, hb, hr, hml, hown, hts, hlocks, hA, hK, hcl⟩ := id F
  intro n
  induction n with
  | zero => intro v3 I H locs ls G hl h; exact absurd h (fun q => q)
  | succ n ih =>
    intro v3 I H locs ls G hl h
    unfold M_setAside_1_3_L2 at h
    refine lv_iload_n hx hb dX5_setAside_2 rfl (lv_at hl 2 rfl) ?_
    refine lv_sipush (v := 2840) hx hb dX5_setAside_3 (by decide) ?_
    refine lv_icmp_ge (tgt := 21) hx hb dX5_setAside_6 (by decide) (fun c_1 => ?_) (fun c_1 => ?_)
    · replace h := h.1 c_1
      exact m_vret F G dX5_setAside_21 h
    · replace h := h.2 c_1
      refine lv_aload_n hx hb dX5_setAside_9 rfl (lv_at hl 1 rfl) ?_
      refine lv_iload_n hx hb dX5_setAside_10 rfl (lv_at hl 2 rfl) ?_
      refine lv_aload_n hx hb dX5_setAside_11 rfl (lv_at hl 0 rfl) ?_
      refine lv_iload_n hx hb dX5_setAside_12 rfl (lv_at hl 2 rfl) ?_
      obtain ⟨b_2, h⟩ := h
      refine m_ld F G mA_1 b_2 dX5_setAside_13 ?_
      obtain ⟨b_3, h⟩ := h
      refine m_st F G mA_3 b_3 dX5_setAside_14 (fun H locs G => ?_)
      refine lv_iinc (v := (v3 + 1)) (lv' := [(3, .int (v3 + 1)), (1, .ref (a 1)), (2, .ref (a 3))]) hx hb dX5_setAside_15 hl (k := 2) rfl rfl (by decide) rfl (fun ls hl => ?_)
      refine lv_goto (tgt := 2) hx hb dX5_setAside_18 (by decide) ?_
      exact ih (v3 + 1) (sA I 3 v3 (I 1 (v3.toNatClampNeg))) _ _ _ G (lv_sub hl [1, 2, 0] rfl) h
set_option maxHeartbeats 4000000 in
set_option maxRecDepth 100000 in
theorem wM_setAside_1_3 {l : Launch} {D : va_G} {cl : List vw_C} {a : Nat → Nat} {d : ClassId} (hcl : cl[5]? = some (RX5, TX5, 32)) (sz : Nat)  (I : St) (Q : St → Prop) (h : M_setAside_1_3  I Q) : MMv l D cl a d yX5_setAside cX5_setAside 4 rmX5_setAside_1_3 [.ref (a 0), .ref (a 1), .ref (a 3)] sz I Q := by
  refine m_enter (Qc := fun A => va_Qv Q (BM D cl a d A) A) hcl (by decide) rfl (Nat.le_of_ble_eq_true rfl) ?_
  intro p e s m below meth c ls A F hG hl
  have G := hG
  have hl : lv_has ls 4 [(0, .ref (a 0)), (1, .ref (a 1)), (2, .ref (a 3))] := hl
  obtain ⟨hx, hb, hr, hml, hown, hts, hlocks, hA, hK, hcl⟩ := id F
  unfold M_setAside_1_3 at h
  refine lv_iconst (v := 0) hx hb dX5_setAside_0 (by decide) ?_
  refine lv_istore_n (lv' := [(3, .int 0), (0, .ref (a 0)), (1, .ref (a 1)), (2, .ref (a 3))]) hx hb dX5_setAside_1 rfl hl (by decide) rfl (fun ls hl => ?_)
  obtain ⟨k2, h⟩ := h
  exact wM_setAside_1_3_L2 F   k2 0 I _ _ _ G (lv_sub hl [2, 3, 0] rfl) h
set_option maxHeartbeats 4000000 in
set_option maxRecDepth 100000 in
theorem kM_setAside_1_3 {p : Program} {l : Launch} {e : Env} {s : State} {m : MethodId} {R : Room} {args : Array Value} {below : List Frame} {meth : Method} {c : Code} {D : va_G} {cl : List vw_C} {a : Nat → Nat} {d : ClassId} {A : Nat → Prop} {Q : State → Prop} {cc : ByteArray} {nL pc : Nat} {ret : Option FieldType} {ls : Array Slot} {rest : List Value}  {I : St} {H : Heap} {locs : List Loc} {Q1 : St → Prop} (F : FM p s m meth c args D cl d A cc nL ret) (G : GM D cl a d A s.heap I H locs) (hsz : ls.size = nL) (hR : rmX5_setAside_1_3.frames + 1 ≤ R.frames ∧ 8 + (4 + 11) + rmX5_setAside_1_3.locals ≤ R.locals) (hW : (rest.map fun v => v.category).sum ≤ 8) (hd : decode cc pc = .ok (.invokevirtual 322, 3)) (h : M_setAside_1_3  I Q1) (k : ∀ (I1 : St) (H : Heap) (locs : List Loc), GM D cl a d A s.heap I1 H locs → Q1 I1 → W p l e R s m args below meth c H locs 0 0 Q (F0 m (pc + 3) ls rest)) : W p l e R s m args below meth c H locs 0 0 Q (F0 m pc ls (.ref (a 3) :: .ref (a 1) :: .ref (a 0) :: rest)) := by
  obtain ⟨hx, hb, hr, hml, hown, hts, hlocks, hA, hK, hcl⟩ := id F
  exact m_callVv (As := [.ref (a 1), .ref (a 3)]) F G hsz (wM_setAside_1_3 hcl H.size  I Q1 h) (cwV 2 hts (lw_V q1675 q1677 qs80 q90 q1678) rfl rfl rfl (by decide +kernel) hR) rfl rfl hW hd k
/-! setAside -/
def M_setAside_2_1_L2 (Q : St → Prop)   : Nat → Int32 → St → Prop
  | 0, _, _ => False
  | n + 1, v3, I => (2840 ≤ v3 → Q I) ∧ (¬ 2840 ≤ v3 → vp_in v3 3040 ∧ (vp_in v3 3040 ∧ (M_setAside_2_1_L2 Q n (v3 + 1) (sA I 1 v3 (I 2 (v3.toNatClampNeg))))))
def M_setAside_2_1  (I : St) (Q : St → Prop) : Prop := ∃ k2, M_setAside_2_1_L2 Q k2 0 I
abbrev rmX5_setAside_2_1 : Room := { frames := 0, cells := 0, slots := 0, locals := 0 }
set_option maxHeartbeats 4000000 in
set_option maxRecDepth 100000 in
theorem wM_setAside_2_1_L2 {p : Program} {l : Launch} {e : Env} {s : State} {m : MethodId} {args : Array Value} {below : List Frame} {meth : Method} {c : Code} {D : va_G} {cl : List vw_C} {a : Nat → Nat} {d : ClassId} {A : Nat → Prop} {Q : St → Prop}  (F : FM p s m meth c args D cl d A cX5_setAside 4 none)   :
    ∀ (n : Nat) (v3 : Int32) (I : St) (H : Heap) (locs : List Loc) (ls : Array Slot), GM D cl a d A s.heap I H locs → lv_has ls 4 [(1, .ref (a 2)), (2, .ref (a 1)), (3, .int v3)] → M_setAside_2_1_L2 Q n v3 I → wMv p l e rmX5_setAside_2_1 s m args below meth c D cl a d A Q H locs (F0 m 2 ls []) := by
  obtain ⟨hx, hb, hr, hml, hown, hts, hlocks, hA, hK, hcl⟩ := id F
  intro n
  induction n with
  | zero => intro v3 I H locs ls G hl h; exact absurd h (fun q => q)
  | succ n ih =>
    intro v3 I H locs ls G hl h
    unfold M_setAside_2_1_L2 at h
    refine lv_iload_n hx hb dX5_setAside_2 rfl (lv_at hl 2 rfl) ?_
    refine lv_sipush (v := 2840) hx hb dX5_setAside_3 (by decide) ?_
    refine lv_icmp_ge (tgt := 21) hx hb dX5_setAside_6 (by decide) (fun c_1 => ?_) (fun c_1 => ?_)
    · replace h := h.1 c_1
      exact m_vret F G dX5_setAside_21 h
    · replace h := h.2 c_1
      refine lv_aload_n hx hb dX5_setAside_9 rfl (lv_at hl 1 rfl) ?_
      refine lv_iload_n hx hb dX5_setAside_10 rfl (lv_at hl 2 rfl) ?_
      refine lv_aload_n hx hb dX5_setAside_11 rfl (lv_at hl 0 rfl) ?_
      refine lv_iload_n hx hb dX5_setAside_12 rfl (lv_at hl 2 rfl) ?_
      obtain ⟨b_2, h⟩ := h
      refine m_ld F G mA_2 b_2 dX5_setAside_13 ?_
      obtain ⟨b_3, h⟩ := h
      refine m_st F G mA_1 b_3 dX5_setAside_14 (fun H locs G => ?_)
      refine lv_iinc (v := (v3 + 1)) (lv' := [(3, .int (v3 + 1)), (1, .ref (a 2)), (2, .ref (a 1))]) hx hb dX5_setAside_15 hl (k := 2) rfl rfl (by decide) rfl (fun ls hl => ?_)
      refine lv_goto (tgt := 2) hx hb dX5_setAside_18 (by decide) ?_
      exact ih (v3 + 1) (sA I 1 v3 (I 2 (v3.toNatClampNeg))) _ _ _ G (lv_sub hl [1, 2, 0] rfl) h
set_option maxHeartbeats 4000000 in
set_option maxRecDepth 100000 in
theorem wM_setAside_2_1 {l : Launch} {D : va_G} {cl : List vw_C} {a : Nat → Nat} {d : ClassId} (hcl : cl[5]? = some (RX5, TX5, 32)) (sz : Nat)  (I : St) (Q : St → Prop) (h : M_setAside_2_1  I Q) : MMv l D cl a d yX5_setAside cX5_setAside 4 rmX5_setAside_2_1 [.ref (a 0), .ref (a 2), .ref (a 1)] sz I Q := by
  refine m_enter (Qc := fun A => va_Qv Q (BM D cl a d A) A) hcl (by decide) rfl (Nat.le_of_ble_eq_true rfl) ?_
  intro p e s m below meth c ls A F hG hl
  have G := hG
  have hl : lv_has ls 4 [(0, .ref (a 0)), (1, .ref (a 2)), (2, .ref (a 1))] := hl
  obtain ⟨hx, hb, hr, hml, hown, hts, hlocks, hA, hK, hcl⟩ := id F
  unfold M_setAside_2_1 at h
  refine lv_iconst (v := 0) hx hb dX5_setAside_0 (by decide) ?_
  refine lv_istore_n (lv' := [(3, .int 0), (0, .ref (a 0)), (1, .ref (a 2)), (2, .ref (a 1))]) hx hb dX5_setAside_1 rfl hl (by decide) rfl (fun ls hl => ?_)
  obtain ⟨k2, h⟩ := h
  exact wM_setAside_2_1_L2 F   k2 0 I _ _ _ G (lv_sub hl [2, 3, 0] rfl) h
set_option maxHeartbeats 4000000 in
set_option maxRecDepth 100000 in
theorem kM_setAside_2_1 {p : Program} {l : Launch} {e : Env} {s : State} {m : MethodId} {R : Room} {args : Array Value} {below : List Frame} {meth : Method} {c : Code} {D : va_G} {cl : List vw_C} {a : Nat → Nat} {d : ClassId} {A : Nat → Prop} {Q : State → Prop} {cc : ByteArray} {nL pc : Nat} {ret : Option FieldType} {ls : Array Slot} {rest : List Value}  {I : St} {H : Heap} {locs : List Loc} {Q1 : St → Prop} (F : FM p s m meth c args D cl d A cc nL ret) (G : GM D cl a d A s.heap I H locs) (hsz : ls.size = nL) (hR : rmX5_setAside_2_1.frames + 1 ≤ R.frames ∧ 8 + (4 + 11) + rmX5_setAside_2_1.locals ≤ R.locals) (hW : (rest.map fun v => v.category).sum ≤ 8) (hd : decode cc pc = .ok (.invokevirtual 322, 3)) (h : M_setAside_2_1  I Q1) (k : ∀ (I1 : St) (H : Heap) (locs : List Loc), GM D cl a d A s.heap I1 H locs → Q1 I1 → W p l e R s m args below meth c H locs 0 0 Q (F0 m (pc + 3) ls rest)) : W p l e R s m args below meth c H locs 0 0 Q (F0 m pc ls (.ref (a 1) :: .ref (a 2) :: .ref (a 0) :: rest)) := by
  obtain ⟨hx, hb, hr, hml, hown, hts, hlocks, hA, hK, hcl⟩ := id F
  exact m_callVv (As := [.ref (a 2), .ref (a 1)]) F G hsz (wM_setAside_2_1 hcl H.size  I Q1 h) (cwV 2 hts (lw_V q1675 q1677 qs80 q90 q1678) rfl rfl rfl (by decide +kernel) hR) rfl rfl hW hd k
/-! setAside -/
def M_setAside_3_1_L2 (Q : St → Prop)   : Nat → Int32 → St → Prop
  | 0, _, _ => False
  | n + 1, v3, I => (2840 ≤ v3 → Q I) ∧ (¬ 2840 ≤ v3 → vp_in v3 3040 ∧ (vp_in v3 3040 ∧ (M_setAside_3_1_L2 Q n (v3 + 1) (sA I 1 v3 (I 3 (v3.toNatClampNeg))))))
def M_setAside_3_1  (I : St) (Q : St → Prop) : Prop := ∃ k2, M_setAside_3_1_L2 Q k2 0 I
abbrev rmX5_setAside_3_1 : Room := { frames := 0, cells := 0, slots := 0, locals := 0 }
set_option maxHeartbeats 4000000 in
set_option maxRecDepth 100000 in
theorem wM_setAside_3_1_L2 {p : Program} {l : Launch} {e : Env} {s : State} {m : MethodId} {args : Array Value} {below : List Frame} {meth : Method} {c : Code} {D : va_G} {cl : List vw_C} {a : Nat → Nat} {d : ClassId} {A : Nat → Prop} {Q : St → Prop}  (F : FM p s m meth c args D cl d A cX5_setAside 4 none)   :
    ∀ (n : Nat) (v3 : Int32) (I : St) (H : Heap) (locs : List Loc) (ls : Array Slot), GM D cl a d A s.heap I H locs → lv_has ls 4 [(1, .ref (a 3)), (2, .ref (a 1)), (3, .int v3)] → M_setAside_3_1_L2 Q n v3 I → wMv p l e rmX5_setAside_3_1 s m args below meth c D cl a d A Q H locs (F0 m 2 ls []) := by
  obtain ⟨hx, hb, hr, hml, hown, hts, hlocks, hA, hK, hcl⟩ := id F
  intro n
  induction n with
  | zero => intro v3 I H locs ls G hl h; exact absurd h (fun q => q)
  | succ n ih =>
    intro v3 I H locs ls G hl h
    unfold M_setAside_3_1_L2 at h
    refine lv_iload_n hx hb dX5_setAside_2 rfl (lv_at hl 2 rfl) ?_
    refine lv_sipush (v := 2840) hx hb dX5_setAside_3 (by decide) ?_
    refine lv_icmp_ge (tgt := 21) hx hb dX5_setAside_6 (by decide) (fun c_1 => ?_) (fun c_1 => ?_)
    · replace h := h.1 c_1
      exact m_vret F G dX5_setAside_21 h
    · replace h := h.2 c_1
      refine lv_aload_n hx hb dX5_setAside_9 rfl (lv_at hl 1 rfl) ?_
      refine lv_iload_n hx hb dX5_setAside_10 rfl (lv_at hl 2 rfl) ?_
      refine lv_aload_n hx hb dX5_setAside_11 rfl (lv_at hl 0 rfl) ?_
      refine lv_iload_n hx hb dX5_setAside_12 rfl (lv_at hl 2 rfl) ?_
      obtain ⟨b_2, h⟩ := h
      refine m_ld F G mA_3 b_2 dX5_setAside_13 ?_
      obtain ⟨b_3, h⟩ := h
      refine m_st F G mA_1 b_3 dX5_setAside_14 (fun H locs G => ?_)
      refine lv_iinc (v := (v3 + 1)) (lv' := [(3, .int (v3 + 1)), (1, .ref (a 3)), (2, .ref (a 1))]) hx hb dX5_setAside_15 hl (k := 2) rfl rfl (by decide) rfl (fun ls hl => ?_)
      refine lv_goto (tgt := 2) hx hb dX5_setAside_18 (by decide) ?_
      exact ih (v3 + 1) (sA I 1 v3 (I 3 (v3.toNatClampNeg))) _ _ _ G (lv_sub hl [1, 2, 0] rfl) h
set_option maxHeartbeats 4000000 in
set_option maxRecDepth 100000 in
theorem wM_setAside_3_1 {l : Launch} {D : va_G} {cl : List vw_C} {a : Nat → Nat} {d : ClassId} (hcl : cl[5]? = some (RX5, TX5, 32)) (sz : Nat)  (I : St) (Q : St → Prop) (h : M_setAside_3_1  I Q) : MMv l D cl a d yX5_setAside cX5_setAside 4 rmX5_setAside_3_1 [.ref (a 0), .ref (a 3), .ref (a 1)] sz I Q := by
  refine m_enter (Qc := fun A => va_Qv Q (BM D cl a d A) A) hcl (by decide) rfl (Nat.le_of_ble_eq_true rfl) ?_
  intro p e s m below meth c ls A F hG hl
  have G := hG
  have hl : lv_has ls 4 [(0, .ref (a 0)), (1, .ref (a 3)), (2, .ref (a 1))] := hl
  obtain ⟨hx, hb, hr, hml, hown, hts, hlocks, hA, hK, hcl⟩ := id F
  unfold M_setAside_3_1 at h
  refine lv_iconst (v := 0) hx hb dX5_setAside_0 (by decide) ?_
  refine lv_istore_n (lv' := [(3, .int 0), (0, .ref (a 0)), (1, .ref (a 3)), (2, .ref (a 1))]) hx hb dX5_setAside_1 rfl hl (by decide) rfl (fun ls hl => ?_)
  obtain ⟨k2, h⟩ := h
  exact wM_setAside_3_1_L2 F   k2 0 I _ _ _ G (lv_sub hl [2, 3, 0] rfl) h
set_option maxHeartbeats 4000000 in
set_option maxRecDepth 100000 in
theorem kM_setAside_3_1 {p : Program} {l : Launch} {e : Env} {s : State} {m : MethodId} {R : Room} {args : Array Value} {below : List Frame} {meth : Method} {c : Code} {D : va_G} {cl : List vw_C} {a : Nat → Nat} {d : ClassId} {A : Nat → Prop} {Q : State → Prop} {cc : ByteArray} {nL pc : Nat} {ret : Option FieldType} {ls : Array Slot} {rest : List Value}  {I : St} {H : Heap} {locs : List Loc} {Q1 : St → Prop} (F : FM p s m meth c args D cl d A cc nL ret) (G : GM D cl a d A s.heap I H locs) (hsz : ls.size = nL) (hR : rmX5_setAside_3_1.frames + 1 ≤ R.frames ∧ 8 + (4 + 11) + rmX5_setAside_3_1.locals ≤ R.locals) (hW : (rest.map fun v => v.category).sum ≤ 8) (hd : decode cc pc = .ok (.invokevirtual 322, 3)) (h : M_setAside_3_1  I Q1) (k : ∀ (I1 : St) (H : Heap) (locs : List Loc), GM D cl a d A s.heap I1 H locs → Q1 I1 → W p l e R s m args below meth c H locs 0 0 Q (F0 m (pc + 3) ls rest)) : W p l e R s m args below meth c H locs 0 0 Q (F0 m pc ls (.ref (a 1) :: .ref (a 3) :: .ref (a 0) :: rest)) := by
  obtain ⟨hx, hb, hr, hml, hown, hts, hlocks, hA, hK, hcl⟩ := id F
  exact m_callVv (As := [.ref (a 3), .ref (a 1)]) F G hsz (wM_setAside_3_1 hcl H.size  I Q1 h) (cwV 2 hts (lw_V q1675 q1677 qs80 q90 q1678) rfl rfl rfl (by decide +kernel) hR) rfl rfl hW hd k
/-! setAside -/
def M_setAside_1_2_L2 (Q : St → Prop)   : Nat → Int32 → St → Prop
  | 0, _, _ => False
  | n + 1, v3, I => (2840 ≤ v3 → Q I) ∧ (¬ 2840 ≤ v3 → vp_in v3 3040 ∧ (vp_in v3 3040 ∧ (M_setAside_1_2_L2 Q n (v3 + 1) (sA I 2 v3 (I 1 (v3.toNatClampNeg))))))
def M_setAside_1_2  (I : St) (Q : St → Prop) : Prop := ∃ k2, M_setAside_1_2_L2 Q k2 0 I
abbrev rmX5_setAside_1_2 : Room := { frames := 0, cells := 0, slots := 0, locals := 0 }
set_option maxHeartbeats 4000000 in
set_option maxRecDepth 100000 in
theorem wM_setAside_1_2_L2 {p : Program} {l : Launch} {e : Env} {s : State} {m : MethodId} {args : Array Value} {below : List Frame} {meth : Method} {c : Code} {D : va_G} {cl : List vw_C} {a : Nat → Nat} {d : ClassId} {A : Nat → Prop} {Q : St → Prop}  (F : FM p s m meth c args D cl d A cX5_setAside 4 none)   :
    ∀ (n : Nat) (v3 : Int32) (I : St) (H : Heap) (locs : List Loc) (ls : Array Slot), GM D cl a d A s.heap I H locs → lv_has ls 4 [(1, .ref (a 1)), (2, .ref (a 2)), (3, .int v3)] → M_setAside_1_2_L2 Q n v3 I → wMv p l e rmX5_setAside_1_2 s m args below meth c D cl a d A Q H locs (F0 m 2 ls []) := by
  obtain ⟨hx, hb, hr, hml, hown, hts, hlocks, hA, hK, hcl⟩ := id F
  intro n
  induction n with
  | zero => intro v3 I H locs ls G hl h; exact absurd h (fun q => q)
  | succ n ih =>
    intro v3 I H locs ls G hl h
    unfold M_setAside_1_2_L2 at h
    refine lv_iload_n hx hb dX5_setAside_2 rfl (lv_at hl 2 rfl) ?_
    refine lv_sipush (v := 2840) hx hb dX5_setAside_3 (by decide) ?_
    refine lv_icmp_ge (tgt := 21) hx hb dX5_setAside_6 (by decide) (fun c_1 => ?_) (fun c_1 => ?_)
    · replace h := h.1 c_1
      exact m_vret F G dX5_setAside_21 h
    · replace h := h.2 c_1
      refine lv_aload_n hx hb dX5_setAside_9 rfl (lv_at hl 1 rfl) ?_
      refine lv_iload_n hx hb dX5_setAside_10 rfl (lv_at hl 2 rfl) ?_
      refine lv_aload_n hx hb dX5_setAside_11 rfl (lv_at hl 0 rfl) ?_
      refine lv_iload_n hx hb dX5_setAside_12 rfl (lv_at hl 2 rfl) ?_
      obtain ⟨b_2, h⟩ := h
      refine m_ld F G mA_1 b_2 dX5_setAside_13 ?_
      obtain ⟨b_3, h⟩ := h
      refine m_st F G mA_2 b_3 dX5_setAside_14 (fun H locs G => ?_)
      refine lv_iinc (v := (v3 + 1)) (lv' := [(3, .int (v3 + 1)), (1, .ref (a 1)), (2, .ref (a 2))]) hx hb dX5_setAside_15 hl (k := 2) rfl rfl (by decide) rfl (fun ls hl => ?_)
      refine lv_goto (tgt := 2) hx hb dX5_setAside_18 (by decide) ?_
      exact ih (v3 + 1) (sA I 2 v3 (I 1 (v3.toNatClampNeg))) _ _ _ G (lv_sub hl [1, 2, 0] rfl) h
set_option maxHeartbeats 4000000 in
set_option maxRecDepth 100000 in
theorem wM_setAside_1_2 {l : Launch} {D : va_G} {cl : List vw_C} {a : Nat → Nat} {d : ClassId} (hcl : cl[5]? = some (RX5, TX5, 32)) (sz : Nat)  (I : St) (Q : St → Prop) (h : M_setAside_1_2  I Q) : MMv l D cl a d yX5_setAside cX5_setAside 4 rmX5_setAside_1_2 [.ref (a 0), .ref (a 1), .ref (a 2)] sz I Q := by
  refine m_enter (Qc := fun A => va_Qv Q (BM D cl a d A) A) hcl (by decide) rfl (Nat.le_of_ble_eq_true rfl) ?_
  intro p e s m below meth c ls A F hG hl
  have G := hG
  have hl : lv_has ls 4 [(0, .ref (a 0)), (1, .ref (a 1)), (2, .ref (a 2))] := hl
  obtain ⟨hx, hb, hr, hml, hown, hts, hlocks, hA, hK, hcl⟩ := id F
  unfold M_setAside_1_2 at h
  refine lv_iconst (v := 0) hx hb dX5_setAside_0 (by decide) ?_
  refine lv_istore_n (lv' := [(3, .int 0), (0, .ref (a 0)), (1, .ref (a 1)), (2, .ref (a 2))]) hx hb dX5_setAside_1 rfl hl (by decide) rfl (fun ls hl => ?_)
  obtain ⟨k2, h⟩ := h
  exact wM_setAside_1_2_L2 F   k2 0 I _ _ _ G (lv_sub hl [2, 3, 0] rfl) h
set_option maxHeartbeats 4000000 in
set_option maxRecDepth 100000 in
theorem kM_setAside_1_2 {p : Program} {l : Launch} {e : Env} {s : State} {m : MethodId} {R : Room} {args : Array Value} {below : List Frame} {meth : Method} {c : Code} {D : va_G} {cl : List vw_C} {a : Nat → Nat} {d : ClassId} {A : Nat → Prop} {Q : State → Prop} {cc : ByteArray} {nL pc : Nat} {ret : Option FieldType} {ls : Array Slot} {rest : List Value}  {I : St} {H : Heap} {locs : List Loc} {Q1 : St → Prop} (F : FM p s m meth c args D cl d A cc nL ret) (G : GM D cl a d A s.heap I H locs) (hsz : ls.size = nL) (hR : rmX5_setAside_1_2.frames + 1 ≤ R.frames ∧ 8 + (4 + 11) + rmX5_setAside_1_2.locals ≤ R.locals) (hW : (rest.map fun v => v.category).sum ≤ 8) (hd : decode cc pc = .ok (.invokevirtual 322, 3)) (h : M_setAside_1_2  I Q1) (k : ∀ (I1 : St) (H : Heap) (locs : List Loc), GM D cl a d A s.heap I1 H locs → Q1 I1 → W p l e R s m args below meth c H locs 0 0 Q (F0 m (pc + 3) ls rest)) : W p l e R s m args below meth c H locs 0 0 Q (F0 m pc ls (.ref (a 2) :: .ref (a 1) :: .ref (a 0) :: rest)) := by
  obtain ⟨hx, hb, hr, hml, hown, hts, hlocks, hA, hK, hcl⟩ := id F
  exact m_callVv (As := [.ref (a 1), .ref (a 2)]) F G hsz (wM_setAside_1_2 hcl H.size  I Q1 h) (cwV 2 hts (lw_V q1675 q1677 qs80 q90 q1678) rfl rfl rfl (by decide +kernel) hR) rfl rfl hW hd k
/-! check -/
def M_check_p173 (Q : Int32 → St → Prop)  (v2 : Int32) (v3 : Int32) (v4 : Int32) (I : St) : Prop := (¬ v4 = v2 → Q (1 + v4) I) ∧ (v4 = v2 → (¬ v4 = v3 → Q (1 + v4) I) ∧ (v4 = v3 → Q 0 I))
def M_check_L138 (Q : Int32 → St → Prop)  (v2 : Int32) (v3 : Int32) : Nat → Int32 → St → Prop
  | 0, _, _ => False
  | n + 1, v4, I => (v2 ≤ v4 → M_check_p173 Q v2 v3 v4 I) ∧ (¬ v2 ≤ v4 → (v3 ≤ v4 → M_check_p173 Q v2 v3 v4 I) ∧ (¬ v3 ≤ v4 → vp_in v4 60 ∧ (vp_in v4 60 ∧ ((¬ (I 18 (v4.toNatClampNeg)) = (I 19 (v4.toNatClampNeg)) → M_check_p173 Q v2 v3 v4 I) ∧ ((I 18 (v4.toNatClampNeg)) = (I 19 (v4.toNatClampNeg)) → M_check_L138 Q v2 v3 n (v4 + 1) I)))))
def M_check_p123 (Q : Int32 → St → Prop)  (v2 : Int32) (v3 : Int32) (I : St) : Prop := M_setAside_3_1  I (fun I_17 => ∃ k138, M_check_L138 Q v2 v3 k138 0 I_17)
def M_check_L65 (Q : Int32 → St → Prop)  (v1 : Int32) (v2 : Int32) : Nat → Int32 → Int32 → St → Prop
  | 0, _, _, _ => False
  | n + 1, v3, v4, I => (v1 ≤ v4 → M_check_p123 Q v2 v3 I) ∧ (¬ v1 ≤ v4 → (9999 ≤ (I 1 2) → M_check_p123 Q v2 v3 I) ∧ (¬ 9999 ≤ (I 1 2) → M_goesOn  I (fun I_13 => vp_in v3 60 ∧ (vp_in (v3 + 1) 60 ∧ (M_check_L65 Q v1 v2 n (v3 + 2) (v4 + 1) (sA (sA I_13 19 v3 (I_13 1 3)) 19 (v3 + 1) ((sA I_13 19 v3 (I_13 1 3)) 1 28)))))))
def M_check (v1 : Int32) (I : St) (Q : Int32 → St → Prop) : Prop := ∀ x_1 : Int32, x_1 = (I 0 30) → M_isIn v1.toInt64 1 30 (sF I 30 0) (fun r_2 I_3 => (¬ r_2 = 0 → (¬ (I_3 0 3) = 0 → M_setAside_1_3  I_3 (fun I_7 => M_setAside_2_1  I_7 (fun I_9 => ∃ k65, M_check_L65 Q v1 x_1 k65 0 0 I_9))) ∧ ((I_3 0 3) = 0 → Q (-1000000002) I_3)) ∧ (r_2 = 0 → Q (-1000000001) I_3))
abbrev rmX5_check : Room := { frames := 6, cells := 0, slots := 0, locals := 142 }
set_option maxHeartbeats 4000000 in
set_option maxRecDepth 100000 in
theorem wM_check_p173 {p : Program} {l : Launch} {e : Env} {s : State} {m : MethodId} {args : Array Value} {below : List Frame} {meth : Method} {c : Code} {D : va_G} {cl : List vw_C} {a : Nat → Nat} {d : ClassId} {A : Nat → Prop} {Q : Int32 → St → Prop}  (F : FM p s m meth c args D cl d A cX5_check 5 (some .int)) (v2 : Int32) (v3 : Int32) (v4 : Int32) (I : St)  {H : Heap} {locs : List Loc} {ls : Array Slot} (G : GM D cl a d A s.heap I H locs) (hl : lv_has ls 5 [(2, .int v2), (3, .int v3), (4, .int v4)]) (h : M_check_p173 Q v2 v3 v4 I) : wMi p l e rmX5_check s m args below meth c D cl a d A Q H locs (F0 m 173 ls []) := by
  obtain ⟨hx, hb, hr, hml, hown, hts, hlocks, hA, hK, hcl⟩ := id F
  unfold M_check_p173 at h
  refine lv_iload hx hb dX5_check_173 (lv_at hl 2 rfl) ?_
  refine lv_iload_n hx hb dX5_check_175 rfl (lv_at hl 0 rfl) ?_
  refine lv_icmp_ne (tgt := 189) hx hb dX5_check_176 (by decide) (fun c_23 => ?_) (fun c_23 => ?_)
  · replace h := h.1 c_23
    refine lv_iconst (v := 1) hx hb dX5_check_189 (by decide) ?_
    refine lv_iload hx hb dX5_check_190 (lv_at hl 2 rfl) ?_
    refine lv_iadd hx hb dX5_check_192 ?_
    exact m_iret F G dX5_check_193 h
  · replace h := h.2 c_23
    refine lv_iload hx hb dX5_check_179 (lv_at hl 2 rfl) ?_
    refine lv_iload_n hx hb dX5_check_181 rfl (lv_at hl 1 rfl) ?_
    refine lv_icmp_ne (tgt := 189) hx hb dX5_check_182 (by decide) (fun c_24 => ?_) (fun c_24 => ?_)
    · replace h := h.1 c_24
      refine lv_iconst (v := 1) hx hb dX5_check_189 (by decide) ?_
      refine lv_iload hx hb dX5_check_190 (lv_at hl 2 rfl) ?_
      refine lv_iadd hx hb dX5_check_192 ?_
      exact m_iret F G dX5_check_193 h
    · replace h := h.2 c_24
      refine lv_iconst (v := 0) hx hb dX5_check_185 (by decide) ?_
      refine lv_goto (tgt := 193) hx hb dX5_check_186 (by decide) ?_
      exact m_iret F G dX5_check_193 h
set_option maxHeartbeats 4000000 in
set_option maxRecDepth 100000 in
theorem wM_check_L138 {p : Program} {l : Launch} {e : Env} {s : State} {m : MethodId} {args : Array Value} {below : List Frame} {meth : Method} {c : Code} {D : va_G} {cl : List vw_C} {a : Nat → Nat} {d : ClassId} {A : Nat → Prop} {Q : Int32 → St → Prop}  (F : FM p s m meth c args D cl d A cX5_check 5 (some .int)) (v2 : Int32) (v3 : Int32)  :
    ∀ (n : Nat) (v4 : Int32) (I : St) (H : Heap) (locs : List Loc) (ls : Array Slot), GM D cl a d A s.heap I H locs → lv_has ls 5 [(0, .ref (a 0)), (2, .int v2), (3, .int v3), (4, .int v4)] → M_check_L138 Q v2 v3 n v4 I → wMi p l e rmX5_check s m args below meth c D cl a d A Q H locs (F0 m 138 ls []) := by
  obtain ⟨hx, hb, hr, hml, hown, hts, hlocks, hA, hK, hcl⟩ := id F
  intro n
  induction n with
  | zero => intro v4 I H locs ls G hl h; exact absurd h (fun q => q)
  | succ n ih =>
    intro v4 I H locs ls G hl h
    unfold M_check_L138 at h
    refine lv_iload hx hb dX5_check_138 (lv_at hl 3 rfl) ?_
    refine lv_iload_n hx hb dX5_check_140 rfl (lv_at hl 1 rfl) ?_
    refine lv_icmp_ge (tgt := 173) hx hb dX5_check_141 (by decide) (fun c_18 => ?_) (fun c_18 => ?_)
    · replace h := h.1 c_18
      exact wM_check_p173 F v2 v3 v4 I  G (lv_sub hl [1, 2, 3] rfl) h
    · replace h := h.2 c_18
      refine lv_iload hx hb dX5_check_144 (lv_at hl 3 rfl) ?_
      refine lv_iload_n hx hb dX5_check_146 rfl (lv_at hl 2 rfl) ?_
      refine lv_icmp_ge (tgt := 173) hx hb dX5_check_147 (by decide) (fun c_19 => ?_) (fun c_19 => ?_)
      · replace h := h.1 c_19
        exact wM_check_p173 F v2 v3 v4 I  G (lv_sub hl [1, 2, 3] rfl) h
      · replace h := h.2 c_19
        refine lv_aload_n hx hb dX5_check_150 rfl (lv_at hl 0 rfl) ?_
        refine mg_waits F G dX5_check_151 ?_
        refine lv_iload hx hb dX5_check_154 (lv_at hl 3 rfl) ?_
        obtain ⟨b_20, h⟩ := h
        refine m_ld F G mA_18 b_20 dX5_check_156 ?_
        refine lv_aload_n hx hb dX5_check_157 rfl (lv_at hl 0 rfl) ?_
        refine mg_rowDue F G dX5_check_158 ?_
        refine lv_iload hx hb dX5_check_161 (lv_at hl 3 rfl) ?_
        obtain ⟨b_21, h⟩ := h
        refine m_ld F G mA_19 b_21 dX5_check_163 ?_
        refine lv_icmp_ne (tgt := 173) hx hb dX5_check_164 (by decide) (fun c_22 => ?_) (fun c_22 => ?_)
        · replace h := h.1 c_22
          exact wM_check_p173 F v2 v3 v4 I  G (lv_sub hl [1, 2, 3] rfl) h
        · replace h := h.2 c_22
          refine lv_iinc (v := (v4 + 1)) (lv' := [(4, .int (v4 + 1)), (0, .ref (a 0)), (2, .int v2), (3, .int v3)]) hx hb dX5_check_167 hl (k := 3) rfl rfl (by decide) rfl (fun ls hl => ?_)
          refine lv_goto (tgt := 138) hx hb dX5_check_170 (by decide) ?_
          exact ih (v4 + 1) I _ _ _ G (lv_sub hl [1, 2, 3, 0] rfl) h
set_option maxHeartbeats 4000000 in
set_option maxRecDepth 100000 in
theorem wM_check_p123 {p : Program} {l : Launch} {e : Env} {s : State} {m : MethodId} {args : Array Value} {below : List Frame} {meth : Method} {c : Code} {D : va_G} {cl : List vw_C} {a : Nat → Nat} {d : ClassId} {A : Nat → Prop} {Q : Int32 → St → Prop}  (F : FM p s m meth c args D cl d A cX5_check 5 (some .int)) (v2 : Int32) (v3 : Int32) (I : St)  {H : Heap} {locs : List Loc} {ls : Array Slot} (G : GM D cl a d A s.heap I H locs) (hl : lv_has ls 5 [(0, .ref (a 0)), (2, .int v2), (3, .int v3)]) (h : M_check_p123 Q v2 v3 I) : wMi p l e rmX5_check s m args below meth c D cl a d A Q H locs (F0 m 123 ls []) := by
  obtain ⟨hx, hb, hr, hml, hown, hts, hlocks, hA, hK, hcl⟩ := id F
  unfold M_check_p123 at h
  refine lv_aload_n hx hb dX5_check_123 rfl (lv_at hl 0 rfl) ?_
  refine lv_aload_n hx hb dX5_check_124 rfl (lv_at hl 0 rfl) ?_
  refine mg_aside F G dX5_check_125 ?_
  refine lv_aload_n hx hb dX5_check_128 rfl (lv_at hl 0 rfl) ?_
  refine mg_s F G dX5_check_129 ?_
  refine kM_setAside_3_1 F G hl.1 ⟨Nat.le_of_ble_eq_true rfl, Nat.le_of_ble_eq_true rfl⟩ (Nat.le_of_ble_eq_true rfl) dX5_check_132 h (fun I_17 H locs G h => ?_)
  refine lv_iconst (v := 0) hx hb dX5_check_135 (by decide) ?_
  refine lv_istore (lv' := [(4, .int 0), (0, .ref (a 0)), (2, .int v2), (3, .int v3)]) hx hb dX5_check_136 hl (by decide) rfl (fun ls hl => ?_)
  obtain ⟨k138, h⟩ := h
  exact wM_check_L138 F v2 v3  k138 0 I_17 _ _ _ G (lv_sub hl [1, 2, 3, 0] rfl) h
set_option maxHeartbeats 4000000 in
set_option maxRecDepth 100000 in
theorem wM_check_L65 {p : Program} {l : Launch} {e : Env} {s : State} {m : MethodId} {args : Array Value} {below : List Frame} {meth : Method} {c : Code} {D : va_G} {cl : List vw_C} {a : Nat → Nat} {d : ClassId} {A : Nat → Prop} {Q : Int32 → St → Prop}  (F : FM p s m meth c args D cl d A cX5_check 5 (some .int)) (v1 : Int32) (v2 : Int32)  :
    ∀ (n : Nat) (v3 : Int32) (v4 : Int32) (I : St) (H : Heap) (locs : List Loc) (ls : Array Slot), GM D cl a d A s.heap I H locs → lv_has ls 5 [(0, .ref (a 0)), (1, .int v1), (2, .int v2), (3, .int v3), (4, .int v4)] → M_check_L65 Q v1 v2 n v3 v4 I → wMi p l e rmX5_check s m args below meth c D cl a d A Q H locs (F0 m 65 ls []) := by
  obtain ⟨hx, hb, hr, hml, hown, hts, hlocks, hA, hK, hcl⟩ := id F
  intro n
  induction n with
  | zero => intro v3 v4 I H locs ls G hl h; exact absurd h (fun q => q)
  | succ n ih =>
    intro v3 v4 I H locs ls G hl h
    unfold M_check_L65 at h
    refine lv_iload hx hb dX5_check_65 (lv_at hl 4 rfl) ?_
    refine lv_iload_n hx hb dX5_check_67 rfl (lv_at hl 1 rfl) ?_
    refine lv_icmp_ge (tgt := 123) hx hb dX5_check_68 (by decide) (fun c_10 => ?_) (fun c_10 => ?_)
    · replace h := h.1 c_10
      exact wM_check_p123 F v2 v3 I  G (lv_sub hl [0, 2, 3] rfl) h
    · replace h := h.2 c_10
      refine lv_aload_n hx hb dX5_check_71 rfl (lv_at hl 0 rfl) ?_
      refine mg_s F G dX5_check_72 ?_
      refine lv_iconst (v := 2) hx hb dX5_check_75 (by decide) ?_
      refine m_ld F G mA_1 (by unfold vp_in; decide) dX5_check_76 ?_
      refine lv_sipush (v := 9999) hx hb dX5_check_77 (by decide) ?_
      refine lv_icmp_ge (tgt := 123) hx hb dX5_check_80 (by decide) (fun c_11 => ?_) (fun c_11 => ?_)
      · replace h := h.1 c_11
        exact wM_check_p123 F v2 v3 I  G (lv_sub hl [0, 2, 3] rfl) h
      · replace h := h.2 c_11
        refine lv_aload_n hx hb dX5_check_83 rfl (lv_at hl 0 rfl) ?_
        refine kM_goesOn F G hl.1 ⟨Nat.le_of_ble_eq_true rfl, Nat.le_of_ble_eq_true rfl⟩ (Nat.le_of_ble_eq_true rfl) dX5_check_84 h (fun I_13 H locs G h => ?_)
        refine lv_aload_n hx hb dX5_check_87 rfl (lv_at hl 0 rfl) ?_
        refine mg_rowDue F G dX5_check_88 ?_
        refine lv_iload_n hx hb dX5_check_91 rfl (lv_at hl 3 rfl) ?_
        refine lv_aload_n hx hb dX5_check_92 rfl (lv_at hl 0 rfl) ?_
        refine mg_s F G dX5_check_93 ?_
        refine lv_iconst (v := 3) hx hb dX5_check_96 (by decide) ?_
        refine m_ld F G mA_1 (by unfold vp_in; decide) dX5_check_97 ?_
        obtain ⟨b_14, h⟩ := h
        refine m_st F G mA_19 b_14 dX5_check_98 (fun H locs G => ?_)
        refine lv_aload_n hx hb dX5_check_99 rfl (lv_at hl 0 rfl) ?_
        refine mg_rowDue F G dX5_check_100 ?_
        refine lv_iload_n hx hb dX5_check_103 rfl (lv_at hl 3 rfl) ?_
        refine lv_iconst (v := 1) hx hb dX5_check_104 (by decide) ?_
        refine lv_iadd hx hb dX5_check_105 ?_
        refine lv_aload_n hx hb dX5_check_106 rfl (lv_at hl 0 rfl) ?_
        refine mg_s F G dX5_check_107 ?_
        refine lv_bipush (v := 28) hx hb dX5_check_110 (by decide) ?_
        refine m_ld F G mA_1 (by unfold vp_in; decide) dX5_check_112 ?_
        obtain ⟨b_15, h⟩ := h
        refine m_st F G mA_19 b_15 dX5_check_113 (fun H locs G => ?_)
        refine lv_iinc (v := (v3 + 2)) (lv' := [(3, .int (v3 + 2)), (0, .ref (a 0)), (1, .int v1), (2, .int v2), (4, .int v4)]) hx hb dX5_check_114 hl (k := 3) rfl rfl (by decide) rfl (fun ls hl => ?_)
        refine lv_iinc (v := (v4 + 1)) (lv' := [(4, .int (v4 + 1)), (3, .int (v3 + 2)), (0, .ref (a 0)), (1, .int v1), (2, .int v2)]) hx hb dX5_check_117 hl (k := 4) rfl rfl (by decide) rfl (fun ls hl => ?_)
        refine lv_goto (tgt := 65) hx hb dX5_check_120 (by decide) ?_
        exact ih (v3 + 2) (v4 + 1) (sA (sA I_13 19 v3 (I_13 1 3)) 19 (v3 + 1) ((sA I_13 19 v3 (I_13 1 3)) 1 28)) _ _ _ G (lv_sub hl [2, 3, 4, 1, 0] rfl) h
set_option maxHeartbeats 4000000 in
set_option maxRecDepth 100000 in
theorem wM_check {l : Launch} {D : va_G} {cl : List vw_C} {a : Nat → Nat} {d : ClassId} (hcl : cl[5]? = some (RX5, TX5, 32)) (sz : Nat) (v1 : Int32) (I : St) (Q : Int32 → St → Prop) (h : M_check v1 I Q) : MMi l D cl a d yX5_check cX5_check 5 .int rmX5_check [.ref (a 0), .int v1] sz I Q := by
  refine m_enter (Qc := fun A => va_Qi Q (BM D cl a d A) A) hcl (by decide) rfl (Nat.le_of_ble_eq_true rfl) ?_
  intro p e s m below meth c ls A F hG hl
  have G := hG
  have hl : lv_has ls 5 [(0, .ref (a 0)), (1, .int v1)] := hl
  obtain ⟨hx, hb, hr, hml, hown, hts, hlocks, hA, hK, hcl⟩ := id F
  unfold M_check at h
  refine lv_aload_n hx hb dX5_check_0 rfl (lv_at hl 0 rfl) ?_
  refine mg_waiting F G dX5_check_1 ?_
  refine lv_topi (fun x_1 ex_1 => ?_)
  replace h := h x_1 ex_1
  refine lv_istore_n (lv' := [(2, .int x_1), (0, .ref (a 0)), (1, .int v1)]) hx hb dX5_check_4 rfl hl (by decide) rfl (fun ls hl => ?_)
  refine lv_aload_n hx hb dX5_check_5 rfl (lv_at hl 1 rfl) ?_
  refine lv_iconst (v := 0) hx hb dX5_check_6 (by decide) ?_
  refine mp_waiting F G dX5_check_7 (fun H locs G => ?_)
  refine lv_iload_n hx hb dX5_check_10 rfl (lv_at hl 2 rfl) ?_
  refine lv_i2l (v := v1.toInt64) hx hb dX5_check_11 rfl ?_
  refine lv_lconst (v := 1) hx hb dX5_check_12 (by decide) ?_
  refine lv_ldc2 hx hb hown (hts _ q1674) dX5_check_13 ?_
  refine kM_isIn F G hl.1 ⟨Nat.le_of_ble_eq_true rfl, Nat.le_of_ble_eq_true rfl⟩ (Nat.le_of_ble_eq_true rfl) dX5_check_16 h (fun r_2 I_3 H locs G h => ?_)
  refine lv_if_ne (tgt := 25) hx hb dX5_check_19 (by decide) (fun c_4 => ?_) (fun c_4 => ?_)
  · replace h := h.1 c_4
    refine lv_aload_n hx hb dX5_check_25 rfl (lv_at hl 1 rfl) ?_
    refine mg_hasImage F G dX5_check_26 ?_
    refine lv_if_ne (tgt := 36) hx hb dX5_check_29 (by decide) (fun c_5 => ?_) (fun c_5 => ?_)
    · replace h := h.1 c_5
      refine lv_aload_n hx hb dX5_check_36 rfl (lv_at hl 1 rfl) ?_
      refine lv_aload_n hx hb dX5_check_37 rfl (lv_at hl 1 rfl) ?_
      refine mg_s F G dX5_check_38 ?_
      refine lv_aload_n hx hb dX5_check_41 rfl (lv_at hl 1 rfl) ?_
      refine mg_aside F G dX5_check_42 ?_
      refine kM_setAside_1_3 F G hl.1 ⟨Nat.le_of_ble_eq_true rfl, Nat.le_of_ble_eq_true rfl⟩ (Nat.le_of_ble_eq_true rfl) dX5_check_45 h (fun I_7 H locs G h => ?_)
      refine lv_aload_n hx hb dX5_check_48 rfl (lv_at hl 1 rfl) ?_
      refine lv_aload_n hx hb dX5_check_49 rfl (lv_at hl 1 rfl) ?_
      refine mg_image F G dX5_check_50 ?_
      refine lv_aload_n hx hb dX5_check_53 rfl (lv_at hl 1 rfl) ?_
      refine mg_s F G dX5_check_54 ?_
      refine kM_setAside_2_1 F G hl.1 ⟨Nat.le_of_ble_eq_true rfl, Nat.le_of_ble_eq_true rfl⟩ (Nat.le_of_ble_eq_true rfl) dX5_check_57 h (fun I_9 H locs G h => ?_)
      refine lv_iconst (v := 0) hx hb dX5_check_60 (by decide) ?_
      refine lv_istore_n (lv' := [(3, .int 0), (2, .int x_1), (0, .ref (a 0)), (1, .int v1)]) hx hb dX5_check_61 rfl hl (by decide) rfl (fun ls hl => ?_)
      refine lv_iconst (v := 0) hx hb dX5_check_62 (by decide) ?_
      refine lv_istore (lv' := [(4, .int 0), (3, .int 0), (2, .int x_1), (0, .ref (a 0)), (1, .int v1)]) hx hb dX5_check_63 hl (by decide) rfl (fun ls hl => ?_)
      obtain ⟨k65, h⟩ := h
      exact wM_check_L65 F v1 x_1  k65 0 0 I_9 _ _ _ G (lv_sub hl [3, 4, 2, 1, 0] rfl) h
    · replace h := h.2 c_5
      refine lv_ldcw hx hb hown (hts _ q1665) dX5_check_32 ?_
      exact m_iret F G dX5_check_35 h
  · replace h := h.2 c_4
    refine lv_ldc hx hb hown (hts _ q1296) dX5_check_22 ?_
    exact m_iret F G dX5_check_24 h

/-! keep -/
def M_keep  (I : St) (Q : Int32 → St → Prop) : Prop := M_setAside_1_2  (sF I 3 1) (fun I_2 => Q (I_2 1 0) I_2)
abbrev rmX5_keep : Room := { frames := 1, cells := 0, slots := 0, locals := 23 }
set_option maxHeartbeats 4000000 in
set_option maxRecDepth 100000 in
theorem wM_keep {l : Launch} {D : va_G} {cl : List vw_C} {a : Nat → Nat} {d : ClassId} (hcl : cl[5]? = some (RX5, TX5, 32)) (sz : Nat)  (I : St) (Q : Int32 → St → Prop) (h : M_keep  I Q) : MMi l D cl a d yX5_keep cX5_keep 1 .int rmX5_keep [.ref (a 0)] sz I Q := by
  refine m_enter (Qc := fun A => va_Qi Q (BM D cl a d A) A) hcl (by decide) rfl (Nat.le_of_ble_eq_true rfl) ?_
  intro p e s m below meth c ls A F hG hl
  have G := hG
  have hl : lv_has ls 1 [(0, .ref (a 0))] := hl
  obtain ⟨hx, hb, hr, hml, hown, hts, hlocks, hA, hK, hcl⟩ := id F
  unfold M_keep at h
  refine lv_aload_n hx hb dX5_keep_0 rfl (lv_at hl 0 rfl) ?_
  refine lv_iconst (v := 1) hx hb dX5_keep_1 (by decide) ?_
  refine mp_hasImage F G rfl rfl dX5_keep_2 (fun H locs G => ?_)
  refine lv_aload_n hx hb dX5_keep_5 rfl (lv_at hl 0 rfl) ?_
  refine lv_aload_n hx hb dX5_keep_6 rfl (lv_at hl 0 rfl) ?_
  refine mg_s F G dX5_keep_7 ?_
  refine lv_aload_n hx hb dX5_keep_10 rfl (lv_at hl 0 rfl) ?_
  refine mg_image F G dX5_keep_11 ?_
  refine kM_setAside_1_2 F G hl.1 ⟨Nat.le_of_ble_eq_true rfl, Nat.le_of_ble_eq_true rfl⟩ (Nat.le_of_ble_eq_true rfl) dX5_keep_14 h (fun I_2 H locs G h => ?_)
  refine lv_aload_n hx hb dX5_keep_17 rfl (lv_at hl 0 rfl) ?_
  refine mg_s F G dX5_keep_18 ?_
  refine lv_iconst (v := 0) hx hb dX5_keep_21 (by decide) ?_
  refine m_ld F G mA_1 (by unfold vp_in; decide) dX5_keep_22 ?_
  exact m_iret F G dX5_keep_23 h

/-! back -/
def M_back  (I : St) (Q : Int32 → St → Prop) : Prop := (¬ (I 0 3) = 0 → M_setAside_2_1  I (fun I_3 => Q (I_3 1 0) I_3)) ∧ ((I 0 3) = 0 → Q (-1000000002) I)
abbrev rmX5_back : Room := { frames := 1, cells := 0, slots := 0, locals := 23 }
set_option maxHeartbeats 4000000 in
set_option maxRecDepth 100000 in
theorem wM_back {l : Launch} {D : va_G} {cl : List vw_C} {a : Nat → Nat} {d : ClassId} (hcl : cl[5]? = some (RX5, TX5, 32)) (sz : Nat)  (I : St) (Q : Int32 → St → Prop) (h : M_back  I Q) : MMi l D cl a d yX5_back cX5_back 1 .int rmX5_back [.ref (a 0)] sz I Q := by
  refine m_enter (Qc := fun A => va_Qi Q (BM D cl a d A) A) hcl (by decide) rfl (Nat.le_of_ble_eq_true rfl) ?_
  intro p e s m below meth c ls A F hG hl
  have G := hG
  have hl : lv_has ls 1 [(0, .ref (a 0))] := hl
  obtain ⟨hx, hb, hr, hml, hown, hts, hlocks, hA, hK, hcl⟩ := id F
  unfold M_back at h
  refine lv_aload_n hx hb dX5_back_0 rfl (lv_at hl 0 rfl) ?_
  refine mg_hasImage F G dX5_back_1 ?_
  refine lv_if_ne (tgt := 11) hx hb dX5_back_4 (by decide) (fun c_1 => ?_) (fun c_1 => ?_)
  · replace h := h.1 c_1
    refine lv_aload_n hx hb dX5_back_11 rfl (lv_at hl 0 rfl) ?_
    refine lv_aload_n hx hb dX5_back_12 rfl (lv_at hl 0 rfl) ?_
    refine mg_image F G dX5_back_13 ?_
    refine lv_aload_n hx hb dX5_back_16 rfl (lv_at hl 0 rfl) ?_
    refine mg_s F G dX5_back_17 ?_
    refine kM_setAside_2_1 F G hl.1 ⟨Nat.le_of_ble_eq_true rfl, Nat.le_of_ble_eq_true rfl⟩ (Nat.le_of_ble_eq_true rfl) dX5_back_20 h (fun I_3 H locs G h => ?_)
    refine lv_aload_n hx hb dX5_back_23 rfl (lv_at hl 0 rfl) ?_
    refine mg_s F G dX5_back_24 ?_
    refine lv_iconst (v := 0) hx hb dX5_back_27 (by decide) ?_
    refine m_ld F G mA_1 (by unfold vp_in; decide) dX5_back_28 ?_
    exact m_iret F G dX5_back_29 h
  · replace h := h.2 c_1
    refine lv_ldcw hx hb hown (hts _ q1665) dX5_back_7 ?_
    exact m_iret F G dX5_back_10 h

/-! count -/
def M_count (v1 : Int32) (I : St) (Q : Int32 → St → Prop) : Prop := (v1 = 0 → Q (I 1 0) I) ∧ (v1 = 1 → Q (I 1 2) I) ∧ (v1 = 2 → Q (I 1 6) I) ∧ (v1 = 3 → Q (I 1 7) I) ∧ (v1 = 4 → Q (I 1 1) I) ∧ (v1 = 5 → Q (I 0 30) I) ∧ (v1 = 6 → Q (I 0 15) I) ∧ (v1 = 7 → Q (I 1 9) I) ∧ (¬ v1 = 0 → ¬ v1 = 1 → ¬ v1 = 2 → ¬ v1 = 3 → ¬ v1 = 4 → ¬ v1 = 5 → ¬ v1 = 6 → ¬ v1 = 7 → Q (-1000000001) I)
abbrev rmX5_count : Room := { frames := 0, cells := 0, slots := 0, locals := 0 }
set_option maxHeartbeats 4000000 in
set_option maxRecDepth 100000 in
theorem wM_count {l : Launch} {D : va_G} {cl : List vw_C} {a : Nat → Nat} {d : ClassId} (hcl : cl[5]? = some (RX5, TX5, 32)) (sz : Nat) (v1 : Int32) (I : St) (Q : Int32 → St → Prop) (h : M_count v1 I Q) : MMi l D cl a d yX5_count cX5_count 2 .int rmX5_count [.ref (a 0), .int v1] sz I Q := by
  refine m_enter (Qc := fun A => va_Qi Q (BM D cl a d A) A) hcl (by decide) rfl (Nat.le_of_ble_eq_true rfl) ?_
  intro p e s m below meth c ls A F hG hl
  have G := hG
  have hl : lv_has ls 2 [(0, .ref (a 0)), (1, .int v1)] := hl
  obtain ⟨hx, hb, hr, hml, hown, hts, hlocks, hA, hK, hcl⟩ := id F
  unfold M_count at h
  refine lv_iload_n hx hb dX5_count_0 rfl (lv_at hl 1 rfl) ?_
  by_cases c_1 : v1 = 0
  · replace h := h.1 c_1
    refine m_tsIn (k := 0) (off := 47) (tgt := 48) hx hb dX5_count_1 c_1 (by decide) (by decide) (by decide) (by decide) ?_
    refine lv_aload_n hx hb dX5_count_48 rfl (lv_at hl 0 rfl) ?_
    refine mg_s F G dX5_count_49 ?_
    refine lv_iconst (v := 0) hx hb dX5_count_52 (by decide) ?_
    refine m_ld F G mA_1 (by unfold vp_in; decide) dX5_count_53 ?_
    exact m_iret F G dX5_count_54 h
  by_cases c_2 : v1 = 1
  · replace h := h.2.1 c_2
    refine m_tsIn (k := 1) (off := 54) (tgt := 55) hx hb dX5_count_1 c_2 (by decide) (by decide) (by decide) (by decide) ?_
    refine lv_aload_n hx hb dX5_count_55 rfl (lv_at hl 0 rfl) ?_
    refine mg_s F G dX5_count_56 ?_
    refine lv_iconst (v := 2) hx hb dX5_count_59 (by decide) ?_
    refine m_ld F G mA_1 (by unfold vp_in; decide) dX5_count_60 ?_
    exact m_iret F G dX5_count_61 h
  by_cases c_3 : v1 = 2
  · replace h := h.2.2.1 c_3
    refine m_tsIn (k := 2) (off := 61) (tgt := 62) hx hb dX5_count_1 c_3 (by decide) (by decide) (by decide) (by decide) ?_
    refine lv_aload_n hx hb dX5_count_62 rfl (lv_at hl 0 rfl) ?_
    refine mg_s F G dX5_count_63 ?_
    refine lv_bipush (v := 6) hx hb dX5_count_66 (by decide) ?_
    refine m_ld F G mA_1 (by unfold vp_in; decide) dX5_count_68 ?_
    exact m_iret F G dX5_count_69 h
  by_cases c_4 : v1 = 3
  · replace h := h.2.2.2.1 c_4
    refine m_tsIn (k := 3) (off := 69) (tgt := 70) hx hb dX5_count_1 c_4 (by decide) (by decide) (by decide) (by decide) ?_
    refine lv_aload_n hx hb dX5_count_70 rfl (lv_at hl 0 rfl) ?_
    refine mg_s F G dX5_count_71 ?_
    refine lv_bipush (v := 7) hx hb dX5_count_74 (by decide) ?_
    refine m_ld F G mA_1 (by unfold vp_in; decide) dX5_count_76 ?_
    exact m_iret F G dX5_count_77 h
  by_cases c_5 : v1 = 4
  · replace h := h.2.2.2.2.1 c_5
    refine m_tsIn (k := 4) (off := 77) (tgt := 78) hx hb dX5_count_1 c_5 (by decide) (by decide) (by decide) (by decide) ?_
    refine lv_aload_n hx hb dX5_count_78 rfl (lv_at hl 0 rfl) ?_
    refine mg_s F G dX5_count_79 ?_
    refine lv_iconst (v := 1) hx hb dX5_count_82 (by decide) ?_
    refine m_ld F G mA_1 (by unfold vp_in; decide) dX5_count_83 ?_
    exact m_iret F G dX5_count_84 h
  by_cases c_6 : v1 = 5
  · replace h := h.2.2.2.2.2.1 c_6
    refine m_tsIn (k := 5) (off := 84) (tgt := 85) hx hb dX5_count_1 c_6 (by decide) (by decide) (by decide) (by decide) ?_
    refine lv_aload_n hx hb dX5_count_85 rfl (lv_at hl 0 rfl) ?_
    refine mg_waiting F G dX5_count_86 ?_
    exact m_iret F G dX5_count_89 h
  by_cases c_7 : v1 = 6
  · replace h := h.2.2.2.2.2.2.1 c_7
    refine m_tsIn (k := 6) (off := 89) (tgt := 90) hx hb dX5_count_1 c_7 (by decide) (by decide) (by decide) (by decide) ?_
    refine lv_aload_n hx hb dX5_count_90 rfl (lv_at hl 0 rfl) ?_
    refine mg_taped F G dX5_count_91 ?_
    exact m_iret F G dX5_count_94 h
  by_cases c_8 : v1 = 7
  · replace h := h.2.2.2.2.2.2.2.1 c_8
    refine m_tsIn (k := 7) (off := 94) (tgt := 95) hx hb dX5_count_1 c_8 (by decide) (by decide) (by decide) (by decide) ?_
    refine lv_aload_n hx hb dX5_count_95 rfl (lv_at hl 0 rfl) ?_
    refine mg_s F G dX5_count_96 ?_
    refine lv_bipush (v := 9) hx hb dX5_count_99 (by decide) ?_
    refine m_ld F G mA_1 (by unfold vp_in; decide) dX5_count_101 ?_
    exact m_iret F G dX5_count_102 h
  replace h := h.2.2.2.2.2.2.2.2 c_1 c_2 c_3 c_4 c_5 c_6 c_7 c_8
  refine m_tsD (ks := [0, 1, 2, 3, 4, 5, 6, 7]) (tgt := 103) hx hb dX5_count_1 (tk_cons c_1 (by decide) (tk_cons c_2 (by decide) (tk_cons c_3 (by decide) (tk_cons c_4 (by decide) (tk_cons c_5 (by decide) (tk_cons c_6 (by decide) (tk_cons c_7 (by decide) (tk_cons c_8 (by decide) tk_nil)))))))) (by decide) (by decide) ?_
  refine lv_ldc hx hb hown (hts _ q1296) dX5_count_103 ?_
  exact m_iret F G dX5_count_105 h

