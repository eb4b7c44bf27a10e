set_option maxRecDepth 100000
/-! StrokesHeard.four -/
def C0_four_L3 (Q : CS → Prop)  (v1 : Int32) : Nat → Int32 → CS → Prop
  | 0, _, _ => False
  | n + 1, v2, S => (v2 < 0 → Q S) ∧ (¬ v2 < 0 → vp_in (S.1 0 7) 96 ∧ (C0_four_L3 Q v1 n (v2 + (-8)) (cF (cA S 22 (S.1 0 7) (vp_nar .byte ((v1 >>> (v2 &&& 31)).toInt8.toInt32))) 0 7 (((cA S 22 (S.1 0 7) (vp_nar .byte ((v1 >>> (v2 &&& 31)).toInt8.toInt32))).1 0 7) + 1))))
def C0_four (v1 : Int32) (S : CS) (Q : CS → Prop) : Prop := ∃ k3, C0_four_L3 Q v1 k3 24 S
abbrev rmX0_four : Room := { frames := 0, cells := 0, slots := 0, locals := 0 }
set_option maxHeartbeats 4000000 in
set_option maxRecDepth 100000 in
theorem wC0_four_L3 {p : Program} {l : Launch} {e : Env} {s : State} {m : MethodId} {args : Array Value} {below : List Frame} {meth : Method} {c : Code} {D : va_G} {a : Nat → Nat} {d : Nat → ClassId} {A : Nat → Prop} {Q : CS → Prop}  (F : FC p s m meth c args D a d A RX0 cX0_four 3 none) (v1 : Int32)  :
    ∀ (n : Nat) (v2 : Int32) (S : CS) (H : Heap) (locs : List Loc) (ls : Array Slot), GC D a d A s.heap S H locs → lv_has ls 3 [(0, .ref (a 0)), (1, .int v1), (2, .int v2)] → C0_four_L3 Q v1 n v2 S → wCv p l e rmX0_four s m args below meth c D a d A Q 0 0 H locs 0 0 (F0 m 3 ls []) := by
  obtain ⟨hx, hb, hr, hml, hown, hts, hlocks, hA, hK, hN⟩ := id F
  intro n
  induction n with
  | zero => intro v2 S H locs ls G hl h; exact absurd h (fun q => q)
  | succ n ih =>
    intro v2 S H locs ls G hl h
    unfold C0_four_L3 at h
    refine lv_iload_n hx hb dX0_four_3 rfl (lv_at hl 2 rfl) ?_
    refine lv_if_lt (tgt := 36) hx hb dX0_four_4 (by decide) (fun c_1 => ?_) (fun c_1 => ?_)
    · replace h := h.1 c_1
      exact c_vret F G dX0_four_36 h
    · replace h := h.2 c_1
      refine lv_aload_n hx hb dX0_four_7 rfl (lv_at hl 0 rfl) ?_
      refine cgX0_0_tape F G dX0_four_8 ?_
      refine lv_aload_n hx hb dX0_four_11 rfl (lv_at hl 0 rfl) ?_
      refine cgX0_0_taped F G dX0_four_12 ?_
      refine lv_iload_n hx hb dX0_four_15 rfl (lv_at hl 1 rfl) ?_
      refine lv_iload_n hx hb dX0_four_16 rfl (lv_at hl 2 rfl) ?_
      refine lv_ishr hx hb dX0_four_17 ?_
      refine lv_i2b (v := (v1 >>> (v2 &&& 31)).toInt8.toInt32) hx hb dX0_four_18 rfl ?_
      obtain ⟨b_2, h⟩ := h
      refine c_bastore F G cI_22 b_2 dX0_four_19 (fun H locs G => ?_)
      refine lv_aload_n hx hb dX0_four_20 rfl (lv_at hl 0 rfl) ?_
      refine lv_dup hx hb dX0_four_21 rfl ?_
      refine cgX0_0_taped F G dX0_four_22 ?_
      refine lv_iconst (v := 1) hx hb dX0_four_25 (by decide) ?_
      refine lv_iadd hx hb dX0_four_26 ?_
      refine cpX0_0_taped F G dX0_four_27 (fun H locs G => ?_)
      refine lv_iinc (v := (v2 + (-8))) (lv' := [(2, .int (v2 + (-8))), (0, .ref (a 0)), (1, .int v1)]) hx hb dX0_four_30 hl (k := 2) rfl rfl (by decide) rfl (fun ls hl => ?_)
      refine lv_goto (tgt := 3) hx hb dX0_four_33 (by decide) ?_
      exact ih (v2 + (-8)) (cF (cA S 22 (S.1 0 7) (vp_nar .byte ((v1 >>> (v2 &&& 31)).toInt8.toInt32))) 0 7 (((cA S 22 (S.1 0 7) (vp_nar .byte ((v1 >>> (v2 &&& 31)).toInt8.toInt32))).1 0 7) + 1)) _ _ _ G (lv_sub hl [1, 2, 0] rfl) h
set_option maxHeartbeats 4000000 in
set_option maxRecDepth 100000 in
theorem wC0_four {l : Launch} {D : va_G} {a : Nat → Nat} {d : Nat → ClassId} (sz : Nat) (v1 : Int32) (S : CS) (Q : CS → Prop) (h : C0_four v1 S Q) : CMv l D a d yX0_four cX0_four 3 rmX0_four 0 0 [.ref (a 0), .int v1] sz S Q := by
  refine c_enter (Qc := fun A => va_Qv Q (BC D a d A) A) RX0 (by decide +kernel) rfl (Nat.le_of_ble_eq_true rfl) ?_
  intro p e s m below meth c ls A hmn F hG hl
  have G := hG
  have hl : lv_has ls 3 [(0, .ref (a 0)), (1, .int v1)] := hl
  obtain ⟨hx, hb, hr, hml, hown, hts, hlocks, hA, hK, hN⟩ := id F
  unfold C0_four at h
  refine lv_bipush (v := 24) hx hb dX0_four_0 (by decide) ?_
  refine lv_istore_n (lv' := [(2, .int 24), (0, .ref (a 0)), (1, .int v1)]) hx hb dX0_four_2 rfl hl (by decide) rfl (fun ls hl => ?_)
  obtain ⟨k3, h⟩ := h
  exact wC0_four_L3 F v1  k3 24 S _ _ _ G (lv_sub hl [1, 2, 0] rfl) h
set_option maxHeartbeats 4000000 in
set_option maxRecDepth 100000 in
theorem kX0_C0_four {p : Program} {l : Launch} {e : Env} {s : State} {m : MethodId} {R : Room} {args : Array Value} {below : List Frame} {meth : Method} {c : Code} {D : va_G} {a : Nat → Nat} {d : Nat → ClassId} {A : Nat → Prop} {Q : State → Prop} {cc : ByteArray} {nL pc cells slots : Nat} {ret : Option FieldType} {ls : Array Slot} {rest : List Value} {v1 : Int32} {S : CS} {H : Heap} {locs : List Loc} {Q1 : CS → Prop} (F : FC p s m meth c args D a d A RX0 cc nL ret) (G : GC D a d A s.heap S H locs) (hsz : ls.size = nL) (hR : rmX0_four.frames + 1 ≤ R.frames ∧ 8 + (3 + 11) + rmX0_four.locals ≤ R.locals) (hc : cells + 0 ≤ R.cells ∧ slots + 0 ≤ R.slots) (hW : (rest.map fun v => v.category).sum ≤ 8) (hd : decode cc pc = .ok (.invokevirtual 129, 3)) (h : C0_four v1 S Q1) (k : ∀ (S1 : CS) (H : Heap) (locs : List Loc), GC D a d A s.heap S1 H locs → Q1 S1 → W p l e R s m args below meth c H locs cells slots Q (F0 m (pc + 3) ls rest)) : W p l e R s m args below meth c H locs cells slots Q (F0 m pc ls (.int v1 :: .ref (a 0) :: rest)) := by
  obtain ⟨hx, hb, hr, hml, hown, hts, hlocks, hA, hK, hN⟩ := id F
  exact c_callv F G (va_runV (As := [.int v1]) (rest := rest) ⟨hx, hb, hml, hown, hts⟩ (wC0_four H.size v1 S Q1 h) (cwV 1 hts (lw_V q357 q359 qs1 q82 q360) rfl rfl rfl (by decide +kernel) hR) ⟨PC_blind, va_recv hK G.1 (ci := 0) (q0 := 0) rfl rfl, c_pre F G⟩ rfl rfl hsz rfl (lv_room hW) hd hc) k
/-! StrokesHeard.feed -/
def C0_feed (v1 : Int32) (v2 : Int32) (v3 : Int32) (S : CS) (Q : Int32 → CS → Prop) : Prop := (((S.1 0 7) + 12) ≤ 96 → C0_four v1 S (fun S_3 => C0_four v2 S_3 (fun S_5 => C0_four v3 S_5 (fun S_7 => Q (S_7.1 0 7) S_7)))) ∧ (¬ ((S.1 0 7) + 12) ≤ 96 → Q (-1000000003) S)
abbrev rmX0_feed : Room := { frames := 1, cells := 0, slots := 0, locals := 22 }
set_option maxHeartbeats 4000000 in
set_option maxRecDepth 100000 in
theorem wC0_feed {l : Launch} {D : va_G} {a : Nat → Nat} {d : Nat → ClassId} (sz : Nat) (v1 : Int32) (v2 : Int32) (v3 : Int32) (S : CS) (Q : Int32 → CS → Prop) (h : C0_feed v1 v2 v3 S Q) : CMi l D a d yX0_feed cX0_feed 4 .int rmX0_feed 0 0 [.ref (a 0), .int v1, .int v2, .int v3] sz S Q := by
  refine c_enter (Qc := fun A => va_Qi Q (BC D a d A) A) RX0 (by decide +kernel) rfl (Nat.le_of_ble_eq_true rfl) ?_
  intro p e s m below meth c ls A hmn F hG hl
  have G := hG
  have hl : lv_has ls 4 [(0, .ref (a 0)), (1, .int v1), (2, .int v2), (3, .int v3)] := hl
  obtain ⟨hx, hb, hr, hml, hown, hts, hlocks, hA, hK, hN⟩ := id F
  unfold C0_feed at h
  refine lv_aload_n hx hb dX0_feed_0 rfl (lv_at hl 0 rfl) ?_
  refine cgX0_0_taped F G dX0_feed_1 ?_
  refine lv_bipush (v := 12) hx hb dX0_feed_4 (by decide) ?_
  refine lv_iadd hx hb dX0_feed_6 ?_
  refine lv_bipush (v := 96) hx hb dX0_feed_7 (by decide) ?_
  refine lv_icmp_le (tgt := 15) hx hb dX0_feed_9 (by decide) (fun c_1 => ?_) (fun c_1 => ?_)
  · replace h := h.1 c_1
    refine lv_aload_n hx hb dX0_feed_15 rfl (lv_at hl 0 rfl) ?_
    refine lv_iload_n hx hb dX0_feed_16 rfl (lv_at hl 1 rfl) ?_
    refine kX0_C0_four F G hl.1 ⟨(Nat.le_of_ble_eq_true rfl), (Nat.le_of_ble_eq_true rfl)⟩ ⟨(Nat.le_of_ble_eq_true rfl), (Nat.le_of_ble_eq_true rfl)⟩ (Nat.le_of_ble_eq_true rfl) dX0_feed_17 h (fun S_3 H locs G h => ?_)
    refine lv_aload_n hx hb dX0_feed_20 rfl (lv_at hl 0 rfl) ?_
    refine lv_iload_n hx hb dX0_feed_21 rfl (lv_at hl 2 rfl) ?_
    refine kX0_C0_four F G hl.1 ⟨(Nat.le_of_ble_eq_true rfl), (Nat.le_of_ble_eq_true rfl)⟩ ⟨(Nat.le_of_ble_eq_true rfl), (Nat.le_of_ble_eq_true rfl)⟩ (Nat.le_of_ble_eq_true rfl) dX0_feed_22 h (fun S_5 H locs G h => ?_)
    refine lv_aload_n hx hb dX0_feed_25 rfl (lv_at hl 0 rfl) ?_
    refine lv_iload_n hx hb dX0_feed_26 rfl (lv_at hl 3 rfl) ?_
    refine kX0_C0_four F G hl.1 ⟨(Nat.le_of_ble_eq_true rfl), (Nat.le_of_ble_eq_true rfl)⟩ ⟨(Nat.le_of_ble_eq_true rfl), (Nat.le_of_ble_eq_true rfl)⟩ (Nat.le_of_ble_eq_true rfl) dX0_feed_27 h (fun S_7 H locs G h => ?_)
    refine lv_aload_n hx hb dX0_feed_30 rfl (lv_at hl 0 rfl) ?_
    refine cgX0_0_taped F G dX0_feed_31 ?_
    exact c_iret F G dX0_feed_34 h
  · replace h := h.2 c_1
    refine lv_ldc hx hb hown (hts _ q356) dX0_feed_12 ?_
    exact c_iret F G dX0_feed_14 h
/-! StrokesHeard.isIn -/
def C0_isIn (v0 : Int32) (v1 : Int32) (v2 : Int32) (S : CS) (Q : Int32 → CS → Prop) : Prop := (v0 < v1 → Q 0 S) ∧ (¬ v0 < v1 → (v2 < v0 → Q 0 S) ∧ (¬ v2 < v0 → Q 1 S))
abbrev rmX0_isIn : Room := { frames := 0, cells := 0, slots := 0, locals := 0 }
set_option maxHeartbeats 4000000 in
set_option maxRecDepth 100000 in
theorem wC0_isIn {l : Launch} {D : va_G} {a : Nat → Nat} {d : Nat → ClassId} (sz : Nat) (v0 : Int32) (v1 : Int32) (v2 : Int32) (S : CS) (Q : Int32 → CS → Prop) (h : C0_isIn v0 v1 v2 S Q) : CMi l D a d yX0_isIn cX0_isIn 3 .boolean rmX0_isIn 0 0 [.int v0, .int v1, .int v2] sz S Q := by
  refine c_enter (Qc := fun A => va_Qi Q (BC D a d A) A) RX0 (by decide +kernel) rfl (Nat.le_of_ble_eq_true rfl) ?_
  intro p e s m below meth c ls A hmn F hG hl
  have G := hG
  have hl : lv_has ls 3 [(0, .int v0), (1, .int v1), (2, .int v2)] := hl
  obtain ⟨hx, hb, hr, hml, hown, hts, hlocks, hA, hK, hN⟩ := id F
  unfold C0_isIn at h
  refine lv_iload_n hx hb dX0_isIn_0 rfl (lv_at hl 0 rfl) ?_
  refine lv_iload_n hx hb dX0_isIn_1 rfl (lv_at hl 1 rfl) ?_
  refine lv_icmp_lt (tgt := 14) hx hb dX0_isIn_2 (by decide) (fun c_1 => ?_) (fun c_1 => ?_)
  · replace h := h.1 c_1
    refine lv_iconst (v := 0) hx hb dX0_isIn_14 (by decide) ?_
    exact c_zret rfl F G dX0_isIn_15 h
  · replace h := h.2 c_1
    refine lv_iload_n hx hb dX0_isIn_5 rfl (lv_at hl 0 rfl) ?_
    refine lv_iload_n hx hb dX0_isIn_6 rfl (lv_at hl 2 rfl) ?_
    refine lv_icmp_gt (tgt := 14) hx hb dX0_isIn_7 (by decide) (fun c_2 => ?_) (fun c_2 => ?_)
    · replace h := h.1 c_2
      refine lv_iconst (v := 0) hx hb dX0_isIn_14 (by decide) ?_
      exact c_zret rfl F G dX0_isIn_15 h
    · replace h := h.2 c_2
      refine lv_iconst (v := 1) hx hb dX0_isIn_10 (by decide) ?_
      refine lv_goto (tgt := 15) hx hb dX0_isIn_11 (by decide) ?_
      exact c_zret rfl F G dX0_isIn_15 h
set_option maxHeartbeats 4000000 in
set_option maxRecDepth 100000 in
theorem kX0_C0_isIn {p : Program} {l : Launch} {e : Env} {s : State} {m : MethodId} {R : Room} {args : Array Value} {below : List Frame} {meth : Method} {c : Code} {D : va_G} {a : Nat → Nat} {d : Nat → ClassId} {A : Nat → Prop} {Q : State → Prop} {cc : ByteArray} {nL pc cells slots : Nat} {ret : Option FieldType} {ls : Array Slot} {rest : List Value} {v0 : Int32} {v1 : Int32} {v2 : Int32} {S : CS} {H : Heap} {locs : List Loc} {Q1 : Int32 → CS → Prop} (F : FC p s m meth c args D a d A RX0 cc nL ret) (G : GC D a d A s.heap S H locs) (hsz : ls.size = nL) (hR : rmX0_isIn.frames + 1 ≤ R.frames ∧ 8 + (3 + 11) + rmX0_isIn.locals ≤ R.locals) (hc : cells + 0 ≤ R.cells ∧ slots + 0 ≤ R.slots) (hW : (rest.map fun v => v.category).sum ≤ 8) (hd : decode cc pc = .ok (.invokestatic 108, 3)) (h : C0_isIn v0 v1 v2 S Q1) (k : ∀ (r : Int32) (S1 : CS) (H : Heap) (locs : List Loc), GC D a d A s.heap S1 H locs → Q1 r S1 → W p l e R s m args below meth c H locs cells slots Q (F0 m (pc + 3) ls (.int r :: rest))) : W p l e R s m args below meth c H locs cells slots Q (F0 m pc ls (.int v2 :: .int v1 :: .int v0 :: rest)) := by
  obtain ⟨hx, hb, hr, hml, hown, hts, hlocks, hA, hK, hN⟩ := id F
  exact c_calli F G (va_runS (As := [.int v0, .int v1, .int v2]) (rest := rest) ⟨hx, hb, hml, hown, hts⟩ (wC0_isIn H.size v0 v1 v2 S Q1 h) (va_cwS 3 hts (lw_S q365 q366 q82 q367) rfl rfl rfl (by decide +kernel) hR) ⟨PC_blind, c_pre F G⟩ rfl rfl hsz rfl (lv_room hW) hd hc) k
/-! StrokesHeard.trim -/
def C0_trim (v1 : Int32) (S : CS) (Q : Int32 → CS → Prop) : Prop := C0_isIn v1 0 (S.1 0 7) S (fun r_1 S_2 => (¬ r_1 = 0 → Q v1 (cF S_2 0 7 v1)) ∧ (r_1 = 0 → Q (-1000000001) S_2))
abbrev rmX0_trim : Room := { frames := 1, cells := 0, slots := 0, locals := 22 }
set_option maxHeartbeats 4000000 in
set_option maxRecDepth 100000 in
theorem wC0_trim {l : Launch} {D : va_G} {a : Nat → Nat} {d : Nat → ClassId} (sz : Nat) (v1 : Int32) (S : CS) (Q : Int32 → CS → Prop) (h : C0_trim v1 S Q) : CMi l D a d yX0_trim cX0_trim 2 .int rmX0_trim 0 0 [.ref (a 0), .int v1] sz S Q := by
  refine c_enter (Qc := fun A => va_Qi Q (BC D a d A) A) RX0 (by decide +kernel) rfl (Nat.le_of_ble_eq_true rfl) ?_
  intro p e s m below meth c ls A hmn F hG hl
  have G := hG
  have hl : lv_has ls 2 [(0, .ref (a 0)), (1, .int v1)] := hl
  obtain ⟨hx, hb, hr, hml, hown, hts, hlocks, hA, hK, hN⟩ := id F
  unfold C0_trim at h
  refine lv_iload_n hx hb dX0_trim_0 rfl (lv_at hl 1 rfl) ?_
  refine lv_iconst (v := 0) hx hb dX0_trim_1 (by decide) ?_
  refine lv_aload_n hx hb dX0_trim_2 rfl (lv_at hl 0 rfl) ?_
  refine cgX0_0_taped F G dX0_trim_3 ?_
  refine kX0_C0_isIn F G hl.1 ⟨(Nat.le_of_ble_eq_true rfl), (Nat.le_of_ble_eq_true rfl)⟩ ⟨(Nat.le_of_ble_eq_true rfl), (Nat.le_of_ble_eq_true rfl)⟩ (Nat.le_of_ble_eq_true rfl) dX0_trim_6 h (fun r_1 S_2 H locs G h => ?_)
  refine lv_if_ne (tgt := 15) hx hb dX0_trim_9 (by decide) (fun c_3 => ?_) (fun c_3 => ?_)
  · replace h := h.1 c_3
    refine lv_aload_n hx hb dX0_trim_15 rfl (lv_at hl 0 rfl) ?_
    refine lv_iload_n hx hb dX0_trim_16 rfl (lv_at hl 1 rfl) ?_
    refine cpX0_0_taped F G dX0_trim_17 (fun H locs G => ?_)
    refine lv_iload_n hx hb dX0_trim_20 rfl (lv_at hl 1 rfl) ?_
    exact c_iret F G dX0_trim_21 h
  · replace h := h.2 c_3
    refine lv_ldc hx hb hown (hts _ q368) dX0_trim_12 ?_
    exact c_iret F G dX0_trim_14 h
/-! StrokesHeard.isLetter -/
def C0_isLetter (v0 : Int32) (S : CS) (Q : Int32 → CS → Prop) : Prop := C0_isIn v0 97 122 S (fun r_1 S_2 => zb r_1 ∧ Q r_1 S_2)
abbrev rmX0_isLetter : Room := { frames := 1, cells := 0, slots := 0, locals := 22 }
set_option maxHeartbeats 4000000 in
set_option maxRecDepth 100000 in
theorem wC0_isLetter {l : Launch} {D : va_G} {a : Nat → Nat} {d : Nat → ClassId} (sz : Nat) (v0 : Int32) (S : CS) (Q : Int32 → CS → Prop) (h : C0_isLetter v0 S Q) : CMi l D a d yX0_isLetter cX0_isLetter 1 .boolean rmX0_isLetter 0 0 [.int v0] sz S Q := by
  refine c_enter (Qc := fun A => va_Qi Q (BC D a d A) A) RX0 (by decide +kernel) rfl (Nat.le_of_ble_eq_true rfl) ?_
  intro p e s m below meth c ls A hmn F hG hl
  have G := hG
  have hl : lv_has ls 1 [(0, .int v0)] := hl
  obtain ⟨hx, hb, hr, hml, hown, hts, hlocks, hA, hK, hN⟩ := id F
  unfold C0_isLetter at h
  refine lv_iload_n hx hb dX0_isLetter_0 rfl (lv_at hl 0 rfl) ?_
  refine lv_bipush (v := 97) hx hb dX0_isLetter_1 (by decide) ?_
  refine lv_bipush (v := 122) hx hb dX0_isLetter_3 (by decide) ?_
  refine kX0_C0_isIn F G hl.1 ⟨(Nat.le_of_ble_eq_true rfl), (Nat.le_of_ble_eq_true rfl)⟩ ⟨(Nat.le_of_ble_eq_true rfl), (Nat.le_of_ble_eq_true rfl)⟩ (Nat.le_of_ble_eq_true rfl) dX0_isLetter_5 h (fun r_1 S_2 H locs G h => ?_)
  exact c_zret h.1 F G dX0_isLetter_8 h.2
/-! StrokesHeard.isDigit -/
def C0_isDigit (v0 : Int32) (S : CS) (Q : Int32 → CS → Prop) : Prop := C0_isIn v0 48 57 S (fun r_1 S_2 => zb r_1 ∧ Q r_1 S_2)
abbrev rmX0_isDigit : Room := { frames := 1, cells := 0, slots := 0, locals := 22 }
set_option maxHeartbeats 4000000 in
set_option maxRecDepth 100000 in
theorem wC0_isDigit {l : Launch} {D : va_G} {a : Nat → Nat} {d : Nat → ClassId} (sz : Nat) (v0 : Int32) (S : CS) (Q : Int32 → CS → Prop) (h : C0_isDigit v0 S Q) : CMi l D a d yX0_isDigit cX0_isDigit 1 .boolean rmX0_isDigit 0 0 [.int v0] sz S Q := by
  refine c_enter (Qc := fun A => va_Qi Q (BC D a d A) A) RX0 (by decide +kernel) rfl (Nat.le_of_ble_eq_true rfl) ?_
  intro p e s m below meth c ls A hmn F hG hl
  have G := hG
  have hl : lv_has ls 1 [(0, .int v0)] := hl
  obtain ⟨hx, hb, hr, hml, hown, hts, hlocks, hA, hK, hN⟩ := id F
  unfold C0_isDigit at h
  refine lv_iload_n hx hb dX0_isDigit_0 rfl (lv_at hl 0 rfl) ?_
  refine lv_bipush (v := 48) hx hb dX0_isDigit_1 (by decide) ?_
  refine lv_bipush (v := 57) hx hb dX0_isDigit_3 (by decide) ?_
  refine kX0_C0_isIn F G hl.1 ⟨(Nat.le_of_ble_eq_true rfl), (Nat.le_of_ble_eq_true rfl)⟩ ⟨(Nat.le_of_ble_eq_true rfl), (Nat.le_of_ble_eq_true rfl)⟩ (Nat.le_of_ble_eq_true rfl) dX0_isDigit_5 h (fun r_1 S_2 H locs G h => ?_)
  exact c_zret h.1 F G dX0_isDigit_8 h.2
/-! StrokesHeard.isSign -/
def C0_isSign (v1 : Int32) (S : CS) (Q : Int32 → CS → Prop) : Prop := ((S.1 0 11) ≤ (S.1 0 9) → Q 0 S) ∧ (¬ (S.1 0 11) ≤ (S.1 0 9) → (¬ ((S.1 0 10) - (S.1 0 9)) = 1 → Q 0 S) ∧ (((S.1 0 10) - (S.1 0 9)) = 1 → vp_in (S.1 0 9) 96 ∧ ((¬ (S.1 22 ((S.1 0 9).toNatClampNeg)) = v1 → Q 0 S) ∧ ((S.1 22 ((S.1 0 9).toNatClampNeg)) = v1 → Q 1 S))))
abbrev rmX0_isSign : Room := { frames := 0, cells := 0, slots := 0, locals := 0 }
set_option maxHeartbeats 4000000 in
set_option maxRecDepth 100000 in
theorem wC0_isSign {l : Launch} {D : va_G} {a : Nat → Nat} {d : Nat → ClassId} (sz : Nat) (v1 : Int32) (S : CS) (Q : Int32 → CS → Prop) (h : C0_isSign v1 S Q) : CMi l D a d yX0_isSign cX0_isSign 2 .boolean rmX0_isSign 0 0 [.ref (a 0), .int v1] sz S Q := by
  refine c_enter (Qc := fun A => va_Qi Q (BC D a d A) A) RX0 (by decide +kernel) rfl (Nat.le_of_ble_eq_true rfl) ?_
  intro p e s m below meth c ls A hmn F hG hl
  have G := hG
  have hl : lv_has ls 2 [(0, .ref (a 0)), (1, .int v1)] := hl
  obtain ⟨hx, hb, hr, hml, hown, hts, hlocks, hA, hK, hN⟩ := id F
  unfold C0_isSign at h
  refine lv_aload_n hx hb dX0_isSign_0 rfl (lv_at hl 0 rfl) ?_
  refine cgX0_0_from F G dX0_isSign_1 ?_
  refine lv_aload_n hx hb dX0_isSign_4 rfl (lv_at hl 0 rfl) ?_
  refine cgX0_0_end F G dX0_isSign_5 ?_
  refine lv_icmp_ge (tgt := 41) hx hb dX0_isSign_8 (by decide) (fun c_1 => ?_) (fun c_1 => ?_)
  · replace h := h.1 c_1
    refine lv_iconst (v := 0) hx hb dX0_isSign_41 (by decide) ?_
    exact c_zret rfl F G dX0_isSign_42 h
  · replace h := h.2 c_1
    refine lv_aload_n hx hb dX0_isSign_11 rfl (lv_at hl 0 rfl) ?_
    refine cgX0_0_to F G dX0_isSign_12 ?_
    refine lv_aload_n hx hb dX0_isSign_15 rfl (lv_at hl 0 rfl) ?_
    refine cgX0_0_from F G dX0_isSign_16 ?_
    refine lv_isub hx hb dX0_isSign_19 ?_
    refine lv_iconst (v := 1) hx hb dX0_isSign_20 (by decide) ?_
    refine lv_icmp_ne (tgt := 41) hx hb dX0_isSign_21 (by decide) (fun c_2 => ?_) (fun c_2 => ?_)
    · replace h := h.1 c_2
      refine lv_iconst (v := 0) hx hb dX0_isSign_41 (by decide) ?_
      exact c_zret rfl F G dX0_isSign_42 h
    · replace h := h.2 c_2
      refine lv_aload_n hx hb dX0_isSign_24 rfl (lv_at hl 0 rfl) ?_
      refine cgX0_0_tape F G dX0_isSign_25 ?_
      refine lv_aload_n hx hb dX0_isSign_28 rfl (lv_at hl 0 rfl) ?_
      refine cgX0_0_from F G dX0_isSign_29 ?_
      obtain ⟨b_3, h⟩ := h
      refine c_baload F G cI_22 b_3 dX0_isSign_32 ?_
      refine lv_iload_n hx hb dX0_isSign_33 rfl (lv_at hl 1 rfl) ?_
      refine lv_icmp_ne (tgt := 41) hx hb dX0_isSign_34 (by decide) (fun c_4 => ?_) (fun c_4 => ?_)
      · replace h := h.1 c_4
        refine lv_iconst (v := 0) hx hb dX0_isSign_41 (by decide) ?_
        exact c_zret rfl F G dX0_isSign_42 h
      · replace h := h.2 c_4
        refine lv_iconst (v := 1) hx hb dX0_isSign_37 (by decide) ?_
        refine lv_goto (tgt := 42) hx hb dX0_isSign_38 (by decide) ?_
        exact c_zret rfl F G dX0_isSign_42 h
/-! StrokesHeard.isName -/
def C0_isName (v1 : Int32) (S : CS) (Q : Int32 → CS → Prop) : Prop := (v1 = 101 → (¬ (S.1 0 15) = 1 → Q 0 S) ∧ ((S.1 0 15) = 1 → Q 1 S)) ∧ (v1 = 104 → (¬ (S.1 0 15) = 0 → Q 0 S) ∧ ((S.1 0 15) = 0 → Q 1 S)) ∧ (v1 = 109 → (¬ (S.1 0 15) = 1 → Q 0 S) ∧ ((S.1 0 15) = 1 → Q 1 S)) ∧ (v1 = 111 → ((S.1 0 15) = 1 → Q 0 S) ∧ (¬ (S.1 0 15) = 1 → Q 1 S)) ∧ (v1 = 116 → ((S.1 0 15) = 1 → Q 0 S) ∧ (¬ (S.1 0 15) = 1 → Q 1 S)) ∧ (¬ v1 = 101 → ¬ v1 = 104 → ¬ v1 = 109 → ¬ v1 = 111 → ¬ v1 = 116 → Q 0 S)
abbrev rmX0_isName : Room := { frames := 0, cells := 0, slots := 0, locals := 0 }
set_option maxHeartbeats 4000000 in
set_option maxRecDepth 100000 in
theorem wC0_isName {l : Launch} {D : va_G} {a : Nat → Nat} {d : Nat → ClassId} (sz : Nat) (v1 : Int32) (S : CS) (Q : Int32 → CS → Prop) (h : C0_isName v1 S Q) : CMi l D a d yX0_isName cX0_isName 2 .boolean rmX0_isName 0 0 [.ref (a 0), .int v1] sz S Q := by
  refine c_enter (Qc := fun A => va_Qi Q (BC D a d A) A) RX0 (by decide +kernel) rfl (Nat.le_of_ble_eq_true rfl) ?_
  intro p e s m below meth c ls A hmn F hG hl
  have G := hG
  have hl : lv_has ls 2 [(0, .ref (a 0)), (1, .int v1)] := hl
  obtain ⟨hx, hb, hr, hml, hown, hts, hlocks, hA, hK, hN⟩ := id F
  unfold C0_isName at h
  refine lv_iload_n hx hb dX0_isName_0 rfl (lv_at hl 1 rfl) ?_
  by_cases c_1 : v1 = 101
  · replace h := h.1 c_1
    refine m_lsIn (k := 101) (off := 92) (tgt := 93) hx hb dX0_isName_1 c_1 (by decide) (by decide) (by decide) ?_
    refine lv_aload_n hx hb dX0_isName_93 rfl (lv_at hl 0 rfl) ?_
    refine cgX0_0_keyRead F G dX0_isName_94 ?_
    refine lv_iconst (v := 1) hx hb dX0_isName_97 (by decide) ?_
    refine lv_icmp_ne (tgt := 105) hx hb dX0_isName_98 (by decide) (fun c_2 => ?_) (fun c_2 => ?_)
    · replace h := h.1 c_2
      refine lv_iconst (v := 0) hx hb dX0_isName_105 (by decide) ?_
      exact c_zret rfl F G dX0_isName_106 h
    · replace h := h.2 c_2
      refine lv_iconst (v := 1) hx hb dX0_isName_101 (by decide) ?_
      refine lv_goto (tgt := 106) hx hb dX0_isName_102 (by decide) ?_
      exact c_zret rfl F G dX0_isName_106 h
  by_cases c_3 : v1 = 104
  · replace h := h.2.1 c_3
    refine m_lsIn (k := 104) (off := 79) (tgt := 80) hx hb dX0_isName_1 c_3 (by decide) (by decide) (by decide) ?_
    refine lv_aload_n hx hb dX0_isName_80 rfl (lv_at hl 0 rfl) ?_
    refine cgX0_0_keyRead F G dX0_isName_81 ?_
    refine lv_if_ne (tgt := 91) hx hb dX0_isName_84 (by decide) (fun c_4 => ?_) (fun c_4 => ?_)
    · replace h := h.1 c_4
      refine lv_iconst (v := 0) hx hb dX0_isName_91 (by decide) ?_
      exact c_zret rfl F G dX0_isName_92 h
    · replace h := h.2 c_4
      refine lv_iconst (v := 1) hx hb dX0_isName_87 (by decide) ?_
      refine lv_goto (tgt := 92) hx hb dX0_isName_88 (by decide) ?_
      exact c_zret rfl F G dX0_isName_92 h
  by_cases c_5 : v1 = 109
  · replace h := h.2.2.1 c_5
    refine m_lsIn (k := 109) (off := 106) (tgt := 107) hx hb dX0_isName_1 c_5 (by decide) (by decide) (by decide) ?_
    refine lv_aload_n hx hb dX0_isName_107 rfl (lv_at hl 0 rfl) ?_
    refine cgX0_0_keyRead F G dX0_isName_108 ?_
    refine lv_iconst (v := 1) hx hb dX0_isName_111 (by decide) ?_
    refine lv_icmp_ne (tgt := 119) hx hb dX0_isName_112 (by decide) (fun c_6 => ?_) (fun c_6 => ?_)
    · replace h := h.1 c_6
      refine lv_iconst (v := 0) hx hb dX0_isName_119 (by decide) ?_
      exact c_zret rfl F G dX0_isName_120 h
    · replace h := h.2 c_6
      refine lv_iconst (v := 1) hx hb dX0_isName_115 (by decide) ?_
      refine lv_goto (tgt := 120) hx hb dX0_isName_116 (by decide) ?_
      exact c_zret rfl F G dX0_isName_120 h
  by_cases c_7 : v1 = 111
  · replace h := h.2.2.2.1 c_7
    refine m_lsIn (k := 111) (off := 51) (tgt := 52) hx hb dX0_isName_1 c_7 (by decide) (by decide) (by decide) ?_
    refine lv_aload_n hx hb dX0_isName_52 rfl (lv_at hl 0 rfl) ?_
    refine cgX0_0_keyRead F G dX0_isName_53 ?_
    refine lv_iconst (v := 1) hx hb dX0_isName_56 (by decide) ?_
    refine lv_icmp_eq (tgt := 64) hx hb dX0_isName_57 (by decide) (fun c_8 => ?_) (fun c_8 => ?_)
    · replace h := h.1 c_8
      refine lv_iconst (v := 0) hx hb dX0_isName_64 (by decide) ?_
      exact c_zret rfl F G dX0_isName_65 h
    · replace h := h.2 c_8
      refine lv_iconst (v := 1) hx hb dX0_isName_60 (by decide) ?_
      refine lv_goto (tgt := 65) hx hb dX0_isName_61 (by decide) ?_
      exact c_zret rfl F G dX0_isName_65 h
  by_cases c_9 : v1 = 116
  · replace h := h.2.2.2.2.1 c_9
    refine m_lsIn (k := 116) (off := 65) (tgt := 66) hx hb dX0_isName_1 c_9 (by decide) (by decide) (by decide) ?_
    refine lv_aload_n hx hb dX0_isName_66 rfl (lv_at hl 0 rfl) ?_
    refine cgX0_0_keyRead F G dX0_isName_67 ?_
    refine lv_iconst (v := 1) hx hb dX0_isName_70 (by decide) ?_
    refine lv_icmp_eq (tgt := 78) hx hb dX0_isName_71 (by decide) (fun c_10 => ?_) (fun c_10 => ?_)
    · replace h := h.1 c_10
      refine lv_iconst (v := 0) hx hb dX0_isName_78 (by decide) ?_
      exact c_zret rfl F G dX0_isName_79 h
    · replace h := h.2 c_10
      refine lv_iconst (v := 1) hx hb dX0_isName_74 (by decide) ?_
      refine lv_goto (tgt := 79) hx hb dX0_isName_75 (by decide) ?_
      exact c_zret rfl F G dX0_isName_79 h
  replace h := h.2.2.2.2.2 c_1 c_3 c_5 c_7 c_9
  refine m_lsD (ks := [101, 104, 109, 111, 116]) (tgt := 121) hx hb dX0_isName_1 (tk_cons c_1 (by decide) (tk_cons c_3 (by decide) (tk_cons c_5 (by decide) (tk_cons c_7 (by decide) (tk_cons c_9 (by decide) tk_nil))))) (by decide) (by decide) ?_
  refine lv_iconst (v := 0) hx hb dX0_isName_121 (by decide) ?_
  exact c_zret rfl F G dX0_isName_122 h
/-! StrokesHeard.textTold -/
def C0_textTold (v1 : Int32) (v2 : Int32) (S : CS) (Q : Int32 → CS → Prop) : Prop := C0_isIn v1 0 ((S.1 1 10) - 1) S (fun r_1 S_2 => (r_1 = 0 → Q (-1000000001) S_2) ∧ (¬ r_1 = 0 → C0_isIn v2 0 1 S_2 (fun r_4 S_5 => (¬ r_4 = 0 → (¬ v2 = 0 → vp_in v1 14 ∧ (∃ y_9 : Nat, (S_5.2.1 17 v1.toNatClampNeg) = some y_9 ∧ (∃ (fs_10 : List Value) (i_13 : Int32), has S_5 y_9 (.inr (13, fs_10)) ∧ fs_10[2]? = some (.int i_13) ∧ (Q i_13 S_5)))) ∧ (v2 = 0 → vp_in v1 14 ∧ (∃ y_15 : Nat, (S_5.2.1 17 v1.toNatClampNeg) = some y_15 ∧ (∃ (fs_16 : List Value) (i_19 : Int32), has S_5 y_15 (.inr (13, fs_16)) ∧ fs_16[0]? = some (.int i_19) ∧ (Q i_19 S_5))))) ∧ (r_4 = 0 → Q (-1000000001) S_5))))
abbrev rmX0_textTold : Room := { frames := 1, cells := 0, slots := 0, locals := 22 }
set_option maxHeartbeats 4000000 in
set_option maxRecDepth 100000 in
theorem wC0_textTold {l : Launch} {D : va_G} {a : Nat → Nat} {d : Nat → ClassId} (sz : Nat) (v1 : Int32) (v2 : Int32) (S : CS) (Q : Int32 → CS → Prop) (h : C0_textTold v1 v2 S Q) : CMi l D a d yX0_textTold cX0_textTold 3 .int rmX0_textTold 0 0 [.ref (a 0), .int v1, .int v2] sz S Q := by
  refine c_enter (Qc := fun A => va_Qi Q (BC D a d A) A) RX0 (by decide +kernel) rfl (Nat.le_of_ble_eq_true rfl) ?_
  intro p e s m below meth c ls A hmn F hG hl
  have G := hG
  have hl : lv_has ls 3 [(0, .ref (a 0)), (1, .int v1), (2, .int v2)] := hl
  obtain ⟨hx, hb, hr, hml, hown, hts, hlocks, hA, hK, hN⟩ := id F
  unfold C0_textTold at h
  refine lv_iload_n hx hb dX0_textTold_0 rfl (lv_at hl 1 rfl) ?_
  refine lv_iconst (v := 0) hx hb dX0_textTold_1 (by decide) ?_
  refine lv_aload_n hx hb dX0_textTold_2 rfl (lv_at hl 0 rfl) ?_
  refine cgX0_0_now F G dX0_textTold_3 ?_
  refine cgX0_1_texts F G dX0_textTold_6 ?_
  refine lv_iconst (v := 1) hx hb dX0_textTold_9 (by decide) ?_
  refine lv_isub hx hb dX0_textTold_10 ?_
  refine kX0_C0_isIn F G hl.1 ⟨(Nat.le_of_ble_eq_true rfl), (Nat.le_of_ble_eq_true rfl)⟩ ⟨(Nat.le_of_ble_eq_true rfl), (Nat.le_of_ble_eq_true rfl)⟩ (Nat.le_of_ble_eq_true rfl) dX0_textTold_11 h (fun r_1 S_2 H locs G h => ?_)
  refine lv_if_eq (tgt := 26) hx hb dX0_textTold_14 (by decide) (fun c_3 => ?_) (fun c_3 => ?_)
  · replace h := h.1 c_3
    refine lv_ldc hx hb hown (hts _ q368) dX0_textTold_26 ?_
    exact c_iret F G dX0_textTold_28 h
  · replace h := h.2 c_3
    refine lv_iload_n hx hb dX0_textTold_17 rfl (lv_at hl 2 rfl) ?_
    refine lv_iconst (v := 0) hx hb dX0_textTold_18 (by decide) ?_
    refine lv_iconst (v := 1) hx hb dX0_textTold_19 (by decide) ?_
    refine kX0_C0_isIn F G hl.1 ⟨(Nat.le_of_ble_eq_true rfl), (Nat.le_of_ble_eq_true rfl)⟩ ⟨(Nat.le_of_ble_eq_true rfl), (Nat.le_of_ble_eq_true rfl)⟩ (Nat.le_of_ble_eq_true rfl) dX0_textTold_20 h (fun r_4 S_5 H locs G h => ?_)
    refine lv_if_ne (tgt := 29) hx hb dX0_textTold_23 (by decide) (fun c_6 => ?_) (fun c_6 => ?_)
    · replace h := h.1 c_6
      refine lv_iload_n hx hb dX0_textTold_29 rfl (lv_at hl 2 rfl) ?_
      refine lv_if_ne (tgt := 48) hx hb dX0_textTold_30 (by decide) (fun c_7 => ?_) (fun c_7 => ?_)
      · replace h := h.1 c_7
        refine lv_aload_n hx hb dX0_textTold_48 rfl (lv_at hl 0 rfl) ?_
        refine cgX0_0_now F G dX0_textTold_49 ?_
        refine cgX0_1_text F G dX0_textTold_52 ?_
        refine lv_iload_n hx hb dX0_textTold_55 rfl (lv_at hl 1 rfl) ?_
        obtain ⟨b_8, h⟩ := h
        refine c_aaload F G cR_17 rfl b_8 dX0_textTold_56 ?_
        obtain ⟨y_9, hy_9, h⟩ := h
        refine c_nn hy_9 ?_
        obtain ⟨fs_10, i_13, z_11, u_12, h⟩ := h
        refine pgX0_X13_many F G z_11 u_12 dX0_textTold_57 ?_
        exact c_iret F G dX0_textTold_60 h
      · replace h := h.2 c_7
        refine lv_aload_n hx hb dX0_textTold_33 rfl (lv_at hl 0 rfl) ?_
        refine cgX0_0_now F G dX0_textTold_34 ?_
        refine cgX0_1_text F G dX0_textTold_37 ?_
        refine lv_iload_n hx hb dX0_textTold_40 rfl (lv_at hl 1 rfl) ?_
        obtain ⟨b_14, h⟩ := h
        refine c_aaload F G cR_17 rfl b_14 dX0_textTold_41 ?_
        obtain ⟨y_15, hy_15, h⟩ := h
        refine c_nn hy_15 ?_
        obtain ⟨fs_16, i_19, z_17, u_18, h⟩ := h
        refine pgX0_X13_key F G z_17 u_18 dX0_textTold_42 ?_
        refine lv_goto (tgt := 60) hx hb dX0_textTold_45 (by decide) ?_
        exact c_iret F G dX0_textTold_60 h
    · replace h := h.2 c_6
      refine lv_ldc hx hb hown (hts _ q368) dX0_textTold_26 ?_
      exact c_iret F G dX0_textTold_28 h
/-! StrokesHeard.counts -/
def C0_counts_p36 (Q : Int32 → CS → Prop) (K4 : Int32 → Int32 → CS → Prop) (v1 : Int32) (v3 : Int32) (t0 : Int32) (S : CS) : Prop := K4 t0 (v3 + 1) S
def C0_counts_L4 (Q : Int32 → CS → Prop)  (v1 : Int32) : Nat → Int32 → Int32 → CS → Prop
  | 0, _, _, _ => False
  | n + 1, v2, v3, S => ((S.1 1 10) ≤ v3 → Q v2 S) ∧ (¬ (S.1 1 10) ≤ v3 → vp_in v3 14 ∧ (∃ y_3 : Nat, (S.2.1 17 v3.toNatClampNeg) = some y_3 ∧ (∃ (fs_4 : List Value) (i_7 : Int32), has S y_3 (.inr (13, fs_4)) ∧ fs_4[0]? = some (.int i_7) ∧ ((¬ i_7 = v1 → C0_counts_p36 Q (fun v2_ v3_ S_ => C0_counts_L4 Q v1 n v2_ v3_ S_) v1 v3 v2 S) ∧ (i_7 = v1 → C0_counts_p36 Q (fun v2_ v3_ S_ => C0_counts_L4 Q v1 n v2_ v3_ S_) v1 v3 v3 S)))))
def C0_counts (v1 : Int32) (S : CS) (Q : Int32 → CS → Prop) : Prop := ∃ k4, C0_counts_L4 Q v1 k4 (-1) 0 S
abbrev rmX0_counts : Room := { frames := 0, cells := 0, slots := 0, locals := 0 }
set_option maxHeartbeats 4000000 in
set_option maxRecDepth 100000 in
theorem wC0_counts_p36 {p : Program} {l : Launch} {e : Env} {s : State} {m : MethodId} {args : Array Value} {below : List Frame} {meth : Method} {c : Code} {D : va_G} {a : Nat → Nat} {d : Nat → ClassId} {A : Nat → Prop} {Q : Int32 → CS → Prop} {K4 : Int32 → Int32 → CS → Prop} (F : FC p s m meth c args D a d A RX0 cX0_counts 4 (some .int)) (v1 : Int32) (v3 : Int32) (t0 : Int32) (S : CS) (hK4 : ∀ (v2 : Int32) (v3 : Int32) (S : CS) (H : Heap) (locs : List Loc) (ls : Array Slot), GC D a d A s.heap S H locs → lv_has ls 4 [(0, .ref (a 0)), (1, .int v1), (2, .int v2), (3, .int v3)] → K4 v2 v3 S → wCi p l e rmX0_counts s m args below meth c D a d A Q 0 0 H locs 0 0 (F0 m 4 ls [])) {H : Heap} {locs : List Loc} {ls : Array Slot} (G : GC D a d A s.heap S H locs) (hl : lv_has ls 4 [(0, .ref (a 0)), (1, .int v1), (3, .int v3)]) (h : C0_counts_p36 Q K4 v1 v3 t0 S) : wCi p l e rmX0_counts s m args below meth c D a d A Q 0 0 H locs 0 0 (F0 m 36 ls [.int t0]) := by
  obtain ⟨hx, hb, hr, hml, hown, hts, hlocks, hA, hK, hN⟩ := id F
  unfold C0_counts_p36 at h
  refine lv_istore_n (lv' := [(2, .int t0), (0, .ref (a 0)), (1, .int v1), (3, .int v3)]) hx hb dX0_counts_36 rfl hl (by decide) rfl (fun ls hl => ?_)
  refine lv_iinc (v := (v3 + 1)) (lv' := [(3, .int (v3 + 1)), (2, .int t0), (0, .ref (a 0)), (1, .int v1)]) hx hb dX0_counts_37 hl (k := 3) rfl rfl (by decide) rfl (fun ls hl => ?_)
  refine lv_goto (tgt := 4) hx hb dX0_counts_40 (by decide) ?_
  exact hK4 t0 (v3 + 1) S _ _ _ G (lv_sub hl [2, 3, 1, 0] rfl) h
set_option maxHeartbeats 4000000 in
set_option maxRecDepth 100000 in
theorem wC0_counts_L4 {p : Program} {l : Launch} {e : Env} {s : State} {m : MethodId} {args : Array Value} {below : List Frame} {meth : Method} {c : Code} {D : va_G} {a : Nat → Nat} {d : Nat → ClassId} {A : Nat → Prop} {Q : Int32 → CS → Prop}  (F : FC p s m meth c args D a d A RX0 cX0_counts 4 (some .int)) (v1 : Int32)  :
    ∀ (n : Nat) (v2 : Int32) (v3 : Int32) (S : CS) (H : Heap) (locs : List Loc) (ls : Array Slot), GC D a d A s.heap S H locs → lv_has ls 4 [(0, .ref (a 0)), (1, .int v1), (2, .int v2), (3, .int v3)] → C0_counts_L4 Q v1 n v2 v3 S → wCi p l e rmX0_counts s m args below meth c D a d A Q 0 0 H locs 0 0 (F0 m 4 ls []) := by
  obtain ⟨hx, hb, hr, hml, hown, hts, hlocks, hA, hK, hN⟩ := id F
  intro n
  induction n with
  | zero => intro v2 v3 S H locs ls G hl h; exact absurd h (fun q => q)
  | succ n ih =>
    intro v2 v3 S H locs ls G hl h
    unfold C0_counts_L4 at h
    refine lv_iload_n hx hb dX0_counts_4 rfl (lv_at hl 3 rfl) ?_
    refine lv_aload_n hx hb dX0_counts_5 rfl (lv_at hl 0 rfl) ?_
    refine cgX0_0_now F G dX0_counts_6 ?_
    refine cgX0_1_texts F G dX0_counts_9 ?_
    refine lv_icmp_ge (tgt := 43) hx hb dX0_counts_12 (by decide) (fun c_1 => ?_) (fun c_1 => ?_)
    · replace h := h.1 c_1
      refine lv_iload_n hx hb dX0_counts_43 rfl (lv_at hl 2 rfl) ?_
      exact c_iret F G dX0_counts_44 h
    · replace h := h.2 c_1
      refine lv_aload_n hx hb dX0_counts_15 rfl (lv_at hl 0 rfl) ?_
      refine cgX0_0_now F G dX0_counts_16 ?_
      refine cgX0_1_text F G dX0_counts_19 ?_
      refine lv_iload_n hx hb dX0_counts_22 rfl (lv_at hl 3 rfl) ?_
      obtain ⟨b_2, h⟩ := h
      refine c_aaload F G cR_17 rfl b_2 dX0_counts_23 ?_
      obtain ⟨y_3, hy_3, h⟩ := h
      refine c_nn hy_3 ?_
      obtain ⟨fs_4, i_7, z_5, u_6, h⟩ := h
      refine pgX0_X13_key F G z_5 u_6 dX0_counts_24 ?_
      refine lv_iload_n hx hb dX0_counts_27 rfl (lv_at hl 1 rfl) ?_
      refine lv_icmp_ne (tgt := 35) hx hb dX0_counts_28 (by decide) (fun c_8 => ?_) (fun c_8 => ?_)
      · replace h := h.1 c_8
        refine lv_iload_n hx hb dX0_counts_35 rfl (lv_at hl 2 rfl) ?_
        exact wC0_counts_p36 F v1 v3 v2 S ih G (lv_sub hl [0, 1, 3] rfl) h
      · replace h := h.2 c_8
        refine lv_iload_n hx hb dX0_counts_31 rfl (lv_at hl 3 rfl) ?_
        refine lv_goto (tgt := 36) hx hb dX0_counts_32 (by decide) ?_
        exact wC0_counts_p36 F v1 v3 v3 S ih G (lv_sub hl [0, 1, 3] rfl) h
set_option maxHeartbeats 4000000 in
set_option maxRecDepth 100000 in
theorem wC0_counts {l : Launch} {D : va_G} {a : Nat → Nat} {d : Nat → ClassId} (sz : Nat) (v1 : Int32) (S : CS) (Q : Int32 → CS → Prop) (h : C0_counts v1 S Q) : CMi l D a d yX0_counts cX0_counts 4 .int rmX0_counts 0 0 [.ref (a 0), .int v1] sz S Q := by
  refine c_enter (Qc := fun A => va_Qi Q (BC D a d A) A) RX0 (by decide +kernel) rfl (Nat.le_of_ble_eq_true rfl) ?_
  intro p e s m below meth c ls A hmn F hG hl
  have G := hG
  have hl : lv_has ls 4 [(0, .ref (a 0)), (1, .int v1)] := hl
  obtain ⟨hx, hb, hr, hml, hown, hts, hlocks, hA, hK, hN⟩ := id F
  unfold C0_counts at h
  refine lv_iconst (v := (-1)) hx hb dX0_counts_0 (by decide) ?_
  refine lv_istore_n (lv' := [(2, .int (-1)), (0, .ref (a 0)), (1, .int v1)]) hx hb dX0_counts_1 rfl hl (by decide) rfl (fun ls hl => ?_)
  refine lv_iconst (v := 0) hx hb dX0_counts_2 (by decide) ?_
  refine lv_istore_n (lv' := [(3, .int 0), (2, .int (-1)), (0, .ref (a 0)), (1, .int v1)]) hx hb dX0_counts_3 rfl hl (by decide) rfl (fun ls hl => ?_)
  obtain ⟨k4, h⟩ := h
  exact wC0_counts_L4 F v1  k4 (-1) 0 S _ _ _ G (lv_sub hl [2, 3, 1, 0] rfl) h
set_option maxHeartbeats 4000000 in
set_option maxRecDepth 100000 in
theorem kX0_C0_counts {p : Program} {l : Launch} {e : Env} {s : State} {m : MethodId} {R : Room} {args : Array Value} {below : List Frame} {meth : Method} {c : Code} {D : va_G} {a : Nat → Nat} {d : Nat → ClassId} {A : Nat → Prop} {Q : State → Prop} {cc : ByteArray} {nL pc cells slots : Nat} {ret : Option FieldType} {ls : Array Slot} {rest : List Value} {v1 : Int32} {S : CS} {H : Heap} {locs : List Loc} {Q1 : Int32 → CS → Prop} (F : FC p s m meth c args D a d A RX0 cc nL ret) (G : GC D a d A s.heap S H locs) (hsz : ls.size = nL) (hR : rmX0_counts.frames + 1 ≤ R.frames ∧ 8 + (4 + 11) + rmX0_counts.locals ≤ R.locals) (hc : cells + 0 ≤ R.cells ∧ slots + 0 ≤ R.slots) (hW : (rest.map fun v => v.category).sum ≤ 8) (hd : decode cc pc = .ok (.invokevirtual 250, 3)) (h : C0_counts v1 S Q1) (k : ∀ (r : Int32) (S1 : CS) (H : Heap) (locs : List Loc), GC D a d A s.heap S1 H locs → Q1 r S1 → W p l e R s m args below meth c H locs cells slots Q (F0 m (pc + 3) ls (.int r :: rest))) : W p l e R s m args below meth c H locs cells slots Q (F0 m pc ls (.int v1 :: .ref (a 0) :: rest)) := by
  obtain ⟨hx, hb, hr, hml, hown, hts, hlocks, hA, hK, hN⟩ := id F
  exact c_calli F G (va_runV (As := [.int v1]) (rest := rest) ⟨hx, hb, hml, hown, hts⟩ (wC0_counts H.size v1 S Q1 h) (cwV 1 hts (lw_V q540 q542 qs17 q82 q543) rfl rfl rfl (by decide +kernel) hR) ⟨PC_blind, va_recv hK G.1 (ci := 0) (q0 := 0) rfl rfl, c_pre F G⟩ rfl rfl hsz rfl (lv_room hW) hd hc) k
/-! StrokesHeard.orNone -/
def C0_orNone (v0 : Int32) (S : CS) (Q : Int32 → CS → Prop) : Prop := (¬ v0 = (-1) → Q v0 S) ∧ (v0 = (-1) → Q (-1000000005) S)
abbrev rmX0_orNone : Room := { frames := 0, cells := 0, slots := 0, locals := 0 }
set_option maxHeartbeats 4000000 in
set_option maxRecDepth 100000 in
theorem wC0_orNone {l : Launch} {D : va_G} {a : Nat → Nat} {d : Nat → ClassId} (sz : Nat) (v0 : Int32) (S : CS) (Q : Int32 → CS → Prop) (h : C0_orNone v0 S Q) : CMi l D a d yX0_orNone cX0_orNone 1 .int rmX0_orNone 0 0 [.int v0] sz S Q := by
  refine c_enter (Qc := fun A => va_Qi Q (BC D a d A) A) RX0 (by decide +kernel) rfl (Nat.le_of_ble_eq_true rfl) ?_
  intro p e s m below meth c ls A hmn F hG hl
  have G := hG
  have hl : lv_has ls 1 [(0, .int v0)] := hl
  obtain ⟨hx, hb, hr, hml, hown, hts, hlocks, hA, hK, hN⟩ := id F
  unfold C0_orNone at h
  refine lv_iload_n hx hb dX0_orNone_0 rfl (lv_at hl 0 rfl) ?_
  refine lv_iconst (v := (-1)) hx hb dX0_orNone_1 (by decide) ?_
  refine lv_icmp_ne (tgt := 10) hx hb dX0_orNone_2 (by decide) (fun c_1 => ?_) (fun c_1 => ?_)
  · replace h := h.1 c_1
    refine lv_iload_n hx hb dX0_orNone_10 rfl (lv_at hl 0 rfl) ?_
    exact c_iret F G dX0_orNone_11 h
  · replace h := h.2 c_1
    refine lv_ldc hx hb hown (hts _ q547) dX0_orNone_5 ?_
    refine lv_goto (tgt := 11) hx hb dX0_orNone_7 (by decide) ?_
    exact c_iret F G dX0_orNone_11 h
set_option maxHeartbeats 4000000 in
set_option maxRecDepth 100000 in
theorem kX0_C0_orNone {p : Program} {l : Launch} {e : Env} {s : State} {m : MethodId} {R : Room} {args : Array Value} {below : List Frame} {meth : Method} {c : Code} {D : va_G} {a : Nat → Nat} {d : Nat → ClassId} {A : Nat → Prop} {Q : State → Prop} {cc : ByteArray} {nL pc cells slots : Nat} {ret : Option FieldType} {ls : Array Slot} {rest : List Value} {v0 : Int32} {S : CS} {H : Heap} {locs : List Loc} {Q1 : Int32 → CS → Prop} (F : FC p s m meth c args D a d A RX0 cc nL ret) (G : GC D a d A s.heap S H locs) (hsz : ls.size = nL) (hR : rmX0_orNone.frames + 1 ≤ R.frames ∧ 8 + (1 + 11) + rmX0_orNone.locals ≤ R.locals) (hc : cells + 0 ≤ R.cells ∧ slots + 0 ≤ R.slots) (hW : (rest.map fun v => v.category).sum ≤ 8) (hd : decode cc pc = .ok (.invokestatic 254, 3)) (h : C0_orNone v0 S Q1) (k : ∀ (r : Int32) (S1 : CS) (H : Heap) (locs : List Loc), GC D a d A s.heap S1 H locs → Q1 r S1 → W p l e R s m args below meth c H locs cells slots Q (F0 m (pc + 3) ls (.int r :: rest))) : W p l e R s m args below meth c H locs cells slots Q (F0 m pc ls (.int v0 :: rest)) := by
  obtain ⟨hx, hb, hr, hml, hown, hts, hlocks, hA, hK, hN⟩ := id F
  exact c_calli F G (va_runS (As := [.int v0]) (rest := rest) ⟨hx, hb, hml, hown, hts⟩ (wC0_orNone H.size v0 S Q1 h) (va_cwS 1 hts (lw_S q544 q545 q82 q546) rfl rfl rfl (by decide +kernel) hR) ⟨PC_blind, c_pre F G⟩ rfl rfl hsz rfl (lv_room hW) hd hc) k
/-! StrokesHeard.why -/
def C0_why (v1 : Int32) (S : CS) (Q : Int32 → CS → Prop) : Prop := C0_isIn v1 0 2 S (fun r_1 S_2 => (r_1 = 0 → Q (-1000000001) S_2) ∧ (¬ r_1 = 0 → C0_counts v1 S_2 (fun r_4 S_5 => C0_orNone r_4 S_5 (fun r_6 S_7 => Q r_6 S_7))))
abbrev rmX0_why : Room := { frames := 1, cells := 0, slots := 0, locals := 23 }
set_option maxHeartbeats 4000000 in
set_option maxRecDepth 100000 in
theorem wC0_why {l : Launch} {D : va_G} {a : Nat → Nat} {d : Nat → ClassId} (sz : Nat) (v1 : Int32) (S : CS) (Q : Int32 → CS → Prop) (h : C0_why v1 S Q) : CMi l D a d yX0_why cX0_why 2 .int rmX0_why 0 0 [.ref (a 0), .int v1] sz S Q := by
  refine c_enter (Qc := fun A => va_Qi Q (BC D a d A) A) RX0 (by decide +kernel) rfl (Nat.le_of_ble_eq_true rfl) ?_
  intro p e s m below meth c ls A hmn F hG hl
  have G := hG
  have hl : lv_has ls 2 [(0, .ref (a 0)), (1, .int v1)] := hl
  obtain ⟨hx, hb, hr, hml, hown, hts, hlocks, hA, hK, hN⟩ := id F
  unfold C0_why at h
  refine lv_iload_n hx hb dX0_why_0 rfl (lv_at hl 1 rfl) ?_
  refine lv_iconst (v := 0) hx hb dX0_why_1 (by decide) ?_
  refine lv_iconst (v := 2) hx hb dX0_why_2 (by decide) ?_
  refine kX0_C0_isIn F G hl.1 ⟨(Nat.le_of_ble_eq_true rfl), (Nat.le_of_ble_eq_true rfl)⟩ ⟨(Nat.le_of_ble_eq_true rfl), (Nat.le_of_ble_eq_true rfl)⟩ (Nat.le_of_ble_eq_true rfl) dX0_why_3 h (fun r_1 S_2 H locs G h => ?_)
  refine lv_if_eq (tgt := 20) hx hb dX0_why_6 (by decide) (fun c_3 => ?_) (fun c_3 => ?_)
  · replace h := h.1 c_3
    refine lv_ldc hx hb hown (hts _ q368) dX0_why_20 ?_
    exact c_iret F G dX0_why_22 h
  · replace h := h.2 c_3
    refine lv_aload_n hx hb dX0_why_9 rfl (lv_at hl 0 rfl) ?_
    refine lv_iload_n hx hb dX0_why_10 rfl (lv_at hl 1 rfl) ?_
    refine kX0_C0_counts F G hl.1 ⟨(Nat.le_of_ble_eq_true rfl), (Nat.le_of_ble_eq_true rfl)⟩ ⟨(Nat.le_of_ble_eq_true rfl), (Nat.le_of_ble_eq_true rfl)⟩ (Nat.le_of_ble_eq_true rfl) dX0_why_11 h (fun r_4 S_5 H locs G h => ?_)
    refine kX0_C0_orNone F G hl.1 ⟨(Nat.le_of_ble_eq_true rfl), (Nat.le_of_ble_eq_true rfl)⟩ ⟨(Nat.le_of_ble_eq_true rfl), (Nat.le_of_ble_eq_true rfl)⟩ (Nat.le_of_ble_eq_true rfl) dX0_why_14 h (fun r_6 S_7 H locs G h => ?_)
    refine lv_goto (tgt := 22) hx hb dX0_why_17 (by decide) ?_
    exact c_iret F G dX0_why_22 h
/-! StrokesHeard.isOf -/
def C0_isOf_p14 (Q : Int32 → CS → Prop)  (t0 : Int32) (t1 : Int32) (t2 : Int32) (S : CS) : Prop := C0_isIn t2 t1 t0 S (fun r_2 S_3 => zb r_2 ∧ Q r_2 S_3)
def C0_isOf (v0 : Int32) (v1 : Int32) (S : CS) (Q : Int32 → CS → Prop) : Prop := (¬ v0 = 1 → C0_isOf_p14 Q 9 0 v1 S) ∧ (v0 = 1 → C0_isOf_p14 Q 59 0 v1 S)
abbrev rmX0_isOf : Room := { frames := 1, cells := 0, slots := 0, locals := 22 }
set_option maxHeartbeats 4000000 in
set_option maxRecDepth 100000 in
theorem wC0_isOf_p14 {p : Program} {l : Launch} {e : Env} {s : State} {m : MethodId} {args : Array Value} {below : List Frame} {meth : Method} {c : Code} {D : va_G} {a : Nat → Nat} {d : Nat → ClassId} {A : Nat → Prop} {Q : Int32 → CS → Prop}  (F : FC p s m meth c args D a d A RX0 cX0_isOf 2 (some .boolean)) (t0 : Int32) (t1 : Int32) (t2 : Int32) (S : CS)  {H : Heap} {locs : List Loc} {ls : Array Slot} (G : GC D a d A s.heap S H locs) (hl : lv_has ls 2 []) (h : C0_isOf_p14 Q t0 t1 t2 S) : wCi p l e rmX0_isOf s m args below meth c D a d A Q 0 0 H locs 0 0 (F0 m 14 ls [.int t0, .int t1, .int t2]) := by
  obtain ⟨hx, hb, hr, hml, hown, hts, hlocks, hA, hK, hN⟩ := id F
  unfold C0_isOf_p14 at h
  refine kX0_C0_isIn F G hl.1 ⟨(Nat.le_of_ble_eq_true rfl), (Nat.le_of_ble_eq_true rfl)⟩ ⟨(Nat.le_of_ble_eq_true rfl), (Nat.le_of_ble_eq_true rfl)⟩ (Nat.le_of_ble_eq_true rfl) dX0_isOf_14 h (fun r_2 S_3 H locs G h => ?_)
  exact c_zret h.1 F G dX0_isOf_17 h.2
set_option maxHeartbeats 4000000 in
set_option maxRecDepth 100000 in
theorem wC0_isOf {l : Launch} {D : va_G} {a : Nat → Nat} {d : Nat → ClassId} (sz : Nat) (v0 : Int32) (v1 : Int32) (S : CS) (Q : Int32 → CS → Prop) (h : C0_isOf v0 v1 S Q) : CMi l D a d yX0_isOf cX0_isOf 2 .boolean rmX0_isOf 0 0 [.int v0, .int v1] sz S Q := by
  refine c_enter (Qc := fun A => va_Qi Q (BC D a d A) A) RX0 (by decide +kernel) rfl (Nat.le_of_ble_eq_true rfl) ?_
  intro p e s m below meth c ls A hmn F hG hl
  have G := hG
  have hl : lv_has ls 2 [(0, .int v0), (1, .int v1)] := hl
  obtain ⟨hx, hb, hr, hml, hown, hts, hlocks, hA, hK, hN⟩ := id F
  unfold C0_isOf at h
  refine lv_iload_n hx hb dX0_isOf_0 rfl (lv_at hl 1 rfl) ?_
  refine lv_iconst (v := 0) hx hb dX0_isOf_1 (by decide) ?_
  refine lv_iload_n hx hb dX0_isOf_2 rfl (lv_at hl 0 rfl) ?_
  refine lv_iconst (v := 1) hx hb dX0_isOf_3 (by decide) ?_
  refine lv_icmp_ne (tgt := 12) hx hb dX0_isOf_4 (by decide) (fun c_1 => ?_) (fun c_1 => ?_)
  · replace h := h.1 c_1
    refine lv_bipush (v := 9) hx hb dX0_isOf_12 (by decide) ?_
    exact wC0_isOf_p14 F 9 0 v1 S  G (lv_sub hl [] rfl) h
  · replace h := h.2 c_1
    refine lv_bipush (v := 59) hx hb dX0_isOf_7 (by decide) ?_
    refine lv_goto (tgt := 14) hx hb dX0_isOf_9 (by decide) ?_
    exact wC0_isOf_p14 F 59 0 v1 S  G (lv_sub hl [] rfl) h
set_option maxHeartbeats 4000000 in
set_option maxRecDepth 100000 in
theorem kX0_C0_isOf {p : Program} {l : Launch} {e : Env} {s : State} {m : MethodId} {R : Room} {args : Array Value} {below : List Frame} {meth : Method} {c : Code} {D : va_G} {a : Nat → Nat} {d : Nat → ClassId} {A : Nat → Prop} {Q : State → Prop} {cc : ByteArray} {nL pc cells slots : Nat} {ret : Option FieldType} {ls : Array Slot} {rest : List Value} {v0 : Int32} {v1 : Int32} {S : CS} {H : Heap} {locs : List Loc} {Q1 : Int32 → CS → Prop} (F : FC p s m meth c args D a d A RX0 cc nL ret) (G : GC D a d A s.heap S H locs) (hsz : ls.size = nL) (hR : rmX0_isOf.frames + 1 ≤ R.frames ∧ 8 + (2 + 11) + rmX0_isOf.locals ≤ R.locals) (hc : cells + 0 ≤ R.cells ∧ slots + 0 ≤ R.slots) (hW : (rest.map fun v => v.category).sum ≤ 8) (hd : decode cc pc = .ok (.invokestatic 271, 3)) (h : C0_isOf v0 v1 S Q1) (k : ∀ (r : Int32) (S1 : CS) (H : Heap) (locs : List Loc), GC D a d A s.heap S1 H locs → Q1 r S1 → W p l e R s m args below meth c H locs cells slots Q (F0 m (pc + 3) ls (.int r :: rest))) : W p l e R s m args below meth c H locs cells slots Q (F0 m pc ls (.int v1 :: .int v0 :: rest)) := by
  obtain ⟨hx, hb, hr, hml, hown, hts, hlocks, hA, hK, hN⟩ := id F
  exact c_calli F G (va_runS (As := [.int v0, .int v1]) (rest := rest) ⟨hx, hb, hml, hown, hts⟩ (wC0_isOf H.size v0 v1 S Q1 h) (va_cwS 2 hts (lw_S q552 q553 q82 q554) rfl rfl rfl (by decide +kernel) hR) ⟨PC_blind, c_pre F G⟩ rfl rfl hsz rfl (lv_room hW) hd hc) k
/-! StrokesHeard$Ringer.<init> -/
def C6_init (y0 : Nat) (S : CS) (Q : CS → Prop) : Prop := Q S
abbrev rmX6_init : Room := { frames := 1, cells := 0, slots := 0, locals := 20 }
set_option maxHeartbeats 4000000 in
set_option maxRecDepth 100000 in
theorem wC6_init {l : Launch} {D : va_G} {a : Nat → Nat} {d : Nat → ClassId} (sz : Nat) (y0 : Nat) (S : CS) (Q : CS → Prop) (h : C6_init y0 S Q) : CMv l D a d yX6_init cX6_init 1 rmX6_init 0 0 [.ref y0] sz S Q := by
  refine c_enter (Qc := fun A => va_Qv Q (BC D a d A) A) RX6 (by decide +kernel) rfl (Nat.le_of_ble_eq_true rfl) ?_
  intro p e s m below meth c ls A hmn F hG hl
  have G := hG
  have hl : lv_has ls 1 [(0, .ref y0)] := hl
  obtain ⟨hx, hb, hr, hml, hown, hts, hlocks, hA, hK, hN⟩ := id F
  unfold C6_init at h
  refine lv_aload_n hx hb dX6_init_0 rfl (lv_at hl 0 rfl) ?_
  refine W.objInit hx hb hown (hts _ q570) (hts _ q115) (hts _ q116) rfl (hl.1.trans hml.symm) rfl dX6_init_1 (Nat.le_of_ble_eq_true rfl) (Nat.le_of_ble_eq_true rfl) ?_
  exact c_vret F G dX6_init_4 h
set_option maxHeartbeats 4000000 in
set_option maxRecDepth 100000 in
theorem kX7_C6_init {p : Program} {l : Launch} {e : Env} {s : State} {m : MethodId} {R : Room} {args : Array Value} {below : List Frame} {meth : Method} {c : Code} {D : va_G} {a : Nat → Nat} {d : Nat → ClassId} {A : Nat → Prop} {Q : State → Prop} {cc : ByteArray} {nL pc cells slots : Nat} {ret : Option FieldType} {ls : Array Slot} {rest : List Value} {y0 : Nat} {S : CS} {H : Heap} {locs : List Loc} {Q1 : CS → Prop} (F : FC p s m meth c args D a d A RX7 cc nL ret) (G : GC D a d A s.heap S H locs) (hsz : ls.size = nL) (hR : rmX6_init.frames + 1 ≤ R.frames ∧ 8 + (1 + 11) + rmX6_init.locals ≤ R.locals) (hc : cells + 0 ≤ R.cells ∧ slots + 0 ≤ R.slots) (hW : (rest.map fun v => v.category).sum ≤ 8) (hd : decode cc pc = .ok (.invokespecial 3, 3)) (h : C6_init y0 S Q1) (k : ∀ (S1 : CS) (H : Heap) (locs : List Loc), GC D a d A s.heap S1 H locs → Q1 S1 → W p l e R s m args below meth c H locs cells slots Q (F0 m (pc + 3) ls rest)) : W p l e R s m args below meth c H locs cells slots Q (F0 m pc ls (.ref y0 :: rest)) := by
  obtain ⟨hx, hb, hr, hml, hown, hts, hlocks, hA, hK, hN⟩ := id F
  exact c_callv F G (va_runIN (As := []) (rest := rest) ⟨hx, hb, hml, hown, hts⟩ (wC6_init H.size y0 S Q1 h) ⟨va_cnB 0 hts (lw_meth q569) rfl rfl rfl (hN.1 _ (List.mem_of_getElem? (i := 36) rfl)) (hts _ q91) (by decide +kernel) hR, rfl, hts _ q568⟩ ⟨PC_blind, c_pre F G⟩ rfl rfl hsz rfl (lv_room hW) hd hc) k
/-! StrokesHeard$Quarters.<init> -/
def C7_init (y0 : Nat) (S : CS) (Q : CS → Prop) : Prop := C6_init y0 S (fun S_2 => Q S_2)
abbrev rmX7_init : Room := { frames := 2, cells := 0, slots := 0, locals := 40 }
set_option maxHeartbeats 4000000 in
set_option maxRecDepth 100000 in
theorem wC7_init {l : Launch} {D : va_G} {a : Nat → Nat} {d : Nat → ClassId} (sz : Nat) (y0 : Nat) (S : CS) (Q : CS → Prop) (h : C7_init y0 S Q) : CMv l D a d yX7_init cX7_init 1 rmX7_init 0 0 [.ref y0] sz S Q := by
  refine c_enter (Qc := fun A => va_Qv Q (BC D a d A) A) RX7 (by decide +kernel) rfl (Nat.le_of_ble_eq_true rfl) ?_
  intro p e s m below meth c ls A hmn F hG hl
  have G := hG
  have hl : lv_has ls 1 [(0, .ref y0)] := hl
  obtain ⟨hx, hb, hr, hml, hown, hts, hlocks, hA, hK, hN⟩ := id F
  unfold C7_init at h
  refine lv_aload_n hx hb dX7_init_0 rfl (lv_at hl 0 rfl) ?_
  refine kX7_C6_init F G hl.1 ⟨(Nat.le_of_ble_eq_true rfl), (Nat.le_of_ble_eq_true rfl)⟩ ⟨(Nat.le_of_ble_eq_true rfl), (Nat.le_of_ble_eq_true rfl)⟩ (Nat.le_of_ble_eq_true rfl) dX7_init_1 h (fun S_2 H locs G h => ?_)
  exact c_vret F G dX7_init_4 h
set_option maxHeartbeats 4000000 in
set_option maxRecDepth 100000 in
theorem kX0_C7_init {p : Program} {l : Launch} {e : Env} {s : State} {m : MethodId} {R : Room} {args : Array Value} {below : List Frame} {meth : Method} {c : Code} {D : va_G} {a : Nat → Nat} {d : Nat → ClassId} {A : Nat → Prop} {Q : State → Prop} {cc : ByteArray} {nL pc cells slots : Nat} {ret : Option FieldType} {ls : Array Slot} {rest : List Value} {y0 : Nat} {S : CS} {H : Heap} {locs : List Loc} {Q1 : CS → Prop} (F : FC p s m meth c args D a d A RX0 cc nL ret) (G : GC D a d A s.heap S H locs) (hsz : ls.size = nL) (hR : rmX7_init.frames + 1 ≤ R.frames ∧ 8 + (1 + 11) + rmX7_init.locals ≤ R.locals) (hc : cells + 0 ≤ R.cells ∧ slots + 0 ≤ R.slots) (hW : (rest.map fun v => v.category).sum ≤ 8) (hd : decode cc pc = .ok (.invokespecial 15, 3)) (h : C7_init y0 S Q1) (k : ∀ (S1 : CS) (H : Heap) (locs : List Loc), GC D a d A s.heap S1 H locs → Q1 S1 → W p l e R s m args below meth c H locs cells slots Q (F0 m (pc + 3) ls rest)) : W p l e R s m args below meth c H locs cells slots Q (F0 m pc ls (.ref y0 :: rest)) := by
  obtain ⟨hx, hb, hr, hml, hown, hts, hlocks, hA, hK, hN⟩ := id F
  exact c_callv F G (va_runIN (As := []) (rest := rest) ⟨hx, hb, hml, hown, hts⟩ (wC7_init H.size y0 S Q1 h) ⟨va_cnB 0 hts (lw_meth q566) rfl rfl rfl (hN.1 _ (List.mem_of_getElem? (i := 26) rfl)) (hts _ q92) (by decide +kernel) hR, rfl, hts _ q565⟩ ⟨PC_blind, c_pre F G⟩ rfl rfl hsz rfl (lv_room hW) hd hc) k
set_option maxHeartbeats 4000000 in
set_option maxRecDepth 100000 in
theorem kX8_C6_init {p : Program} {l : Launch} {e : Env} {s : State} {m : MethodId} {R : Room} {args : Array Value} {below : List Frame} {meth : Method} {c : Code} {D : va_G} {a : Nat → Nat} {d : Nat → ClassId} {A : Nat → Prop} {Q : State → Prop} {cc : ByteArray} {nL pc cells slots : Nat} {ret : Option FieldType} {ls : Array Slot} {rest : List Value} {y0 : Nat} {S : CS} {H : Heap} {locs : List Loc} {Q1 : CS → Prop} (F : FC p s m meth c args D a d A RX8 cc nL ret) (G : GC D a d A s.heap S H locs) (hsz : ls.size = nL) (hR : rmX6_init.frames + 1 ≤ R.frames ∧ 8 + (1 + 11) + rmX6_init.locals ≤ R.locals) (hc : cells + 0 ≤ R.cells ∧ slots + 0 ≤ R.slots) (hW : (rest.map fun v => v.category).sum ≤ 8) (hd : decode cc pc = .ok (.invokespecial 3, 3)) (h : C6_init y0 S Q1) (k : ∀ (S1 : CS) (H : Heap) (locs : List Loc), GC D a d A s.heap S1 H locs → Q1 S1 → W p l e R s m args below meth c H locs cells slots Q (F0 m (pc + 3) ls rest)) : W p l e R s m args below meth c H locs cells slots Q (F0 m pc ls (.ref y0 :: rest)) := by
  obtain ⟨hx, hb, hr, hml, hown, hts, hlocks, hA, hK, hN⟩ := id F
  exact c_callv F G (va_runIN (As := []) (rest := rest) ⟨hx, hb, hml, hown, hts⟩ (wC6_init H.size y0 S Q1 h) ⟨va_cnB 0 hts (lw_meth q569) rfl rfl rfl (hN.1 _ (List.mem_of_getElem? (i := 37) rfl)) (hts _ q91) (by decide +kernel) hR, rfl, hts _ q568⟩ ⟨PC_blind, c_pre F G⟩ rfl rfl hsz rfl (lv_room hW) hd hc) k
/-! StrokesHeard$Twice.<init> -/
def C8_init (y0 : Nat) (S : CS) (Q : CS → Prop) : Prop := C6_init y0 S (fun S_2 => Q S_2)
abbrev rmX8_init : Room := { frames := 2, cells := 0, slots := 0, locals := 40 }
set_option maxHeartbeats 4000000 in
set_option maxRecDepth 100000 in
theorem wC8_init {l : Launch} {D : va_G} {a : Nat → Nat} {d : Nat → ClassId} (sz : Nat) (y0 : Nat) (S : CS) (Q : CS → Prop) (h : C8_init y0 S Q) : CMv l D a d yX8_init cX8_init 1 rmX8_init 0 0 [.ref y0] sz S Q := by
  refine c_enter (Qc := fun A => va_Qv Q (BC D a d A) A) RX8 (by decide +kernel) rfl (Nat.le_of_ble_eq_true rfl) ?_
  intro p e s m below meth c ls A hmn F hG hl
  have G := hG
  have hl : lv_has ls 1 [(0, .ref y0)] := hl
  obtain ⟨hx, hb, hr, hml, hown, hts, hlocks, hA, hK, hN⟩ := id F
  unfold C8_init at h
  refine lv_aload_n hx hb dX8_init_0 rfl (lv_at hl 0 rfl) ?_
  refine kX8_C6_init F G hl.1 ⟨(Nat.le_of_ble_eq_true rfl), (Nat.le_of_ble_eq_true rfl)⟩ ⟨(Nat.le_of_ble_eq_true rfl), (Nat.le_of_ble_eq_true rfl)⟩ (Nat.le_of_ble_eq_true rfl) dX8_init_1 h (fun S_2 H locs G h => ?_)
  exact c_vret F G dX8_init_4 h
set_option maxHeartbeats 4000000 in
set_option maxRecDepth 100000 in
theorem kX0_C8_init {p : Program} {l : Launch} {e : Env} {s : State} {m : MethodId} {R : Room} {args : Array Value} {below : List Frame} {meth : Method} {c : Code} {D : va_G} {a : Nat → Nat} {d : Nat → ClassId} {A : Nat → Prop} {Q : State → Prop} {cc : ByteArray} {nL pc cells slots : Nat} {ret : Option FieldType} {ls : Array Slot} {rest : List Value} {y0 : Nat} {S : CS} {H : Heap} {locs : List Loc} {Q1 : CS → Prop} (F : FC p s m meth c args D a d A RX0 cc nL ret) (G : GC D a d A s.heap S H locs) (hsz : ls.size = nL) (hR : rmX8_init.frames + 1 ≤ R.frames ∧ 8 + (1 + 11) + rmX8_init.locals ≤ R.locals) (hc : cells + 0 ≤ R.cells ∧ slots + 0 ≤ R.slots) (hW : (rest.map fun v => v.category).sum ≤ 8) (hd : decode cc pc = .ok (.invokespecial 21, 3)) (h : C8_init y0 S Q1) (k : ∀ (S1 : CS) (H : Heap) (locs : List Loc), GC D a d A s.heap S1 H locs → Q1 S1 → W p l e R s m args below meth c H locs cells slots Q (F0 m (pc + 3) ls rest)) : W p l e R s m args below meth c H locs cells slots Q (F0 m pc ls (.ref y0 :: rest)) := by
  obtain ⟨hx, hb, hr, hml, hown, hts, hlocks, hA, hK, hN⟩ := id F
  exact c_callv F G (va_runIN (As := []) (rest := rest) ⟨hx, hb, hml, hown, hts⟩ (wC8_init H.size y0 S Q1 h) ⟨va_cnB 0 hts (lw_meth q584) rfl rfl rfl (hN.1 _ (List.mem_of_getElem? (i := 27) rfl)) (hts _ q93) (by decide +kernel) hR, rfl, hts _ q583⟩ ⟨PC_blind, c_pre F G⟩ rfl rfl hsz rfl (lv_room hW) hd hc) k
set_option maxHeartbeats 4000000 in
set_option maxRecDepth 100000 in
theorem kX9_C7_init {p : Program} {l : Launch} {e : Env} {s : State} {m : MethodId} {R : Room} {args : Array Value} {below : List Frame} {meth : Method} {c : Code} {D : va_G} {a : Nat → Nat} {d : Nat → ClassId} {A : Nat → Prop} {Q : State → Prop} {cc : ByteArray} {nL pc cells slots : Nat} {ret : Option FieldType} {ls : Array Slot} {rest : List Value} {y0 : Nat} {S : CS} {H : Heap} {locs : List Loc} {Q1 : CS → Prop} (F : FC p s m meth c args D a d A RX9 cc nL ret) (G : GC D a d A s.heap S H locs) (hsz : ls.size = nL) (hR : rmX7_init.frames + 1 ≤ R.frames ∧ 8 + (1 + 11) + rmX7_init.locals ≤ R.locals) (hc : cells + 0 ≤ R.cells ∧ slots + 0 ≤ R.slots) (hW : (rest.map fun v => v.category).sum ≤ 8) (hd : decode cc pc = .ok (.invokespecial 1, 3)) (h : C7_init y0 S Q1) (k : ∀ (S1 : CS) (H : Heap) (locs : List Loc), GC D a d A s.heap S1 H locs → Q1 S1 → W p l e R s m args below meth c H locs cells slots Q (F0 m (pc + 3) ls rest)) : W p l e R s m args below meth c H locs cells slots Q (F0 m pc ls (.ref y0 :: rest)) := by
  obtain ⟨hx, hb, hr, hml, hown, hts, hlocks, hA, hK, hN⟩ := id F
  exact c_callv F G (va_runIN (As := []) (rest := rest) ⟨hx, hb, hml, hown, hts⟩ (wC7_init H.size y0 S Q1 h) ⟨va_cnB 0 hts (lw_meth q566) rfl rfl rfl (hN.1 _ (List.mem_of_getElem? (i := 38) rfl)) (hts _ q92) (by decide +kernel) hR, rfl, hts _ q565⟩ ⟨PC_blind, c_pre F G⟩ rfl rfl hsz rfl (lv_room hW) hd hc) k
/-! StrokesHeard$Tune.<init> -/
def C9_init (y0 : Nat) (S : CS) (Q : CS → Prop) : Prop := C7_init y0 S (fun S_2 => Q S_2)
abbrev rmX9_init : Room := { frames := 3, cells := 0, slots := 0, locals := 60 }
set_option maxHeartbeats 4000000 in
set_option maxRecDepth 100000 in
theorem wC9_init {l : Launch} {D : va_G} {a : Nat → Nat} {d : Nat → ClassId} (sz : Nat) (y0 : Nat) (S : CS) (Q : CS → Prop) (h : C9_init y0 S Q) : CMv l D a d yX9_init cX9_init 1 rmX9_init 0 0 [.ref y0] sz S Q := by
  refine c_enter (Qc := fun A => va_Qv Q (BC D a d A) A) RX9 (by decide +kernel) rfl (Nat.le_of_ble_eq_true rfl) ?_
  intro p e s m below meth c ls A hmn F hG hl
  have G := hG
  have hl : lv_has ls 1 [(0, .ref y0)] := hl
  obtain ⟨hx, hb, hr, hml, hown, hts, hlocks, hA, hK, hN⟩ := id F
  unfold C9_init at h
  refine lv_aload_n hx hb dX9_init_0 rfl (lv_at hl 0 rfl) ?_
  refine kX9_C7_init F G hl.1 ⟨(Nat.le_of_ble_eq_true rfl), (Nat.le_of_ble_eq_true rfl)⟩ ⟨(Nat.le_of_ble_eq_true rfl), (Nat.le_of_ble_eq_true rfl)⟩ (Nat.le_of_ble_eq_true rfl) dX9_init_1 h (fun S_2 H locs G h => ?_)
  exact c_vret F G dX9_init_4 h
set_option maxHeartbeats 4000000 in
set_option maxRecDepth 100000 in
theorem kX0_C9_init {p : Program} {l : Launch} {e : Env} {s : State} {m : MethodId} {R : Room} {args : Array Value} {below : List Frame} {meth : Method} {c : Code} {D : va_G} {a : Nat → Nat} {d : Nat → ClassId} {A : Nat → Prop} {Q : State → Prop} {cc : ByteArray} {nL pc cells slots : Nat} {ret : Option FieldType} {ls : Array Slot} {rest : List Value} {y0 : Nat} {S : CS} {H : Heap} {locs : List Loc} {Q1 : CS → Prop} (F : FC p s m meth c args D a d A RX0 cc nL ret) (G : GC D a d A s.heap S H locs) (hsz : ls.size = nL) (hR : rmX9_init.frames + 1 ≤ R.frames ∧ 8 + (1 + 11) + rmX9_init.locals ≤ R.locals) (hc : cells + 0 ≤ R.cells ∧ slots + 0 ≤ R.slots) (hW : (rest.map fun v => v.category).sum ≤ 8) (hd : decode cc pc = .ok (.invokespecial 24, 3)) (h : C9_init y0 S Q1) (k : ∀ (S1 : CS) (H : Heap) (locs : List Loc), GC D a d A s.heap S1 H locs → Q1 S1 → W p l e R s m args below meth c H locs cells slots Q (F0 m (pc + 3) ls rest)) : W p l e R s m args below meth c H locs cells slots Q (F0 m pc ls (.ref y0 :: rest)) := by
  obtain ⟨hx, hb, hr, hml, hown, hts, hlocks, hA, hK, hN⟩ := id F
  exact c_callv F G (va_runIN (As := []) (rest := rest) ⟨hx, hb, hml, hown, hts⟩ (wC9_init H.size y0 S Q1 h) ⟨va_cnB 0 hts (lw_meth q593) rfl rfl rfl (hN.1 _ (List.mem_of_getElem? (i := 28) rfl)) (hts _ q94) (by decide +kernel) hR, rfl, hts _ q592⟩ ⟨PC_blind, c_pre F G⟩ rfl rfl hsz rfl (lv_room hW) hd hc) k
set_option maxHeartbeats 4000000 in
set_option maxRecDepth 100000 in
theorem kX10_C8_init {p : Program} {l : Launch} {e : Env} {s : State} {m : MethodId} {R : Room} {args : Array Value} {below : List Frame} {meth : Method} {c : Code} {D : va_G} {a : Nat → Nat} {d : Nat → ClassId} {A : Nat → Prop} {Q : State → Prop} {cc : ByteArray} {nL pc cells slots : Nat} {ret : Option FieldType} {ls : Array Slot} {rest : List Value} {y0 : Nat} {S : CS} {H : Heap} {locs : List Loc} {Q1 : CS → Prop} (F : FC p s m meth c args D a d A RX10 cc nL ret) (G : GC D a d A s.heap S H locs) (hsz : ls.size = nL) (hR : rmX8_init.frames + 1 ≤ R.frames ∧ 8 + (1 + 11) + rmX8_init.locals ≤ R.locals) (hc : cells + 0 ≤ R.cells ∧ slots + 0 ≤ R.slots) (hW : (rest.map fun v => v.category).sum ≤ 8) (hd : decode cc pc = .ok (.invokespecial 1, 3)) (h : C8_init y0 S Q1) (k : ∀ (S1 : CS) (H : Heap) (locs : List Loc), GC D a d A s.heap S1 H locs → Q1 S1 → W p l e R s m args below meth c H locs cells slots Q (F0 m (pc + 3) ls rest)) : W p l e R s m args below meth c H locs cells slots Q (F0 m pc ls (.ref y0 :: rest)) := by
  obtain ⟨hx, hb, hr, hml, hown, hts, hlocks, hA, hK, hN⟩ := id F
  exact c_callv F G (va_runIN (As := []) (rest := rest) ⟨hx, hb, hml, hown, hts⟩ (wC8_init H.size y0 S Q1 h) ⟨va_cnB 0 hts (lw_meth q584) rfl rfl rfl (hN.1 _ (List.mem_of_getElem? (i := 34) rfl)) (hts _ q93) (by decide +kernel) hR, rfl, hts _ q583⟩ ⟨PC_blind, c_pre F G⟩ rfl rfl hsz rfl (lv_room hW) hd hc) k
/-! StrokesHeard$Sign.<init> -/
def C10_init (y0 : Nat) (S : CS) (Q : CS → Prop) : Prop := C8_init y0 S (fun S_2 => Q S_2)
abbrev rmX10_init : Room := { frames := 3, cells := 0, slots := 0, locals := 60 }
set_option maxHeartbeats 4000000 in
set_option maxRecDepth 100000 in
theorem wC10_init {l : Launch} {D : va_G} {a : Nat → Nat} {d : Nat → ClassId} (sz : Nat) (y0 : Nat) (S : CS) (Q : CS → Prop) (h : C10_init y0 S Q) : CMv l D a d yX10_init cX10_init 1 rmX10_init 0 0 [.ref y0] sz S Q := by
  refine c_enter (Qc := fun A => va_Qv Q (BC D a d A) A) RX10 (by decide +kernel) rfl (Nat.le_of_ble_eq_true rfl) ?_
  intro p e s m below meth c ls A hmn F hG hl
  have G := hG
  have hl : lv_has ls 1 [(0, .ref y0)] := hl
  obtain ⟨hx, hb, hr, hml, hown, hts, hlocks, hA, hK, hN⟩ := id F
  unfold C10_init at h
  refine lv_aload_n hx hb dX10_init_0 rfl (lv_at hl 0 rfl) ?_
  refine kX10_C8_init F G hl.1 ⟨(Nat.le_of_ble_eq_true rfl), (Nat.le_of_ble_eq_true rfl)⟩ ⟨(Nat.le_of_ble_eq_true rfl), (Nat.le_of_ble_eq_true rfl)⟩ (Nat.le_of_ble_eq_true rfl) dX10_init_1 h (fun S_2 H locs G h => ?_)
  exact c_vret F G dX10_init_4 h
set_option maxHeartbeats 4000000 in
set_option maxRecDepth 100000 in
theorem kX0_C10_init {p : Program} {l : Launch} {e : Env} {s : State} {m : MethodId} {R : Room} {args : Array Value} {below : List Frame} {meth : Method} {c : Code} {D : va_G} {a : Nat → Nat} {d : Nat → ClassId} {A : Nat → Prop} {Q : State → Prop} {cc : ByteArray} {nL pc cells slots : Nat} {ret : Option FieldType} {ls : Array Slot} {rest : List Value} {y0 : Nat} {S : CS} {H : Heap} {locs : List Loc} {Q1 : CS → Prop} (F : FC p s m meth c args D a d A RX0 cc nL ret) (G : GC D a d A s.heap S H locs) (hsz : ls.size = nL) (hR : rmX10_init.frames + 1 ≤ R.frames ∧ 8 + (1 + 11) + rmX10_init.locals ≤ R.locals) (hc : cells + 0 ≤ R.cells ∧ slots + 0 ≤ R.slots) (hW : (rest.map fun v => v.category).sum ≤ 8) (hd : decode cc pc = .ok (.invokespecial 27, 3)) (h : C10_init y0 S Q1) (k : ∀ (S1 : CS) (H : Heap) (locs : List Loc), GC D a d A s.heap S1 H locs → Q1 S1 → W p l e R s m args below meth c H locs cells slots Q (F0 m (pc + 3) ls rest)) : W p l e R s m args below meth c H locs cells slots Q (F0 m pc ls (.ref y0 :: rest)) := by
  obtain ⟨hx, hb, hr, hml, hown, hts, hlocks, hA, hK, hN⟩ := id F
  exact c_callv F G (va_runIN (As := []) (rest := rest) ⟨hx, hb, hml, hown, hts⟩ (wC10_init H.size y0 S Q1 h) ⟨va_cnB 0 hts (lw_meth q602) rfl rfl rfl (hN.1 _ (List.mem_of_getElem? (i := 29) rfl)) (hts _ q95) (by decide +kernel) hR, rfl, hts _ q601⟩ ⟨PC_blind, c_pre F G⟩ rfl rfl hsz rfl (lv_room hW) hd hc) k
set_option maxHeartbeats 4000000 in
set_option maxRecDepth 100000 in
theorem kX11_C6_init {p : Program} {l : Launch} {e : Env} {s : State} {m : MethodId} {R : Room} {args : Array Value} {below : List Frame} {meth : Method} {c : Code} {D : va_G} {a : Nat → Nat} {d : Nat → ClassId} {A : Nat → Prop} {Q : State → Prop} {cc : ByteArray} {nL pc cells slots : Nat} {ret : Option FieldType} {ls : Array Slot} {rest : List Value} {y0 : Nat} {S : CS} {H : Heap} {locs : List Loc} {Q1 : CS → Prop} (F : FC p s m meth c args D a d A RX11 cc nL ret) (G : GC D a d A s.heap S H locs) (hsz : ls.size = nL) (hR : rmX6_init.frames + 1 ≤ R.frames ∧ 8 + (1 + 11) + rmX6_init.locals ≤ R.locals) (hc : cells + 0 ≤ R.cells ∧ slots + 0 ≤ R.slots) (hW : (rest.map fun v => v.category).sum ≤ 8) (hd : decode cc pc = .ok (.invokespecial 3, 3)) (h : C6_init y0 S Q1) (k : ∀ (S1 : CS) (H : Heap) (locs : List Loc), GC D a d A s.heap S1 H locs → Q1 S1 → W p l e R s m args below meth c H locs cells slots Q (F0 m (pc + 3) ls rest)) : W p l e R s m args below meth c H locs cells slots Q (F0 m pc ls (.ref y0 :: rest)) := by
  obtain ⟨hx, hb, hr, hml, hown, hts, hlocks, hA, hK, hN⟩ := id F
  exact c_callv F G (va_runIN (As := []) (rest := rest) ⟨hx, hb, hml, hown, hts⟩ (wC6_init H.size y0 S Q1 h) ⟨va_cnB 0 hts (lw_meth q569) rfl rfl rfl (hN.1 _ (List.mem_of_getElem? (i := 35) rfl)) (hts _ q91) (by decide +kernel) hR, rfl, hts _ q568⟩ ⟨PC_blind, c_pre F G⟩ rfl rfl hsz rfl (lv_room hW) hd hc) k
/-! StrokesHeard$Cuckoo.<init> -/
def C11_init (y0 : Nat) (S : CS) (Q : CS → Prop) : Prop := C6_init y0 S (fun S_2 => Q S_2)
abbrev rmX11_init : Room := { frames := 2, cells := 0, slots := 0, locals := 40 }
set_option maxHeartbeats 4000000 in
set_option maxRecDepth 100000 in
theorem wC11_init {l : Launch} {D : va_G} {a : Nat → Nat} {d : Nat → ClassId} (sz : Nat) (y0 : Nat) (S : CS) (Q : CS → Prop) (h : C11_init y0 S Q) : CMv l D a d yX11_init cX11_init 1 rmX11_init 0 0 [.ref y0] sz S Q := by
  refine c_enter (Qc := fun A => va_Qv Q (BC D a d A) A) RX11 (by decide +kernel) rfl (Nat.le_of_ble_eq_true rfl) ?_
  intro p e s m below meth c ls A hmn F hG hl
  have G := hG
  have hl : lv_has ls 1 [(0, .ref y0)] := hl
  obtain ⟨hx, hb, hr, hml, hown, hts, hlocks, hA, hK, hN⟩ := id F
  unfold C11_init at h
  refine lv_aload_n hx hb dX11_init_0 rfl (lv_at hl 0 rfl) ?_
  refine kX11_C6_init F G hl.1 ⟨(Nat.le_of_ble_eq_true rfl), (Nat.le_of_ble_eq_true rfl)⟩ ⟨(Nat.le_of_ble_eq_true rfl), (Nat.le_of_ble_eq_true rfl)⟩ (Nat.le_of_ble_eq_true rfl) dX11_init_1 h (fun S_2 H locs G h => ?_)
  exact c_vret F G dX11_init_4 h
set_option maxHeartbeats 4000000 in
set_option maxRecDepth 100000 in
theorem kX0_C11_init {p : Program} {l : Launch} {e : Env} {s : State} {m : MethodId} {R : Room} {args : Array Value} {below : List Frame} {meth : Method} {c : Code} {D : va_G} {a : Nat → Nat} {d : Nat → ClassId} {A : Nat → Prop} {Q : State → Prop} {cc : ByteArray} {nL pc cells slots : Nat} {ret : Option FieldType} {ls : Array Slot} {rest : List Value} {y0 : Nat} {S : CS} {H : Heap} {locs : List Loc} {Q1 : CS → Prop} (F : FC p s m meth c args D a d A RX0 cc nL ret) (G : GC D a d A s.heap S H locs) (hsz : ls.size = nL) (hR : rmX11_init.frames + 1 ≤ R.frames ∧ 8 + (1 + 11) + rmX11_init.locals ≤ R.locals) (hc : cells + 0 ≤ R.cells ∧ slots + 0 ≤ R.slots) (hW : (rest.map fun v => v.category).sum ≤ 8) (hd : decode cc pc = .ok (.invokespecial 30, 3)) (h : C11_init y0 S Q1) (k : ∀ (S1 : CS) (H : Heap) (locs : List Loc), GC D a d A s.heap S1 H locs → Q1 S1 → W p l e R s m args below meth c H locs cells slots Q (F0 m (pc + 3) ls rest)) : W p l e R s m args below meth c H locs cells slots Q (F0 m pc ls (.ref y0 :: rest)) := by
  obtain ⟨hx, hb, hr, hml, hown, hts, hlocks, hA, hK, hN⟩ := id F
  exact c_callv F G (va_runIN (As := []) (rest := rest) ⟨hx, hb, hml, hown, hts⟩ (wC11_init H.size y0 S Q1 h) ⟨va_cnB 0 hts (lw_meth q611) rfl rfl rfl (hN.1 _ (List.mem_of_getElem? (i := 30) rfl)) (hts _ q96) (by decide +kernel) hR, rfl, hts _ q610⟩ ⟨PC_blind, c_pre F G⟩ rfl rfl hsz rfl (lv_room hW) hd hc) k
set_option maxHeartbeats 4000000 in
set_option maxRecDepth 100000 in
theorem kX0_C6_init {p : Program} {l : Launch} {e : Env} {s : State} {m : MethodId} {R : Room} {args : Array Value} {below : List Frame} {meth : Method} {c : Code} {D : va_G} {a : Nat → Nat} {d : Nat → ClassId} {A : Nat → Prop} {Q : State → Prop} {cc : ByteArray} {nL pc cells slots : Nat} {ret : Option FieldType} {ls : Array Slot} {rest : List Value} {y0 : Nat} {S : CS} {H : Heap} {locs : List Loc} {Q1 : CS → Prop} (F : FC p s m meth c args D a d A RX0 cc nL ret) (G : GC D a d A s.heap S H locs) (hsz : ls.size = nL) (hR : rmX6_init.frames + 1 ≤ R.frames ∧ 8 + (1 + 11) + rmX6_init.locals ≤ R.locals) (hc : cells + 0 ≤ R.cells ∧ slots + 0 ≤ R.slots) (hW : (rest.map fun v => v.category).sum ≤ 8) (hd : decode cc pc = .ok (.invokespecial 33, 3)) (h : C6_init y0 S Q1) (k : ∀ (S1 : CS) (H : Heap) (locs : List Loc), GC D a d A s.heap S1 H locs → Q1 S1 → W p l e R s m args below meth c H locs cells slots Q (F0 m (pc + 3) ls rest)) : W p l e R s m args below meth c H locs cells slots Q (F0 m pc ls (.ref y0 :: rest)) := by
  obtain ⟨hx, hb, hr, hml, hown, hts, hlocks, hA, hK, hN⟩ := id F
  exact c_callv F G (va_runIN (As := []) (rest := rest) ⟨hx, hb, hml, hown, hts⟩ (wC6_init H.size y0 S Q1 h) ⟨va_cnB 0 hts (lw_meth q569) rfl rfl rfl (hN.1 _ (List.mem_of_getElem? (i := 31) rfl)) (hts _ q91) (by decide +kernel) hR, rfl, hts _ q568⟩ ⟨PC_blind, c_pre F G⟩ rfl rfl hsz rfl (lv_room hW) hd hc) k
/-! StrokesHeard.clockOf -/
def C0_clockOf (v0 : Int32) (S : CS) (Q : Nat → CS → Prop) : Prop := (v0 = 1 → ∀ y_2 : Nat, y_2 ∉ S.2.2.1 → C7_init y_2 (cN S y_2 (.inr (7, [.int 0, .int 0]))) (fun S_5 => Q y_2 S_5)) ∧ (v0 = 2 → ∀ y_7 : Nat, y_7 ∉ S.2.2.1 → C8_init y_7 (cN S y_7 (.inr (8, [.int 0, .int 0]))) (fun S_10 => Q y_7 S_10)) ∧ (v0 = 3 → ∀ y_12 : Nat, y_12 ∉ S.2.2.1 → C9_init y_12 (cN S y_12 (.inr (9, [.int 0, .int 0]))) (fun S_15 => Q y_12 S_15)) ∧ (v0 = 4 → ∀ y_17 : Nat, y_17 ∉ S.2.2.1 → C10_init y_17 (cN S y_17 (.inr (10, [.int 0, .int 0]))) (fun S_20 => Q y_17 S_20)) ∧ (v0 = 5 → ∀ y_22 : Nat, y_22 ∉ S.2.2.1 → C11_init y_22 (cN S y_22 (.inr (11, [.int 0, .int 0]))) (fun S_25 => Q y_22 S_25)) ∧ (¬ v0 = 1 → ¬ v0 = 2 → ¬ v0 = 3 → ¬ v0 = 4 → ¬ v0 = 5 → ∀ y_26 : Nat, y_26 ∉ S.2.2.1 → C6_init y_26 (cN S y_26 (.inr (6, [.int 0, .int 0]))) (fun S_29 => Q y_26 S_29))
abbrev rmX0_clockOf : Room := { frames := 4, cells := 1, slots := 2, locals := 80 }
set_option maxHeartbeats 4000000 in
set_option maxRecDepth 100000 in
theorem wC0_clockOf {l : Launch} {D : va_G} {a : Nat → Nat} {d : Nat → ClassId} (sz : Nat) (v0 : Int32) (S : CS) (Q : Nat → CS → Prop) (h : C0_clockOf v0 S Q) : CMr l D a d yX0_clockOf cX0_clockOf 1 (.object "StrokesHeard$Ringer") rmX0_clockOf 1 2 [.int v0] sz S Q := by
  refine c_enter (Qc := fun A => QRy Q (BC D a d A) A) RX0 (by decide +kernel) rfl (Nat.le_of_ble_eq_true rfl) ?_
  intro p e s m below meth c ls A hmn F hG hl
  have G := hG
  have hl : lv_has ls 1 [(0, .int v0)] := hl
  obtain ⟨hx, hb, hr, hml, hown, hts, hlocks, hA, hK, hN⟩ := id F
  unfold C0_clockOf at h
  refine lv_iload_n hx hb dX0_clockOf_0 rfl (lv_at hl 0 rfl) ?_
  by_cases c_1 : v0 = 1
  · replace h := h.1 c_1
    refine m_tsIn (k := 1) (off := 35) (tgt := 36) hx hb dX0_clockOf_1 c_1 (by decide) (by decide) (by decide) (by decide) ?_
    refine pnX0_X7 F G ⟨(Nat.le_of_ble_eq_true rfl), (Nat.le_of_ble_eq_true rfl)⟩ dX0_clockOf_36 (fun y_2 H q_3 G => ?_)
    replace h := h y_2 q_3
    refine lv_dup hx hb dX0_clockOf_39 rfl ?_
    refine kX0_C7_init F G hl.1 ⟨(Nat.le_of_ble_eq_true rfl), (Nat.le_of_ble_eq_true rfl)⟩ ⟨(Nat.le_of_ble_eq_true rfl), (Nat.le_of_ble_eq_true rfl)⟩ (Nat.le_of_ble_eq_true rfl) dX0_clockOf_40 h (fun S_5 H locs G h => ?_)
    exact c_aret F G dX0_clockOf_43 h
  by_cases c_6 : v0 = 2
  · replace h := h.2.1 c_6
    refine m_tsIn (k := 2) (off := 43) (tgt := 44) hx hb dX0_clockOf_1 c_6 (by decide) (by decide) (by decide) (by decide) ?_
    refine pnX0_X8 F G ⟨(Nat.le_of_ble_eq_true rfl), (Nat.le_of_ble_eq_true rfl)⟩ dX0_clockOf_44 (fun y_7 H q_8 G => ?_)
    replace h := h y_7 q_8
    refine lv_dup hx hb dX0_clockOf_47 rfl ?_
    refine kX0_C8_init F G hl.1 ⟨(Nat.le_of_ble_eq_true rfl), (Nat.le_of_ble_eq_true rfl)⟩ ⟨(Nat.le_of_ble_eq_true rfl), (Nat.le_of_ble_eq_true rfl)⟩ (Nat.le_of_ble_eq_true rfl) dX0_clockOf_48 h (fun S_10 H locs G h => ?_)
    exact c_aret F G dX0_clockOf_51 h
  by_cases c_11 : v0 = 3
  · replace h := h.2.2.1 c_11
    refine m_tsIn (k := 3) (off := 51) (tgt := 52) hx hb dX0_clockOf_1 c_11 (by decide) (by decide) (by decide) (by decide) ?_
    refine pnX0_X9 F G ⟨(Nat.le_of_ble_eq_true rfl), (Nat.le_of_ble_eq_true rfl)⟩ dX0_clockOf_52 (fun y_12 H q_13 G => ?_)
    replace h := h y_12 q_13
    refine lv_dup hx hb dX0_clockOf_55 rfl ?_
    refine kX0_C9_init F G hl.1 ⟨(Nat.le_of_ble_eq_true rfl), (Nat.le_of_ble_eq_true rfl)⟩ ⟨(Nat.le_of_ble_eq_true rfl), (Nat.le_of_ble_eq_true rfl)⟩ (Nat.le_of_ble_eq_true rfl) dX0_clockOf_56 h (fun S_15 H locs G h => ?_)
    exact c_aret F G dX0_clockOf_59 h
  by_cases c_16 : v0 = 4
  · replace h := h.2.2.2.1 c_16
    refine m_tsIn (k := 4) (off := 59) (tgt := 60) hx hb dX0_clockOf_1 c_16 (by decide) (by decide) (by decide) (by decide) ?_
    refine pnX0_X10 F G ⟨(Nat.le_of_ble_eq_true rfl), (Nat.le_of_ble_eq_true rfl)⟩ dX0_clockOf_60 (fun y_17 H q_18 G => ?_)
    replace h := h y_17 q_18
    refine lv_dup hx hb dX0_clockOf_63 rfl ?_
    refine kX0_C10_init F G hl.1 ⟨(Nat.le_of_ble_eq_true rfl), (Nat.le_of_ble_eq_true rfl)⟩ ⟨(Nat.le_of_ble_eq_true rfl), (Nat.le_of_ble_eq_true rfl)⟩ (Nat.le_of_ble_eq_true rfl) dX0_clockOf_64 h (fun S_20 H locs G h => ?_)
    exact c_aret F G dX0_clockOf_67 h
  by_cases c_21 : v0 = 5
  · replace h := h.2.2.2.2.1 c_21
    refine m_tsIn (k := 5) (off := 67) (tgt := 68) hx hb dX0_clockOf_1 c_21 (by decide) (by decide) (by decide) (by decide) ?_
    refine pnX0_X11 F G ⟨(Nat.le_of_ble_eq_true rfl), (Nat.le_of_ble_eq_true rfl)⟩ dX0_clockOf_68 (fun y_22 H q_23 G => ?_)
    replace h := h y_22 q_23
    refine lv_dup hx hb dX0_clockOf_71 rfl ?_
    refine kX0_C11_init F G hl.1 ⟨(Nat.le_of_ble_eq_true rfl), (Nat.le_of_ble_eq_true rfl)⟩ ⟨(Nat.le_of_ble_eq_true rfl), (Nat.le_of_ble_eq_true rfl)⟩ (Nat.le_of_ble_eq_true rfl) dX0_clockOf_72 h (fun S_25 H locs G h => ?_)
    exact c_aret F G dX0_clockOf_75 h
  replace h := h.2.2.2.2.2 c_1 c_6 c_11 c_16 c_21
  refine m_tsD (ks := [1, 2, 3, 4, 5]) (tgt := 76) hx hb dX0_clockOf_1 (tk_cons c_1 (by decide) (tk_cons c_6 (by decide) (tk_cons c_11 (by decide) (tk_cons c_16 (by decide) (tk_cons c_21 (by decide) tk_nil))))) (by decide) (by decide) ?_
  refine pnX0_X6 F G ⟨(Nat.le_of_ble_eq_true rfl), (Nat.le_of_ble_eq_true rfl)⟩ dX0_clockOf_76 (fun y_26 H q_27 G => ?_)
  replace h := h y_26 q_27
  refine lv_dup hx hb dX0_clockOf_79 rfl ?_
  refine kX0_C6_init F G hl.1 ⟨(Nat.le_of_ble_eq_true rfl), (Nat.le_of_ble_eq_true rfl)⟩ ⟨(Nat.le_of_ble_eq_true rfl), (Nat.le_of_ble_eq_true rfl)⟩ (Nat.le_of_ble_eq_true rfl) dX0_clockOf_80 h (fun S_29 H locs G h => ?_)
  exact c_aret F G dX0_clockOf_83 h
set_option maxHeartbeats 4000000 in
set_option maxRecDepth 100000 in
theorem kX0_C0_clockOf {p : Program} {l : Launch} {e : Env} {s : State} {m : MethodId} {R : Room} {args : Array Value} {below : List Frame} {meth : Method} {c : Code} {D : va_G} {a : Nat → Nat} {d : Nat → ClassId} {A : Nat → Prop} {Q : State → Prop} {cc : ByteArray} {nL pc cells slots : Nat} {ret : Option FieldType} {ls : Array Slot} {rest : List Value} {v0 : Int32} {S : CS} {H : Heap} {locs : List Loc} {Q1 : Nat → CS → Prop} (F : FC p s m meth c args D a d A RX0 cc nL ret) (G : GC D a d A s.heap S H locs) (hsz : ls.size = nL) (hR : rmX0_clockOf.frames + 1 ≤ R.frames ∧ 8 + (1 + 11) + rmX0_clockOf.locals ≤ R.locals) (hc : cells + 1 ≤ R.cells ∧ slots + 2 ≤ R.slots) (hW : (rest.map fun v => v.category).sum ≤ 8) (hd : decode cc pc = .ok (.invokestatic 257, 3)) (h : C0_clockOf v0 S Q1) (k : ∀ (r : Nat) (S1 : CS) (H : Heap) (locs : List Loc), GC D a d A s.heap S1 H locs → Q1 r S1 → W p l e R s m args below meth c H locs (cells + 1) (slots + 2) Q (F0 m (pc + 3) ls (.ref r :: rest))) : W p l e R s m args below meth c H locs cells slots Q (F0 m pc ls (.int v0 :: rest)) := by
  obtain ⟨hx, hb, hr, hml, hown, hts, hlocks, hA, hK, hN⟩ := id F
  exact c_callr F G (va_runS (As := [.int v0]) (rest := rest) ⟨hx, hb, hml, hown, hts⟩ (wC0_clockOf H.size v0 S Q1 h) (va_cwS 1 hts (lw_S q559 q560 q82 q561) rfl rfl rfl (by decide +kernel) hR) ⟨PC_blind, c_pre F G⟩ rfl rfl hsz rfl (lv_room hW) hd hc) k
/-! StrokesHeard.comes -/
def C0_comes (v1 : Int32) (v2 : Int32) (v3 : Int32) (S : CS) (Q : Int32 → CS → Prop) : Prop := ∀ x_1 : Int32, x_1 = (S.1 1 1) → C0_clockOf v1 S (fun y_2 S_3 => ∃ (κ_7 : Nat) (fs_4 : List Value), κ_7 < 6 ∧ has S_3 y_2 (.inr (6 + κ_7, fs_4)) ∧ 0 < fs_4.length ∧ (∃ (κ_12 : Nat) (fs_9 : List Value), κ_12 < 6 ∧ has (cP S_3 y_2 (.inr (6 + κ_7, fs_4.set 0 (.int v2)))) y_2 (.inr (6 + κ_12, fs_9)) ∧ 1 < fs_9.length ∧ (vp_in x_1 6 ∧ ∃ (κ_17 : Nat) (fs_15 : List Value), κ_17 < 6 ∧ has (cP (cP S_3 y_2 (.inr (6 + κ_7, fs_4.set 0 (.int v2)))) y_2 (.inr (6 + κ_12, fs_9.set 1 (.int v3)))) y_2 (.inr (6 + κ_17, fs_15)) ∧ (Q x_1 (cF (cR (cP (cP S_3 y_2 (.inr (6 + κ_7, fs_4.set 0 (.int v2)))) y_2 (.inr (6 + κ_12, fs_9.set 1 (.int v3)))) 5 x_1 (some y_2)) 1 1 (((cR (cP (cP S_3 y_2 (.inr (6 + κ_7, fs_4.set 0 (.int v2)))) y_2 (.inr (6 + κ_12, fs_9.set 1 (.int v3)))) 5 x_1 (some y_2)).1 1 1) + 1))))))
abbrev rmX0_comes : Room := { frames := 5, cells := 1, slots := 2, locals := 100 }
set_option maxHeartbeats 4000000 in
set_option maxRecDepth 100000 in
theorem wC0_comes {l : Launch} {D : va_G} {a : Nat → Nat} {d : Nat → ClassId} (sz : Nat) (v1 : Int32) (v2 : Int32) (v3 : Int32) (S : CS) (Q : Int32 → CS → Prop) (h : C0_comes v1 v2 v3 S Q) : CMi l D a d yX0_comes cX0_comes 6 .int rmX0_comes 1 2 [.ref (a 0), .int v1, .int v2, .int v3] sz S Q := by
  refine c_enter (Qc := fun A => va_Qi Q (BC D a d A) A) RX0 (by decide +kernel) rfl (Nat.le_of_ble_eq_true rfl) ?_
  intro p e s m below meth c ls A hmn F hG hl
  have G := hG
  have hl : lv_has ls 6 [(0, .ref (a 0)), (1, .int v1), (2, .int v2), (3, .int v3)] := hl
  obtain ⟨hx, hb, hr, hml, hown, hts, hlocks, hA, hK, hN⟩ := id F
  unfold C0_comes at h
  refine lv_aload_n hx hb dX0_comes_0 rfl (lv_at hl 0 rfl) ?_
  refine cgX0_0_now F G dX0_comes_1 ?_
  refine cgX0_1_many F G dX0_comes_4 ?_
  refine lv_topi (fun x_1 ex_1 => ?_)
  replace h := h x_1 ex_1
  refine lv_istore (lv' := [(4, .int x_1), (0, .ref (a 0)), (1, .int v1), (2, .int v2), (3, .int v3)]) hx hb dX0_comes_7 hl (by decide) rfl (fun ls hl => ?_)
  refine lv_iload_n hx hb dX0_comes_9 rfl (lv_at hl 2 rfl) ?_
  refine kX0_C0_clockOf F G hl.1 ⟨(Nat.le_of_ble_eq_true rfl), (Nat.le_of_ble_eq_true rfl)⟩ ⟨(Nat.le_of_ble_eq_true rfl), (Nat.le_of_ble_eq_true rfl)⟩ (Nat.le_of_ble_eq_true rfl) dX0_comes_10 h (fun y_2 S_3 H locs G h => ?_)
  refine lv_astore (lv' := [(5, .ref y_2), (4, .int x_1), (0, .ref (a 0)), (1, .int v1), (2, .int v2), (3, .int v3)]) hx hb dX0_comes_13 hl (by decide) rfl (fun ls hl => ?_)
  refine lv_aload hx hb dX0_comes_15 (lv_at hl 0 rfl) ?_
  refine lv_iload_n hx hb dX0_comes_17 rfl (lv_at hl 4 rfl) ?_
  obtain ⟨κ_7, fs_4, q_8, z_5, u_6, h⟩ := h
  refine ppX0_X6_off F G q_8 z_5 rfl rfl u_6 dX0_comes_18 (fun H locs G => ?_)
  refine lv_aload hx hb dX0_comes_21 (lv_at hl 0 rfl) ?_
  refine lv_iload_n hx hb dX0_comes_23 rfl (lv_at hl 5 rfl) ?_
  obtain ⟨κ_12, fs_9, q_13, z_10, u_11, h⟩ := h
  refine ppX0_X6_tone F G q_13 z_10 rfl rfl u_11 dX0_comes_24 (fun H locs G => ?_)
  refine lv_aload_n hx hb dX0_comes_27 rfl (lv_at hl 2 rfl) ?_
  refine cgX0_0_now F G dX0_comes_28 ?_
  refine cgX0_1_clock F G dX0_comes_31 ?_
  refine lv_iload hx hb dX0_comes_34 (lv_at hl 1 rfl) ?_
  refine lv_aload hx hb dX0_comes_36 (lv_at hl 0 rfl) ?_
  obtain ⟨b_14, κ_17, fs_15, q_18, z_16, h⟩ := h
  refine c_aastore F G cR_5 rfl (p_any_R F G q_18 z_16) b_14 dX0_comes_38 (fun H locs G => ?_)
  refine lv_aload_n hx hb dX0_comes_39 rfl (lv_at hl 2 rfl) ?_
  refine cgX0_0_now F G dX0_comes_40 ?_
  refine lv_dup hx hb dX0_comes_43 rfl ?_
  refine cgX0_1_many F G dX0_comes_44 ?_
  refine lv_iconst (v := 1) hx hb dX0_comes_47 (by decide) ?_
  refine lv_iadd hx hb dX0_comes_48 ?_
  refine cpX0_1_many F G dX0_comes_49 (fun H locs G => ?_)
  refine lv_iload hx hb dX0_comes_52 (lv_at hl 1 rfl) ?_
  exact c_iret F G dX0_comes_54 h
set_option maxHeartbeats 4000000 in
set_option maxRecDepth 100000 in
theorem kX0_C0_comes {p : Program} {l : Launch} {e : Env} {s : State} {m : MethodId} {R : Room} {args : Array Value} {below : List Frame} {meth : Method} {c : Code} {D : va_G} {a : Nat → Nat} {d : Nat → ClassId} {A : Nat → Prop} {Q : State → Prop} {cc : ByteArray} {nL pc cells slots : Nat} {ret : Option FieldType} {ls : Array Slot} {rest : List Value} {v1 : Int32} {v2 : Int32} {v3 : Int32} {S : CS} {H : Heap} {locs : List Loc} {Q1 : Int32 → CS → Prop} (F : FC p s m meth c args D a d A RX0 cc nL ret) (G : GC D a d A s.heap S H locs) (hsz : ls.size = nL) (hR : rmX0_comes.frames + 1 ≤ R.frames ∧ 8 + (6 + 11) + rmX0_comes.locals ≤ R.locals) (hc : cells + 1 ≤ R.cells ∧ slots + 2 ≤ R.slots) (hW : (rest.map fun v => v.category).sum ≤ 8) (hd : decode cc pc = .ok (.invokevirtual 275, 3)) (h : C0_comes v1 v2 v3 S Q1) (k : ∀ (r : Int32) (S1 : CS) (H : Heap) (locs : List Loc), GC D a d A s.heap S1 H locs → Q1 r S1 → W p l e R s m args below meth c H locs (cells + 1) (slots + 2) Q (F0 m (pc + 3) ls (.int r :: rest))) : W p l e R s m args below meth c H locs cells slots Q (F0 m pc ls (.int v3 :: .int v2 :: .int v1 :: .ref (a 0) :: rest)) := by
  obtain ⟨hx, hb, hr, hml, hown, hts, hlocks, hA, hK, hN⟩ := id F
  exact c_calli F G (va_runV (As := [.int v1, .int v2, .int v3]) (rest := rest) ⟨hx, hb, hml, hown, hts⟩ (wC0_comes H.size v1 v2 v3 S Q1 h) (cwV 3 hts (lw_V q555 q557 qs18 q82 q558) rfl rfl rfl (by decide +kernel) hR) ⟨PC_blind, va_recv hK G.1 (ci := 0) (q0 := 0) rfl rfl, c_pre F G⟩ rfl rfl hsz rfl (lv_room hW) hd hc) k
/-! StrokesHeard.clock -/
def C0_clock (v1 : Int32) (v2 : Int32) (v3 : Int32) (S : CS) (Q : Int32 → CS → Prop) : Prop := C0_isIn v1 0 5 S (fun r_1 S_2 => (r_1 = 0 → Q (-1000000001) S_2) ∧ (¬ r_1 = 0 → C0_isOf 1 v2 S_2 (fun r_4 S_5 => (r_4 = 0 → Q (-1000000001) S_5) ∧ (¬ r_4 = 0 → C0_isOf 2 v3 S_5 (fun r_7 S_8 => (¬ r_7 = 0 → (¬ (S_8.1 1 1) = 6 → C0_comes v1 v2 v3 S_8 (fun r_11 S_12 => Q r_11 S_12)) ∧ ((S_8.1 1 1) = 6 → Q (-1000000003) S_8)) ∧ (r_7 = 0 → Q (-1000000001) S_8))))))
abbrev rmX0_clock : Room := { frames := 6, cells := 1, slots := 2, locals := 125 }
set_option maxHeartbeats 4000000 in
set_option maxRecDepth 100000 in
theorem wC0_clock {l : Launch} {D : va_G} {a : Nat → Nat} {d : Nat → ClassId} (sz : Nat) (v1 : Int32) (v2 : Int32) (v3 : Int32) (S : CS) (Q : Int32 → CS → Prop) (h : C0_clock v1 v2 v3 S Q) : CMi l D a d yX0_clock cX0_clock 4 .int rmX0_clock 1 2 [.ref (a 0), .int v1, .int v2, .int v3] sz S Q := by
  refine c_enter (Qc := fun A => va_Qi Q (BC D a d A) A) RX0 (by decide +kernel) rfl (Nat.le_of_ble_eq_true rfl) ?_
  intro p e s m below meth c ls A hmn F hG hl
  have G := hG
  have hl : lv_has ls 4 [(0, .ref (a 0)), (1, .int v1), (2, .int v2), (3, .int v3)] := hl
  obtain ⟨hx, hb, hr, hml, hown, hts, hlocks, hA, hK, hN⟩ := id F
  unfold C0_clock at h
  refine lv_iload_n hx hb dX0_clock_0 rfl (lv_at hl 1 rfl) ?_
  refine lv_iconst (v := 0) hx hb dX0_clock_1 (by decide) ?_
  refine lv_iconst (v := 5) hx hb dX0_clock_2 (by decide) ?_
  refine kX0_C0_isIn F G hl.1 ⟨(Nat.le_of_ble_eq_true rfl), (Nat.le_of_ble_eq_true rfl)⟩ ⟨(Nat.le_of_ble_eq_true rfl), (Nat.le_of_ble_eq_true rfl)⟩ (Nat.le_of_ble_eq_true rfl) dX0_clock_3 h (fun r_1 S_2 H locs G h => ?_)
  refine lv_if_eq (tgt := 25) hx hb dX0_clock_6 (by decide) (fun c_3 => ?_) (fun c_3 => ?_)
  · replace h := h.1 c_3
    refine lv_ldc hx hb hown (hts _ q368) dX0_clock_25 ?_
    refine W.widen (k := 1) (n := 2) (by decide) (by decide) ?_
    exact c_iret F G dX0_clock_27 h
  · replace h := h.2 c_3
    refine lv_iconst (v := 1) hx hb dX0_clock_9 (by decide) ?_
    refine lv_iload_n hx hb dX0_clock_10 rfl (lv_at hl 2 rfl) ?_
    refine kX0_C0_isOf F G hl.1 ⟨(Nat.le_of_ble_eq_true rfl), (Nat.le_of_ble_eq_true rfl)⟩ ⟨(Nat.le_of_ble_eq_true rfl), (Nat.le_of_ble_eq_true rfl)⟩ (Nat.le_of_ble_eq_true rfl) dX0_clock_11 h (fun r_4 S_5 H locs G h => ?_)
    refine lv_if_eq (tgt := 25) hx hb dX0_clock_14 (by decide) (fun c_6 => ?_) (fun c_6 => ?_)
    · replace h := h.1 c_6
      refine lv_ldc hx hb hown (hts _ q368) dX0_clock_25 ?_
      refine W.widen (k := 1) (n := 2) (by decide) (by decide) ?_
      exact c_iret F G dX0_clock_27 h
    · replace h := h.2 c_6
      refine lv_iconst (v := 2) hx hb dX0_clock_17 (by decide) ?_
      refine lv_iload_n hx hb dX0_clock_18 rfl (lv_at hl 3 rfl) ?_
      refine kX0_C0_isOf F G hl.1 ⟨(Nat.le_of_ble_eq_true rfl), (Nat.le_of_ble_eq_true rfl)⟩ ⟨(Nat.le_of_ble_eq_true rfl), (Nat.le_of_ble_eq_true rfl)⟩ (Nat.le_of_ble_eq_true rfl) dX0_clock_19 h (fun r_7 S_8 H locs G h => ?_)
      refine lv_if_ne (tgt := 28) hx hb dX0_clock_22 (by decide) (fun c_9 => ?_) (fun c_9 => ?_)
      · replace h := h.1 c_9
        refine lv_aload_n hx hb dX0_clock_28 rfl (lv_at hl 0 rfl) ?_
        refine cgX0_0_now F G dX0_clock_29 ?_
        refine cgX0_1_many F G dX0_clock_32 ?_
        refine lv_bipush (v := 6) hx hb dX0_clock_35 (by decide) ?_
        refine lv_icmp_ne (tgt := 45) hx hb dX0_clock_37 (by decide) (fun c_10 => ?_) (fun c_10 => ?_)
        · replace h := h.1 c_10
          refine lv_aload_n hx hb dX0_clock_45 rfl (lv_at hl 0 rfl) ?_
          refine lv_iload_n hx hb dX0_clock_46 rfl (lv_at hl 1 rfl) ?_
          refine lv_iload_n hx hb dX0_clock_47 rfl (lv_at hl 2 rfl) ?_
          refine lv_iload_n hx hb dX0_clock_48 rfl (lv_at hl 3 rfl) ?_
          refine kX0_C0_comes F G hl.1 ⟨(Nat.le_of_ble_eq_true rfl), (Nat.le_of_ble_eq_true rfl)⟩ ⟨(Nat.le_of_ble_eq_true rfl), (Nat.le_of_ble_eq_true rfl)⟩ (Nat.le_of_ble_eq_true rfl) dX0_clock_49 h (fun r_11 S_12 H locs G h => ?_)
          exact c_iret F G dX0_clock_52 h
        · replace h := h.2 c_10
          refine lv_ldc hx hb hown (hts _ q356) dX0_clock_40 ?_
          refine lv_goto (tgt := 52) hx hb dX0_clock_42 (by decide) ?_
          refine W.widen (k := 1) (n := 2) (by decide) (by decide) ?_
          exact c_iret F G dX0_clock_52 h
      · replace h := h.2 c_9
        refine lv_ldc hx hb hown (hts _ q368) dX0_clock_25 ?_
        refine W.widen (k := 1) (n := 2) (by decide) (by decide) ?_
        exact c_iret F G dX0_clock_27 h
/-! StrokesHeard.isClock -/
def C0_isClock (v1 : Int32) (S : CS) (Q : Int32 → CS → Prop) : Prop := C0_isIn v1 0 ((S.1 1 1) - 1) S (fun r_1 S_2 => zb r_1 ∧ Q r_1 S_2)
abbrev rmX0_isClock : Room := { frames := 1, cells := 0, slots := 0, locals := 22 }
set_option maxHeartbeats 4000000 in
set_option maxRecDepth 100000 in
theorem wC0_isClock {l : Launch} {D : va_G} {a : Nat → Nat} {d : Nat → ClassId} (sz : Nat) (v1 : Int32) (S : CS) (Q : Int32 → CS → Prop) (h : C0_isClock v1 S Q) : CMi l D a d yX0_isClock cX0_isClock 2 .boolean rmX0_isClock 0 0 [.ref (a 0), .int v1] sz S Q := by
  refine c_enter (Qc := fun A => va_Qi Q (BC D a d A) A) RX0 (by decide +kernel) rfl (Nat.le_of_ble_eq_true rfl) ?_
  intro p e s m below meth c ls A hmn F hG hl
  have G := hG
  have hl : lv_has ls 2 [(0, .ref (a 0)), (1, .int v1)] := hl
  obtain ⟨hx, hb, hr, hml, hown, hts, hlocks, hA, hK, hN⟩ := id F
  unfold C0_isClock at h
  refine lv_iload_n hx hb dX0_isClock_0 rfl (lv_at hl 1 rfl) ?_
  refine lv_iconst (v := 0) hx hb dX0_isClock_1 (by decide) ?_
  refine lv_aload_n hx hb dX0_isClock_2 rfl (lv_at hl 0 rfl) ?_
  refine cgX0_0_now F G dX0_isClock_3 ?_
  refine cgX0_1_many F G dX0_isClock_6 ?_
  refine lv_iconst (v := 1) hx hb dX0_isClock_9 (by decide) ?_
  refine lv_isub hx hb dX0_isClock_10 ?_
  refine kX0_C0_isIn F G hl.1 ⟨(Nat.le_of_ble_eq_true rfl), (Nat.le_of_ble_eq_true rfl)⟩ ⟨(Nat.le_of_ble_eq_true rfl), (Nat.le_of_ble_eq_true rfl)⟩ (Nat.le_of_ble_eq_true rfl) dX0_isClock_11 h (fun r_1 S_2 H locs G h => ?_)
  exact c_zret h.1 F G dX0_isClock_14 h.2
set_option maxHeartbeats 4000000 in
set_option maxRecDepth 100000 in
theorem kX0_C0_isClock {p : Program} {l : Launch} {e : Env} {s : State} {m : MethodId} {R : Room} {args : Array Value} {below : List Frame} {meth : Method} {c : Code} {D : va_G} {a : Nat → Nat} {d : Nat → ClassId} {A : Nat → Prop} {Q : State → Prop} {cc : ByteArray} {nL pc cells slots : Nat} {ret : Option FieldType} {ls : Array Slot} {rest : List Value} {v1 : Int32} {S : CS} {H : Heap} {locs : List Loc} {Q1 : Int32 → CS → Prop} (F : FC p s m meth c args D a d A RX0 cc nL ret) (G : GC D a d A s.heap S H locs) (hsz : ls.size = nL) (hR : rmX0_isClock.frames + 1 ≤ R.frames ∧ 8 + (2 + 11) + rmX0_isClock.locals ≤ R.locals) (hc : cells + 0 ≤ R.cells ∧ slots + 0 ≤ R.slots) (hW : (rest.map fun v => v.category).sum ≤ 8) (hd : decode cc pc = .ok (.invokevirtual 305, 3)) (h : C0_isClock v1 S Q1) (k : ∀ (r : Int32) (S1 : CS) (H : Heap) (locs : List Loc), GC D a d A s.heap S1 H locs → Q1 r S1 → W p l e R s m args below meth c H locs cells slots Q (F0 m (pc + 3) ls (.int r :: rest))) : W p l e R s m args below meth c H locs cells slots Q (F0 m pc ls (.int v1 :: .ref (a 0) :: rest)) := by
  obtain ⟨hx, hb, hr, hml, hown, hts, hlocks, hA, hK, hN⟩ := id F
  exact c_calli F G (va_runV (As := [.int v1]) (rest := rest) ⟨hx, hb, hml, hown, hts⟩ (wC0_isClock H.size v1 S Q1 h) (cwV 1 hts (lw_V q626 q628 qs19 q82 q629) rfl rfl rfl (by decide +kernel) hR) ⟨PC_blind, va_recv hK G.1 (ci := 0) (q0 := 0) rfl rfl, c_pre F G⟩ rfl rfl hsz rfl (lv_room hW) hd hc) k
/-! StrokesHeard$Ringer.kind -/
def C6_kind (y0 : Nat) (S : CS) (Q : Int32 → CS → Prop) : Prop := Q 0 S
abbrev rmX6_kind : Room := { frames := 0, cells := 0, slots := 0, locals := 0 }
set_option maxHeartbeats 4000000 in
set_option maxRecDepth 100000 in
theorem wC6_kind {l : Launch} {D : va_G} {a : Nat → Nat} {d : Nat → ClassId} (sz : Nat) (y0 : Nat) (S : CS) (Q : Int32 → CS → Prop) (h : C6_kind y0 S Q) : CMi l D a d yX6_kind cX6_kind 1 .int rmX6_kind 0 0 [.ref y0] sz S Q := by
  refine c_enter (Qc := fun A => va_Qi Q (BC D a d A) A) RX6 (by decide +kernel) rfl (Nat.le_of_ble_eq_true rfl) ?_
  intro p e s m below meth c ls A hmn F hG hl
  have G := hG
  have hl : lv_has ls 1 [(0, .ref y0)] := hl
  obtain ⟨hx, hb, hr, hml, hown, hts, hlocks, hA, hK, hN⟩ := id F
  unfold C6_kind at h
  refine lv_iconst (v := 0) hx hb dX6_kind_0 (by decide) ?_
  exact c_iret F G dX6_kind_1 h
/-! StrokesHeard$Quarters.kind -/
def C7_kind (y0 : Nat) (S : CS) (Q : Int32 → CS → Prop) : Prop := Q 1 S
abbrev rmX7_kind : Room := { frames := 0, cells := 0, slots := 0, locals := 0 }
set_option maxHeartbeats 4000000 in
set_option maxRecDepth 100000 in
theorem wC7_kind {l : Launch} {D : va_G} {a : Nat → Nat} {d : Nat → ClassId} (sz : Nat) (y0 : Nat) (S : CS) (Q : Int32 → CS → Prop) (h : C7_kind y0 S Q) : CMi l D a d yX7_kind cX7_kind 1 .int rmX7_kind 0 0 [.ref y0] sz S Q := by
  refine c_enter (Qc := fun A => va_Qi Q (BC D a d A) A) RX7 (by decide +kernel) rfl (Nat.le_of_ble_eq_true rfl) ?_
  intro p e s m below meth c ls A hmn F hG hl
  have G := hG
  have hl : lv_has ls 1 [(0, .ref y0)] := hl
  obtain ⟨hx, hb, hr, hml, hown, hts, hlocks, hA, hK, hN⟩ := id F
  unfold C7_kind at h
  refine lv_iconst (v := 1) hx hb dX7_kind_0 (by decide) ?_
  exact c_iret F G dX7_kind_1 h
/-! StrokesHeard$Twice.kind -/
def C8_kind (y0 : Nat) (S : CS) (Q : Int32 → CS → Prop) : Prop := Q 2 S
abbrev rmX8_kind : Room := { frames := 0, cells := 0, slots := 0, locals := 0 }
set_option maxHeartbeats 4000000 in
set_option maxRecDepth 100000 in
theorem wC8_kind {l : Launch} {D : va_G} {a : Nat → Nat} {d : Nat → ClassId} (sz : Nat) (y0 : Nat) (S : CS) (Q : Int32 → CS → Prop) (h : C8_kind y0 S Q) : CMi l D a d yX8_kind cX8_kind 1 .int rmX8_kind 0 0 [.ref y0] sz S Q := by
  refine c_enter (Qc := fun A => va_Qi Q (BC D a d A) A) RX8 (by decide +kernel) rfl (Nat.le_of_ble_eq_true rfl) ?_
  intro p e s m below meth c ls A hmn F hG hl
  have G := hG
  have hl : lv_has ls 1 [(0, .ref y0)] := hl
  obtain ⟨hx, hb, hr, hml, hown, hts, hlocks, hA, hK, hN⟩ := id F
  unfold C8_kind at h
  refine lv_iconst (v := 2) hx hb dX8_kind_0 (by decide) ?_
  exact c_iret F G dX8_kind_1 h
set_option maxHeartbeats 4000000 in
set_option maxRecDepth 100000 in
theorem kuX9_kind {p : Program} {l : Launch} {e : Env} {s : State} {m : MethodId} {R : Room} {args : Array Value} {below : List Frame} {meth : Method} {c : Code} {D : va_G} {a : Nat → Nat} {d : Nat → ClassId} {A : Nat → Prop} {Q : State → Prop} {cc : ByteArray} {nL pc cells slots κ : Nat} {fs0 : List Value} {ret : Option FieldType} {ls : Array Slot} {rest : List Value} {y0 : Nat} {S : CS} {H : Heap} {locs : List Loc} {Q1 : Int32 → CS → Prop} (F : FC p s m meth c args D a d A RX9 cc nL ret) (G : GC D a d A s.heap S H locs) (hκ : κ < 6) (hy : has S y0 (.inr (6 + κ, fs0))) (hsz : ls.size = nL) (hR : 0 + 1 ≤ R.frames ∧ 20 ≤ R.locals) (hc : cells + 0 ≤ R.cells ∧ slots + 0 ≤ R.slots) (hW : (rest.map fun v => v.category).sum ≤ 8) (hd : decode cc pc = .ok (.invokespecial 7, 3)) (h : C7_kind y0 S Q1) (k : ∀ (r : Int32) (S1 : CS) (H : Heap) (locs : List Loc), GC D a d A s.heap S1 H locs → Q1 r S1 → W p l e R s m args below meth c H locs cells slots Q (F0 m (pc + 3) ls (.int r :: rest))) : W p l e R s m args below meth c H locs cells slots Q (F0 m pc ls (.ref y0 :: rest)) := by
  obtain ⟨hx, hb, hr, hml, hown, hts, hlocks, hA, hK, hN⟩ := id F
  obtain rfl | rfl | rfl | rfl | rfl | rfl : κ = 0 ∨ κ = 1 ∨ κ = 2 ∨ κ = 3 ∨ κ = 4 ∨ κ = 5 := by omega
  · exact c_calli F G (va_runSU (As := []) (rest := rest) (C := RX6) (hK.1 6 _ rfl).2 ⟨hx, hb, hml, hown, hts⟩ (wC7_kind H.size y0 S Q1 h) (va_cwSU 0 hts (lw_SU q649 q1693 q597 q638 q92 q639) rfl rfl rfl (by decide +kernel) hR) ⟨PC_blind, p_recv_X6 F G hy, c_pre F G⟩ rfl rfl hsz rfl (lv_room hW) hd hc) k
  · exact c_calli F G (va_runSU (As := []) (rest := rest) (C := RX7) (hK.1 7 _ rfl).2 ⟨hx, hb, hml, hown, hts⟩ (wC7_kind H.size y0 S Q1 h) (va_cwSU 0 hts (lw_SU q649 q1693 q597 q638 q92 q639) rfl rfl rfl (by decide +kernel) hR) ⟨PC_blind, p_recv_X7 F G hy, c_pre F G⟩ rfl rfl hsz rfl (lv_room hW) hd hc) k
  · exact c_calli F G (va_runSU (As := []) (rest := rest) (C := RX8) (hK.1 8 _ rfl).2 ⟨hx, hb, hml, hown, hts⟩ (wC7_kind H.size y0 S Q1 h) (va_cwSU 0 hts (lw_SU q649 q1693 q597 q638 q92 q639) rfl rfl rfl (by decide +kernel) hR) ⟨PC_blind, p_recv_X8 F G hy, c_pre F G⟩ rfl rfl hsz rfl (lv_room hW) hd hc) k
  · exact c_calli F G (va_runSU (As := []) (rest := rest) (C := RX9) (hK.1 9 _ rfl).2 ⟨hx, hb, hml, hown, hts⟩ (wC7_kind H.size y0 S Q1 h) (va_cwSU 0 hts (lw_SU q649 q1693 q597 q638 q92 q639) rfl rfl rfl (by decide +kernel) hR) ⟨PC_blind, p_recv_X9 F G hy, c_pre F G⟩ rfl rfl hsz rfl (lv_room hW) hd hc) k
  · exact c_calli F G (va_runSU (As := []) (rest := rest) (C := RX10) (hK.1 10 _ rfl).2 ⟨hx, hb, hml, hown, hts⟩ (wC7_kind H.size y0 S Q1 h) (va_cwSU 0 hts (lw_SU q649 q1693 q597 q638 q92 q639) rfl rfl rfl (by decide +kernel) hR) ⟨PC_blind, p_recv_X10 F G hy, c_pre F G⟩ rfl rfl hsz rfl (lv_room hW) hd hc) k
  · exact c_calli F G (va_runSU (As := []) (rest := rest) (C := RX11) (hK.1 11 _ rfl).2 ⟨hx, hb, hml, hown, hts⟩ (wC7_kind H.size y0 S Q1 h) (va_cwSU 0 hts (lw_SU q649 q1693 q597 q638 q92 q639) rfl rfl rfl (by decide +kernel) hR) ⟨PC_blind, p_recv_X11 F G hy, c_pre F G⟩ rfl rfl hsz rfl (lv_room hW) hd hc) k
/-! StrokesHeard$Tune.kind -/
def C9_kind (y0 : Nat) (S : CS) (Q : Int32 → CS → Prop) : Prop := ∃ (κ_3 : Nat) (fs_4 : List Value), κ_3 < 6 ∧ has S y0 (.inr (6 + κ_3, fs_4)) ∧ C7_kind y0 S (fun r_1 S_2 => Q (r_1 + 2) S_2)
abbrev rmX9_kind : Room := { frames := 1, cells := 0, slots := 0, locals := 20 }
set_option maxHeartbeats 4000000 in
set_option maxRecDepth 100000 in
theorem wC9_kind {l : Launch} {D : va_G} {a : Nat → Nat} {d : Nat → ClassId} (sz : Nat) (y0 : Nat) (S : CS) (Q : Int32 → CS → Prop) (h : C9_kind y0 S Q) : CMi l D a d yX9_kind cX9_kind 1 .int rmX9_kind 0 0 [.ref y0] sz S Q := by
  refine c_enter (Qc := fun A => va_Qi Q (BC D a d A) A) RX9 (by decide +kernel) rfl (Nat.le_of_ble_eq_true rfl) ?_
  intro p e s m below meth c ls A hmn F hG hl
  have G := hG
  have hl : lv_has ls 1 [(0, .ref y0)] := hl
  obtain ⟨hx, hb, hr, hml, hown, hts, hlocks, hA, hK, hN⟩ := id F
  unfold C9_kind at h
  refine lv_aload_n hx hb dX9_kind_0 rfl (lv_at hl 0 rfl) ?_
  obtain ⟨κ_3, fs_4, q_5, z_6, h⟩ := h
  refine kuX9_kind F G q_5 z_6 hl.1 ⟨(Nat.le_of_ble_eq_true rfl), (Nat.le_of_ble_eq_true rfl)⟩ ⟨(Nat.le_of_ble_eq_true rfl), (Nat.le_of_ble_eq_true rfl)⟩ (Nat.le_of_ble_eq_true rfl) dX9_kind_1 h (fun r_1 S_2 H locs G h => ?_)
  refine lv_iconst (v := 2) hx hb dX9_kind_4 (by decide) ?_
  refine lv_iadd hx hb dX9_kind_5 ?_
  exact c_iret F G dX9_kind_6 h
set_option maxHeartbeats 4000000 in
set_option maxRecDepth 100000 in
theorem kuX10_kind {p : Program} {l : Launch} {e : Env} {s : State} {m : MethodId} {R : Room} {args : Array Value} {below : List Frame} {meth : Method} {c : Code} {D : va_G} {a : Nat → Nat} {d : Nat → ClassId} {A : Nat → Prop} {Q : State → Prop} {cc : ByteArray} {nL pc cells slots κ : Nat} {fs0 : List Value} {ret : Option FieldType} {ls : Array Slot} {rest : List Value} {y0 : Nat} {S : CS} {H : Heap} {locs : List Loc} {Q1 : Int32 → CS → Prop} (F : FC p s m meth c args D a d A RX10 cc nL ret) (G : GC D a d A s.heap S H locs) (hκ : κ < 6) (hy : has S y0 (.inr (6 + κ, fs0))) (hsz : ls.size = nL) (hR : 0 + 1 ≤ R.frames ∧ 20 ≤ R.locals) (hc : cells + 0 ≤ R.cells ∧ slots + 0 ≤ R.slots) (hW : (rest.map fun v => v.category).sum ≤ 8) (hd : decode cc pc = .ok (.invokespecial 7, 3)) (h : C8_kind y0 S Q1) (k : ∀ (r : Int32) (S1 : CS) (H : Heap) (locs : List Loc), GC D a d A s.heap S1 H locs → Q1 r S1 → W p l e R s m args below meth c H locs cells slots Q (F0 m (pc + 3) ls (.int r :: rest))) : W p l e R s m args below meth c H locs cells slots Q (F0 m pc ls (.ref y0 :: rest)) := by
  obtain ⟨hx, hb, hr, hml, hown, hts, hlocks, hA, hK, hN⟩ := id F
  obtain rfl | rfl | rfl | rfl | rfl | rfl : κ = 0 ∨ κ = 1 ∨ κ = 2 ∨ κ = 3 ∨ κ = 4 ∨ κ = 5 := by omega
  · exact c_calli F G (va_runSU (As := []) (rest := rest) (C := RX6) (hK.1 6 _ rfl).2 ⟨hx, hb, hml, hown, hts⟩ (wC8_kind H.size y0 S Q1 h) (va_cwSU 0 hts (lw_SU q643 q1692 q606 q644 q93 q645) rfl rfl rfl (by decide +kernel) hR) ⟨PC_blind, p_recv_X6 F G hy, c_pre F G⟩ rfl rfl hsz rfl (lv_room hW) hd hc) k
  · exact c_calli F G (va_runSU (As := []) (rest := rest) (C := RX7) (hK.1 7 _ rfl).2 ⟨hx, hb, hml, hown, hts⟩ (wC8_kind H.size y0 S Q1 h) (va_cwSU 0 hts (lw_SU q643 q1692 q606 q644 q93 q645) rfl rfl rfl (by decide +kernel) hR) ⟨PC_blind, p_recv_X7 F G hy, c_pre F G⟩ rfl rfl hsz rfl (lv_room hW) hd hc) k
  · exact c_calli F G (va_runSU (As := []) (rest := rest) (C := RX8) (hK.1 8 _ rfl).2 ⟨hx, hb, hml, hown, hts⟩ (wC8_kind H.size y0 S Q1 h) (va_cwSU 0 hts (lw_SU q643 q1692 q606 q644 q93 q645) rfl rfl rfl (by decide +kernel) hR) ⟨PC_blind, p_recv_X8 F G hy, c_pre F G⟩ rfl rfl hsz rfl (lv_room hW) hd hc) k
  · exact c_calli F G (va_runSU (As := []) (rest := rest) (C := RX9) (hK.1 9 _ rfl).2 ⟨hx, hb, hml, hown, hts⟩ (wC8_kind H.size y0 S Q1 h) (va_cwSU 0 hts (lw_SU q643 q1692 q606 q644 q93 q645) rfl rfl rfl (by decide +kernel) hR) ⟨PC_blind, p_recv_X9 F G hy, c_pre F G⟩ rfl rfl hsz rfl (lv_room hW) hd hc) k
  · exact c_calli F G (va_runSU (As := []) (rest := rest) (C := RX10) (hK.1 10 _ rfl).2 ⟨hx, hb, hml, hown, hts⟩ (wC8_kind H.size y0 S Q1 h) (va_cwSU 0 hts (lw_SU q643 q1692 q606 q644 q93 q645) rfl rfl rfl (by decide +kernel) hR) ⟨PC_blind, p_recv_X10 F G hy, c_pre F G⟩ rfl rfl hsz rfl (lv_room hW) hd hc) k
  · exact c_calli F G (va_runSU (As := []) (rest := rest) (C := RX11) (hK.1 11 _ rfl).2 ⟨hx, hb, hml, hown, hts⟩ (wC8_kind H.size y0 S Q1 h) (va_cwSU 0 hts (lw_SU q643 q1692 q606 q644 q93 q645) rfl rfl rfl (by decide +kernel) hR) ⟨PC_blind, p_recv_X11 F G hy, c_pre F G⟩ rfl rfl hsz rfl (lv_room hW) hd hc) k
/-! StrokesHeard$Sign.kind -/
def C10_kind (y0 : Nat) (S : CS) (Q : Int32 → CS → Prop) : Prop := ∃ (κ_3 : Nat) (fs_4 : List Value), κ_3 < 6 ∧ has S y0 (.inr (6 + κ_3, fs_4)) ∧ C8_kind y0 S (fun r_1 S_2 => Q (r_1 + 2) S_2)
abbrev rmX10_kind : Room := { frames := 1, cells := 0, slots := 0, locals := 20 }
set_option maxHeartbeats 4000000 in
set_option maxRecDepth 100000 in
theorem wC10_kind {l : Launch} {D : va_G} {a : Nat → Nat} {d : Nat → ClassId} (sz : Nat) (y0 : Nat) (S : CS) (Q : Int32 → CS → Prop) (h : C10_kind y0 S Q) : CMi l D a d yX10_kind cX10_kind 1 .int rmX10_kind 0 0 [.ref y0] sz S Q := by
  refine c_enter (Qc := fun A => va_Qi Q (BC D a d A) A) RX10 (by decide +kernel) rfl (Nat.le_of_ble_eq_true rfl) ?_
  intro p e s m below meth c ls A hmn F hG hl
  have G := hG
  have hl : lv_has ls 1 [(0, .ref y0)] := hl
  obtain ⟨hx, hb, hr, hml, hown, hts, hlocks, hA, hK, hN⟩ := id F
  unfold C10_kind at h
  refine lv_aload_n hx hb dX10_kind_0 rfl (lv_at hl 0 rfl) ?_
  obtain ⟨κ_3, fs_4, q_5, z_6, h⟩ := h
  refine kuX10_kind F G q_5 z_6 hl.1 ⟨(Nat.le_of_ble_eq_true rfl), (Nat.le_of_ble_eq_true rfl)⟩ ⟨(Nat.le_of_ble_eq_true rfl), (Nat.le_of_ble_eq_true rfl)⟩ (Nat.le_of_ble_eq_true rfl) dX10_kind_1 h (fun r_1 S_2 H locs G h => ?_)
  refine lv_iconst (v := 2) hx hb dX10_kind_4 (by decide) ?_
  refine lv_iadd hx hb dX10_kind_5 ?_
  exact c_iret F G dX10_kind_6 h
/-! StrokesHeard$Cuckoo.kind -/
def C11_kind (y0 : Nat) (S : CS) (Q : Int32 → CS → Prop) : Prop := Q 5 S
abbrev rmX11_kind : Room := { frames := 0, cells := 0, slots := 0, locals := 0 }
set_option maxHeartbeats 4000000 in
set_option maxRecDepth 100000 in
theorem wC11_kind {l : Launch} {D : va_G} {a : Nat → Nat} {d : Nat → ClassId} (sz : Nat) (y0 : Nat) (S : CS) (Q : Int32 → CS → Prop) (h : C11_kind y0 S Q) : CMi l D a d yX11_kind cX11_kind 1 .int rmX11_kind 0 0 [.ref y0] sz S Q := by
  refine c_enter (Qc := fun A => va_Qi Q (BC D a d A) A) RX11 (by decide +kernel) rfl (Nat.le_of_ble_eq_true rfl) ?_
  intro p e s m below meth c ls A hmn F hG hl
  have G := hG
  have hl : lv_has ls 1 [(0, .ref y0)] := hl
  obtain ⟨hx, hb, hr, hml, hown, hts, hlocks, hA, hK, hN⟩ := id F
  unfold C11_kind at h
  refine lv_iconst (v := 5) hx hb dX11_kind_0 (by decide) ?_
  exact c_iret F G dX11_kind_1 h
def CV_kind (κ : Nat) (y0 : Nat) (S : CS) (Q : Int32 → CS → Prop) : Prop := match κ with
  | 0 => C6_kind y0 S Q
  | 1 => C7_kind y0 S Q
  | 2 => C8_kind y0 S Q
  | 3 => C9_kind y0 S Q
  | 4 => C10_kind y0 S Q
  | _ => C11_kind y0 S Q
set_option maxHeartbeats 4000000 in
set_option maxRecDepth 100000 in
theorem kvX0_kind {p : Program} {l : Launch} {e : Env} {s : State} {m : MethodId} {R : Room} {args : Array Value} {below : List Frame} {meth : Method} {c : Code} {D : va_G} {a : Nat → Nat} {d : Nat → ClassId} {A : Nat → Prop} {Q : State → Prop} {cc : ByteArray} {nL pc cells slots κ : Nat} {fs0 : List Value} {ret : Option FieldType} {ls : Array Slot} {rest : List Value} {y0 : Nat} {S : CS} {H : Heap} {locs : List Loc} {Q1 : Int32 → CS → Prop} (F : FC p s m meth c args D a d A RX0 cc nL ret) (G : GC D a d A s.heap S H locs) (hκ : κ < 6) (hy : has S y0 (.inr (6 + κ, fs0))) (hsz : ls.size = nL) (hR : 1 + 1 ≤ R.frames ∧ 40 ≤ R.locals) (hc : cells + 0 ≤ R.cells ∧ slots + 0 ≤ R.slots) (hW : (rest.map fun v => v.category).sum ≤ 8) (hd : decode cc pc = .ok (.invokevirtual 308, 3)) (h : CV_kind κ y0 S Q1) (k : ∀ (r : Int32) (S1 : CS) (H : Heap) (locs : List Loc), GC D a d A s.heap S1 H locs → Q1 r S1 → W p l e R s m args below meth c H locs cells slots Q (F0 m (pc + 3) ls (.int r :: rest))) : W p l e R s m args below meth c H locs cells slots Q (F0 m pc ls (.ref y0 :: rest)) := by
  obtain ⟨hx, hb, hr, hml, hown, hts, hlocks, hA, hK, hN⟩ := id F
  obtain rfl | rfl | rfl | rfl | rfl | rfl : κ = 0 ∨ κ = 1 ∨ κ = 2 ∨ κ = 3 ∨ κ = 4 ∨ κ = 5 := by omega
  · exact c_calli F G (va_runU (As := []) (rest := rest) ⟨hx, hb, hml, hown, hts⟩ (wC6_kind H.size y0 S Q1 h) (va_cwO (C := RX6) (owner := RX6) 0 hts (lw_O q630 q633 q631 q632 q631 q91 q651) rfl rfl rfl q651 (by decide +kernel) ⟨Nat.le_trans (Nat.le_of_ble_eq_true rfl) hR.1, Nat.le_trans (Nat.le_of_ble_eq_true rfl) hR.2⟩) ⟨PC_blind, p_recv_X6 F G hy, c_pre F G⟩ rfl rfl hsz rfl (lv_room hW) hd hc) k
  · exact c_calli F G (va_runU (As := []) (rest := rest) ⟨hx, hb, hml, hown, hts⟩ (wC7_kind H.size y0 S Q1 h) (va_cwO (C := RX7) (owner := RX6) 0 hts (lw_O q630 q633 q631 q637 q638 q92 q639) rfl rfl rfl q651 (by decide +kernel) ⟨Nat.le_trans (Nat.le_of_ble_eq_true rfl) hR.1, Nat.le_trans (Nat.le_of_ble_eq_true rfl) hR.2⟩) ⟨PC_blind, p_recv_X7 F G hy, c_pre F G⟩ rfl rfl hsz rfl (lv_room hW) hd hc) k
  · exact c_calli F G (va_runU (As := []) (rest := rest) ⟨hx, hb, hml, hown, hts⟩ (wC8_kind H.size y0 S Q1 h) (va_cwO (C := RX8) (owner := RX6) 0 hts (lw_O q630 q633 q631 q650 q644 q93 q645) rfl rfl rfl q651 (by decide +kernel) ⟨Nat.le_trans (Nat.le_of_ble_eq_true rfl) hR.1, Nat.le_trans (Nat.le_of_ble_eq_true rfl) hR.2⟩) ⟨PC_blind, p_recv_X8 F G hy, c_pre F G⟩ rfl rfl hsz rfl (lv_room hW) hd hc) k
  · exact c_calli F G (va_runU (As := []) (rest := rest) ⟨hx, hb, hml, hown, hts⟩ (wC9_kind H.size y0 S Q1 h) (va_cwO (C := RX9) (owner := RX6) 0 hts (lw_O q630 q633 q631 q646 q647 q94 q648) rfl rfl rfl q651 (by decide +kernel) ⟨Nat.le_trans (Nat.le_of_ble_eq_true rfl) hR.1, Nat.le_trans (Nat.le_of_ble_eq_true rfl) hR.2⟩) ⟨PC_blind, p_recv_X9 F G hy, c_pre F G⟩ rfl rfl hsz rfl (lv_room hW) hd hc) k
  · exact c_calli F G (va_runU (As := []) (rest := rest) ⟨hx, hb, hml, hown, hts⟩ (wC10_kind H.size y0 S Q1 h) (va_cwO (C := RX10) (owner := RX6) 0 hts (lw_O q630 q633 q631 q640 q641 q95 q642) rfl rfl rfl q651 (by decide +kernel) ⟨Nat.le_trans (Nat.le_of_ble_eq_true rfl) hR.1, Nat.le_trans (Nat.le_of_ble_eq_true rfl) hR.2⟩) ⟨PC_blind, p_recv_X10 F G hy, c_pre F G⟩ rfl rfl hsz rfl (lv_room hW) hd hc) k
  · exact c_calli F G (va_runU (As := []) (rest := rest) ⟨hx, hb, hml, hown, hts⟩ (wC11_kind H.size y0 S Q1 h) (va_cwO (C := RX11) (owner := RX6) 0 hts (lw_O q630 q633 q631 q634 q635 q96 q636) rfl rfl rfl q651 (by decide +kernel) ⟨Nat.le_trans (Nat.le_of_ble_eq_true rfl) hR.1, Nat.le_trans (Nat.le_of_ble_eq_true rfl) hR.2⟩) ⟨PC_blind, p_recv_X11 F G hy, c_pre F G⟩ rfl rfl hsz rfl (lv_room hW) hd hc) k
/-! StrokesHeard.timeNow -/
def C0_timeNow  (S : CS) (Q : Int32 → CS → Prop) : Prop := Q ((S.1 1 7) - (S.1 1 7) / 720 * 720) S
abbrev rmX0_timeNow : Room := { frames := 0, cells := 0, slots := 0, locals := 0 }
set_option maxHeartbeats 4000000 in
set_option maxRecDepth 100000 in
theorem wC0_timeNow {l : Launch} {D : va_G} {a : Nat → Nat} {d : Nat → ClassId} (sz : Nat)  (S : CS) (Q : Int32 → CS → Prop) (h : C0_timeNow  S Q) : CMi l D a d yX0_timeNow cX0_timeNow 1 .int rmX0_timeNow 0 0 [.ref (a 0)] sz S Q := by
  refine c_enter (Qc := fun A => va_Qi Q (BC D a d A) A) RX0 (by decide +kernel) rfl (Nat.le_of_ble_eq_true rfl) ?_
  intro p e s m below meth c ls A hmn F hG hl
  have G := hG
  have hl : lv_has ls 1 [(0, .ref (a 0))] := hl
  obtain ⟨hx, hb, hr, hml, hown, hts, hlocks, hA, hK, hN⟩ := id F
  unfold C0_timeNow at h
  refine lv_aload_n hx hb dX0_timeNow_0 rfl (lv_at hl 0 rfl) ?_
  refine cgX0_0_now F G dX0_timeNow_1 ?_
  refine cgX0_1_minute F G dX0_timeNow_4 ?_
  refine lv_sipush (v := 720) hx hb dX0_timeNow_7 (by decide) ?_
  refine lv_irem hx hb dX0_timeNow_10 (by decide) ?_
  exact c_iret F G dX0_timeNow_11 h
set_option maxHeartbeats 4000000 in
set_option maxRecDepth 100000 in
theorem kX0_C0_timeNow {p : Program} {l : Launch} {e : Env} {s : State} {m : MethodId} {R : Room} {args : Array Value} {below : List Frame} {meth : Method} {c : Code} {D : va_G} {a : Nat → Nat} {d : Nat → ClassId} {A : Nat → Prop} {Q : State → Prop} {cc : ByteArray} {nL pc cells slots : Nat} {ret : Option FieldType} {ls : Array Slot} {rest : List Value}  {S : CS} {H : Heap} {locs : List Loc} {Q1 : Int32 → CS → Prop} (F : FC p s m meth c args D a d A RX0 cc nL ret) (G : GC D a d A s.heap S H locs) (hsz : ls.size = nL) (hR : rmX0_timeNow.frames + 1 ≤ R.frames ∧ 8 + (1 + 11) + rmX0_timeNow.locals ≤ R.locals) (hc : cells + 0 ≤ R.cells ∧ slots + 0 ≤ R.slots) (hW : (rest.map fun v => v.category).sum ≤ 8) (hd : decode cc pc = .ok (.invokevirtual 311, 3)) (h : C0_timeNow  S Q1) (k : ∀ (r : Int32) (S1 : CS) (H : Heap) (locs : List Loc), GC D a d A s.heap S1 H locs → Q1 r S1 → W p l e R s m args below meth c H locs cells slots Q (F0 m (pc + 3) ls (.int r :: rest))) : W p l e R s m args below meth c H locs cells slots Q (F0 m pc ls (.ref (a 0) :: rest)) := by
  obtain ⟨hx, hb, hr, hml, hown, hts, hlocks, hA, hK, hN⟩ := id F
  exact c_calli F G (va_runV (As := []) (rest := rest) ⟨hx, hb, hml, hown, hts⟩ (wC0_timeNow H.size  S Q1 h) (cwV 0 hts (lw_V q652 q654 qs20 q82 q655) rfl rfl rfl (by decide +kernel) hR) ⟨PC_blind, va_recv hK G.1 (ci := 0) (q0 := 0) rfl rfl, c_pre F G⟩ rfl rfl hsz rfl (lv_room hW) hd hc) k
/-! java/lang/Math.floorMod -/
def CJ3_floorMod (v0 : Int32) (v1 : Int32) (S : CS) (Q : Int32 → CS → Prop) : Prop := ¬ v1 = 0 ∧ (∀ x_2 : Int32, x_2 = (v0 - v0 / v1 * v1) → (0 ≤ (v0 ^^^ v1) → Q x_2 S) ∧ (¬ 0 ≤ (v0 ^^^ v1) → (x_2 = 0 → Q x_2 S) ∧ (¬ x_2 = 0 → Q (x_2 + v1) S)))
abbrev rmJ3_floorMod : Room := { frames := 0, cells := 0, slots := 0, locals := 0 }
set_option maxHeartbeats 4000000 in
set_option maxRecDepth 100000 in
theorem wCJ3_floorMod {l : Launch} {D : va_G} {a : Nat → Nat} {d : Nat → ClassId} (sz : Nat) (v0 : Int32) (v1 : Int32) (S : CS) (Q : Int32 → CS → Prop) (h : CJ3_floorMod v0 v1 S Q) : CMi l D a d yJ3_floorMod cJ3_floorMod 3 .int rmJ3_floorMod 0 0 [.int v0, .int v1] sz S Q := by
  refine c_enterF (Qc := fun A => va_Qi Q (BC D a d A) A) RJ3 (by decide +kernel) rfl (Nat.le_of_ble_eq_true rfl) ?_
  intro p e s m below meth c ls A hmn F hG hl
  have G := hG
  have hl : lv_has ls 3 [(0, .int v0), (1, .int v1)] := hl
  obtain ⟨hx, hb, hr, hml, hown, hts, hlocks, hA, hK, hN⟩ := id F
  unfold CJ3_floorMod at h
  refine lv_iload_n hx hb dJ3_floorMod_0 rfl (lv_at hl 0 rfl) ?_
  refine lv_iload_n hx hb dJ3_floorMod_1 rfl (lv_at hl 1 rfl) ?_
  obtain ⟨z_1, h⟩ := h
  refine lv_irem hx hb dJ3_floorMod_2 z_1 ?_
  refine lv_topi (fun x_2 ex_2 => ?_)
  replace h := h x_2 ex_2
  refine lv_istore_n (lv' := [(2, .int x_2), (0, .int v0), (1, .int v1)]) hx hb dJ3_floorMod_3 rfl hl (by decide) rfl (fun ls hl => ?_)
  refine lv_iload_n hx hb dJ3_floorMod_4 rfl (lv_at hl 1 rfl) ?_
  refine lv_iload_n hx hb dJ3_floorMod_5 rfl (lv_at hl 2 rfl) ?_
  refine lv_ixor hx hb dJ3_floorMod_6 ?_
  refine lv_if_ge (tgt := 18) hx hb dJ3_floorMod_7 (by decide) (fun c_3 => ?_) (fun c_3 => ?_)
  · replace h := h.1 c_3
    refine lv_iload_n hx hb dJ3_floorMod_18 rfl (lv_at hl 0 rfl) ?_
    exact c_iret F G dJ3_floorMod_19 h
  · replace h := h.2 c_3
    refine lv_iload_n hx hb dJ3_floorMod_10 rfl (lv_at hl 0 rfl) ?_
    refine lv_if_eq (tgt := 18) hx hb dJ3_floorMod_11 (by decide) (fun c_4 => ?_) (fun c_4 => ?_)
    · replace h := h.1 c_4
      refine lv_iload_n hx hb dJ3_floorMod_18 rfl (lv_at hl 0 rfl) ?_
      exact c_iret F G dJ3_floorMod_19 h
    · replace h := h.2 c_4
      refine lv_iload_n hx hb dJ3_floorMod_14 rfl (lv_at hl 0 rfl) ?_
      refine lv_iload_n hx hb dJ3_floorMod_15 rfl (lv_at hl 2 rfl) ?_
      refine lv_iadd hx hb dJ3_floorMod_16 ?_
      exact c_iret F G dJ3_floorMod_17 h
set_option maxHeartbeats 4000000 in
set_option maxRecDepth 100000 in
theorem kX0_CJ3_floorMod {p : Program} {l : Launch} {e : Env} {s : State} {m : MethodId} {R : Room} {args : Array Value} {below : List Frame} {meth : Method} {c : Code} {D : va_G} {a : Nat → Nat} {d : Nat → ClassId} {A : Nat → Prop} {Q : State → Prop} {cc : ByteArray} {nL pc cells slots : Nat} {ret : Option FieldType} {ls : Array Slot} {rest : List Value} {v0 : Int32} {v1 : Int32} {S : CS} {H : Heap} {locs : List Loc} {Q1 : Int32 → CS → Prop} (F : FC p s m meth c args D a d A RX0 cc nL ret) (G : GC D a d A s.heap S H locs) (hsz : ls.size = nL) (hR : rmJ3_floorMod.frames + 1 ≤ R.frames ∧ 8 + (3 + 11) + rmJ3_floorMod.locals ≤ R.locals) (hc : cells + 0 ≤ R.cells ∧ slots + 0 ≤ R.slots) (hW : (rest.map fun v => v.category).sum ≤ 8) (hd : decode cc pc = .ok (.invokestatic 289, 3)) (h : CJ3_floorMod v0 v1 S Q1) (k : ∀ (r : Int32) (S1 : CS) (H : Heap) (locs : List Loc), GC D a d A s.heap S1 H locs → Q1 r S1 → W p l e R s m args below meth c H locs cells slots Q (F0 m (pc + 3) ls (.int r :: rest))) : W p l e R s m args below meth c H locs cells slots Q (F0 m pc ls (.int v1 :: .int v0 :: rest)) := by
  obtain ⟨hx, hb, hr, hml, hown, hts, hlocks, hA, hK, hN⟩ := id F
  exact c_calli F G (va_runS (As := [.int v0, .int v1]) (rest := rest) ⟨hx, hb, hml, hown, hts⟩ (wCJ3_floorMod H.size v0 v1 S Q1 h) (va_cwS 2 hts (lw_S q660 q661 q97 q662) rfl rfl rfl (by decide +kernel) hR) ⟨PC_blind, c_pre F G⟩ rfl rfl hsz rfl (lv_room hW) hd hc) k
/-! StrokesHeard.both -/
def C0_both_p131 (Q : Int32 → CS → Prop)   (S : CS) : Prop := Q 1 S
def C0_both (v0 : Int32) (v1 : Int32) (v2 : Int32) (S : CS) (Q : Int32 → CS → Prop) : Prop := (v0 = 4 → Q (v1 * v2) S) ∧ (v0 = 5 → Q (v1 + v2) S) ∧ (v0 = 6 → Q (v1 - v2) S) ∧ (v0 = 7 → (v2 ≤ v1 → Q 0 S) ∧ (¬ v2 ≤ v1 → Q 1 S)) ∧ (v0 = 8 → (¬ v1 = v2 → Q 0 S) ∧ (v1 = v2 → Q 1 S)) ∧ (v0 = 9 → (v1 ≤ v2 → Q 0 S) ∧ (¬ v1 ≤ v2 → Q 1 S)) ∧ (v0 = 10 → (v1 = 0 → Q 0 S) ∧ (¬ v1 = 0 → (v2 = 0 → Q 0 S) ∧ (¬ v2 = 0 → Q 1 S))) ∧ (v0 = 12 → (¬ v2 = 0 → ¬ v2 = 0 ∧ (Q (v1 / v2) S)) ∧ (v2 = 0 → Q 0 S)) ∧ (¬ v0 = 4 → ¬ v0 = 5 → ¬ v0 = 6 → ¬ v0 = 7 → ¬ v0 = 8 → ¬ v0 = 9 → ¬ v0 = 10 → ¬ v0 = 12 → (¬ v1 = 0 → C0_both_p131 Q  S) ∧ (v1 = 0 → (v2 = 0 → Q 0 S) ∧ (¬ v2 = 0 → C0_both_p131 Q  S)))
abbrev rmX0_both : Room := { frames := 0, cells := 0, slots := 0, locals := 0 }
set_option maxHeartbeats 4000000 in
set_option maxRecDepth 100000 in
theorem wC0_both_p131 {p : Program} {l : Launch} {e : Env} {s : State} {m : MethodId} {args : Array Value} {below : List Frame} {meth : Method} {c : Code} {D : va_G} {a : Nat → Nat} {d : Nat → ClassId} {A : Nat → Prop} {Q : Int32 → CS → Prop}  (F : FC p s m meth c args D a d A RX0 cX0_both 3 (some .int))  (S : CS)  {H : Heap} {locs : List Loc} {ls : Array Slot} (G : GC D a d A s.heap S H locs) (hl : lv_has ls 3 []) (h : C0_both_p131 Q S) : wCi p l e rmX0_both s m args below meth c D a d A Q 0 0 H locs 0 0 (F0 m 131 ls []) := by
  obtain ⟨hx, hb, hr, hml, hown, hts, hlocks, hA, hK, hN⟩ := id F
  unfold C0_both_p131 at h
  refine lv_iconst (v := 1) hx hb dX0_both_131 (by decide) ?_
  refine lv_goto (tgt := 136) hx hb dX0_both_132 (by decide) ?_
  exact c_iret F G dX0_both_136 h
set_option maxHeartbeats 4000000 in
set_option maxRecDepth 100000 in
theorem wC0_both {l : Launch} {D : va_G} {a : Nat → Nat} {d : Nat → ClassId} (sz : Nat) (v0 : Int32) (v1 : Int32) (v2 : Int32) (S : CS) (Q : Int32 → CS → Prop) (h : C0_both v0 v1 v2 S Q) : CMi l D a d yX0_both cX0_both 3 .int rmX0_both 0 0 [.int v0, .int v1, .int v2] sz S Q := by
  refine c_enter (Qc := fun A => va_Qi Q (BC D a d A) A) RX0 (by decide +kernel) rfl (Nat.le_of_ble_eq_true rfl) ?_
  intro p e s m below meth c ls A hmn F hG hl
  have G := hG
  have hl : lv_has ls 3 [(0, .int v0), (1, .int v1), (2, .int v2)] := hl
  obtain ⟨hx, hb, hr, hml, hown, hts, hlocks, hA, hK, hN⟩ := id F
  unfold C0_both at h
  refine lv_iload_n hx hb dX0_both_0 rfl (lv_at hl 0 rfl) ?_
  by_cases c_1 : v0 = 4
  · replace h := h.1 c_1
    refine m_tsIn (k := 4) (off := 51) (tgt := 52) hx hb dX0_both_1 c_1 (by decide) (by decide) (by decide) (by decide) ?_
    refine lv_iload_n hx hb dX0_both_52 rfl (lv_at hl 1 rfl) ?_
    refine lv_iload_n hx hb dX0_both_53 rfl (lv_at hl 2 rfl) ?_
    refine lv_imul hx hb dX0_both_54 ?_
    exact c_iret F G dX0_both_55 h
  by_cases c_2 : v0 = 5
  · replace h := h.2.1 c_2
    refine m_tsIn (k := 5) (off := 67) (tgt := 68) hx hb dX0_both_1 c_2 (by decide) (by decide) (by decide) (by decide) ?_
    refine lv_iload_n hx hb dX0_both_68 rfl (lv_at hl 1 rfl) ?_
    refine lv_iload_n hx hb dX0_both_69 rfl (lv_at hl 2 rfl) ?_
    refine lv_iadd hx hb dX0_both_70 ?_
    exact c_iret F G dX0_both_71 h
  by_cases c_3 : v0 = 6
  · replace h := h.2.2.1 c_3
    refine m_tsIn (k := 6) (off := 71) (tgt := 72) hx hb dX0_both_1 c_3 (by decide) (by decide) (by decide) (by decide) ?_
    refine lv_iload_n hx hb dX0_both_72 rfl (lv_at hl 1 rfl) ?_
    refine lv_iload_n hx hb dX0_both_73 rfl (lv_at hl 2 rfl) ?_
    refine lv_isub hx hb dX0_both_74 ?_
    exact c_iret F G dX0_both_75 h
  by_cases c_4 : v0 = 7
  · replace h := h.2.2.2.1 c_4
    refine m_tsIn (k := 7) (off := 75) (tgt := 76) hx hb dX0_both_1 c_4 (by decide) (by decide) (by decide) (by decide) ?_
    refine lv_iload_n hx hb dX0_both_76 rfl (lv_at hl 1 rfl) ?_
    refine lv_iload_n hx hb dX0_both_77 rfl (lv_at hl 2 rfl) ?_
    refine lv_icmp_ge (tgt := 85) hx hb dX0_both_78 (by decide) (fun c_5 => ?_) (fun c_5 => ?_)
    · replace h := h.1 c_5
      refine lv_iconst (v := 0) hx hb dX0_both_85 (by decide) ?_
      exact c_iret F G dX0_both_86 h
    · replace h := h.2 c_5
      refine lv_iconst (v := 1) hx hb dX0_both_81 (by decide) ?_
      refine lv_goto (tgt := 86) hx hb dX0_both_82 (by decide) ?_
      exact c_iret F G dX0_both_86 h
  by_cases c_6 : v0 = 8
  · replace h := h.2.2.2.2.1 c_6
    refine m_tsIn (k := 8) (off := 86) (tgt := 87) hx hb dX0_both_1 c_6 (by decide) (by decide) (by decide) (by decide) ?_
    refine lv_iload_n hx hb dX0_both_87 rfl (lv_at hl 1 rfl) ?_
    refine lv_iload_n hx hb dX0_both_88 rfl (lv_at hl 2 rfl) ?_
    refine lv_icmp_ne (tgt := 96) hx hb dX0_both_89 (by decide) (fun c_7 => ?_) (fun c_7 => ?_)
    · replace h := h.1 c_7
      refine lv_iconst (v := 0) hx hb dX0_both_96 (by decide) ?_
      exact c_iret F G dX0_both_97 h
    · replace h := h.2 c_7
      refine lv_iconst (v := 1) hx hb dX0_both_92 (by decide) ?_
      refine lv_goto (tgt := 97) hx hb dX0_both_93 (by decide) ?_
      exact c_iret F G dX0_both_97 h
  by_cases c_8 : v0 = 9
  · replace h := h.2.2.2.2.2.1 c_8
    refine m_tsIn (k := 9) (off := 97) (tgt := 98) hx hb dX0_both_1 c_8 (by decide) (by decide) (by decide) (by decide) ?_
    refine lv_iload_n hx hb dX0_both_98 rfl (lv_at hl 1 rfl) ?_
    refine lv_iload_n hx hb dX0_both_99 rfl (lv_at hl 2 rfl) ?_
    refine lv_icmp_le (tgt := 107) hx hb dX0_both_100 (by decide) (fun c_9 => ?_) (fun c_9 => ?_)
    · replace h := h.1 c_9
      refine lv_iconst (v := 0) hx hb dX0_both_107 (by decide) ?_
      exact c_iret F G dX0_both_108 h
    · replace h := h.2 c_9
      refine lv_iconst (v := 1) hx hb dX0_both_103 (by decide) ?_
      refine lv_goto (tgt := 108) hx hb dX0_both_104 (by decide) ?_
      exact c_iret F G dX0_both_108 h
  by_cases c_10 : v0 = 10
  · replace h := h.2.2.2.2.2.2.1 c_10
    refine m_tsIn (k := 10) (off := 108) (tgt := 109) hx hb dX0_both_1 c_10 (by decide) (by decide) (by decide) (by decide) ?_
    refine lv_iload_n hx hb dX0_both_109 rfl (lv_at hl 1 rfl) ?_
    refine lv_if_eq (tgt := 121) hx hb dX0_both_110 (by decide) (fun c_11 => ?_) (fun c_11 => ?_)
    · replace h := h.1 c_11
      refine lv_iconst (v := 0) hx hb dX0_both_121 (by decide) ?_
      exact c_iret F G dX0_both_122 h
    · replace h := h.2 c_11
      refine lv_iload_n hx hb dX0_both_113 rfl (lv_at hl 2 rfl) ?_
      refine lv_if_eq (tgt := 121) hx hb dX0_both_114 (by decide) (fun c_12 => ?_) (fun c_12 => ?_)
      · replace h := h.1 c_12
        refine lv_iconst (v := 0) hx hb dX0_both_121 (by decide) ?_
        exact c_iret F G dX0_both_122 h
      · replace h := h.2 c_12
        refine lv_iconst (v := 1) hx hb dX0_both_117 (by decide) ?_
        refine lv_goto (tgt := 122) hx hb dX0_both_118 (by decide) ?_
        exact c_iret F G dX0_both_122 h
  by_cases c_13 : v0 = 12
  · replace h := h.2.2.2.2.2.2.2.1 c_13
    refine m_tsIn (k := 12) (off := 55) (tgt := 56) hx hb dX0_both_1 c_13 (by decide) (by decide) (by decide) (by decide) ?_
    refine lv_iload_n hx hb dX0_both_56 rfl (lv_at hl 2 rfl) ?_
    refine lv_if_ne (tgt := 64) hx hb dX0_both_57 (by decide) (fun c_14 => ?_) (fun c_14 => ?_)
    · replace h := h.1 c_14
      refine lv_iload_n hx hb dX0_both_64 rfl (lv_at hl 1 rfl) ?_
      refine lv_iload_n hx hb dX0_both_65 rfl (lv_at hl 2 rfl) ?_
      obtain ⟨z_15, h⟩ := h
      refine lv_idiv hx hb dX0_both_66 z_15 ?_
      exact c_iret F G dX0_both_67 h
    · replace h := h.2 c_14
      refine lv_iconst (v := 0) hx hb dX0_both_60 (by decide) ?_
      refine lv_goto (tgt := 67) hx hb dX0_both_61 (by decide) ?_
      exact c_iret F G dX0_both_67 h
  replace h := h.2.2.2.2.2.2.2.2 c_1 c_2 c_3 c_4 c_6 c_8 c_10 c_13
  refine m_tsD (ks := [4, 5, 6, 7, 8, 9, 10, 12]) (tgt := 123) hx hb dX0_both_1 (tk_cons c_1 (by decide) (tk_cons c_2 (by decide) (tk_cons c_3 (by decide) (tk_cons c_4 (by decide) (tk_cons c_6 (by decide) (tk_cons c_8 (by decide) (tk_cons c_10 (by decide) (tk_cons c_13 (by decide) tk_nil)))))))) (by decide) (by decide) ?_
  refine lv_iload_n hx hb dX0_both_123 rfl (lv_at hl 1 rfl) ?_
  refine lv_if_ne (tgt := 131) hx hb dX0_both_124 (by decide) (fun c_16 => ?_) (fun c_16 => ?_)
  · replace h := h.1 c_16
    exact wC0_both_p131 F  S  G (lv_sub hl [] rfl) h
  · replace h := h.2 c_16
    refine lv_iload_n hx hb dX0_both_127 rfl (lv_at hl 2 rfl) ?_
    refine lv_if_eq (tgt := 135) hx hb dX0_both_128 (by decide) (fun c_17 => ?_) (fun c_17 => ?_)
    · replace h := h.1 c_17
      refine lv_iconst (v := 0) hx hb dX0_both_135 (by decide) ?_
      exact c_iret F G dX0_both_136 h
    · replace h := h.2 c_17
      exact wC0_both_p131 F  S  G (lv_sub hl [] rfl) h
set_option maxHeartbeats 4000000 in
set_option maxRecDepth 100000 in
theorem kX0_C0_both {p : Program} {l : Launch} {e : Env} {s : State} {m : MethodId} {R : Room} {args : Array Value} {below : List Frame} {meth : Method} {c : Code} {D : va_G} {a : Nat → Nat} {d : Nat → ClassId} {A : Nat → Prop} {Q : State → Prop} {cc : ByteArray} {nL pc cells slots : Nat} {ret : Option FieldType} {ls : Array Slot} {rest : List Value} {v0 : Int32} {v1 : Int32} {v2 : Int32} {S : CS} {H : Heap} {locs : List Loc} {Q1 : Int32 → CS → Prop} (F : FC p s m meth c args D a d A RX0 cc nL ret) (G : GC D a d A s.heap S H locs) (hsz : ls.size = nL) (hR : rmX0_both.frames + 1 ≤ R.frames ∧ 8 + (3 + 11) + rmX0_both.locals ≤ R.locals) (hc : cells + 0 ≤ R.cells ∧ slots + 0 ≤ R.slots) (hW : (rest.map fun v => v.category).sum ≤ 8) (hd : decode cc pc = .ok (.invokestatic 121, 3)) (h : C0_both v0 v1 v2 S Q1) (k : ∀ (r : Int32) (S1 : CS) (H : Heap) (locs : List Loc), GC D a d A s.heap S1 H locs → Q1 r S1 → W p l e R s m args below meth c H locs cells slots Q (F0 m (pc + 3) ls (.int r :: rest))) : W p l e R s m args below meth c H locs cells slots Q (F0 m pc ls (.int v2 :: .int v1 :: .int v0 :: rest)) := by
  obtain ⟨hx, hb, hr, hml, hown, hts, hlocks, hA, hK, hN⟩ := id F
  exact c_calli F G (va_runS (As := [.int v0, .int v1, .int v2]) (rest := rest) ⟨hx, hb, hml, hown, hts⟩ (wC0_both H.size v0 v1 v2 S Q1 h) (va_cwS 3 hts (lw_S q671 q672 q82 q673) rfl rfl rfl (by decide +kernel) hR) ⟨PC_blind, c_pre F G⟩ rfl rfl hsz rfl (lv_room hW) hd hc) k
/-! StrokesHeard.reckon -/
def C0_reckon_p133 (Q : Int32 → CS → Prop) (K4 : Int32 → Int32 → CS → Prop) (y1 : Nat) (v2 : Int32) (v3 : Int32) (S : CS) : Prop := K4 v2 (v3 + 1) S
def C0_reckon_p99 (Q : Int32 → CS → Prop) (K4 : Int32 → Int32 → CS → Prop) (y1 : Nat) (v2 : Int32) (v3 : Int32) (t0 : Int32) (t1 : Int32) (S : CS) : Prop := vp_in t1 96 ∧ (C0_reckon_p133 Q K4 y1 v2 v3 (cA S 21 t1 t0))
def C0_reckon_p63 (Q : Int32 → CS → Prop) (K4 : Int32 → Int32 → CS → Prop) (y1 : Nat) (v2 : Int32) (v3 : Int32) (t0 : Int32) (t1 : Int32) (S : CS) : Prop := vp_in t1 96 ∧ (C0_reckon_p133 Q K4 y1 (v2 + 1) v3 (cA S 21 t1 t0))
def C0_reckon_p32 (Q : Int32 → CS → Prop) (K4 : Int32 → Int32 → CS → Prop) (y1 : Nat) (v2 : Int32) (v3 : Int32) (v4 : Int32) (S : CS) : Prop := (¬ v4 = 1 → ∃ (fs_26 : List Value) (y_29 : Nat), has S y1 (.inr (12, fs_26)) ∧ fs_26[1]? = some (.ref y_29) ∧ (∃ (n_30 : Nat) (f_31 : Nat → Int32), has S y_29 (.inl (0, n_30, .inl f_31)) ∧ vp_in v3 n_30 ∧ (vp_in (f_31 (v3.toNatClampNeg)) 128 ∧ (C0_reckon_p63 Q K4 y1 v2 v3 (S.1 23 ((f_31 (v3.toNatClampNeg)).toNatClampNeg)) v2 S)))) ∧ (v4 = 1 → ∃ (fs_35 : List Value) (y_38 : Nat), has S y1 (.inr (12, fs_35)) ∧ fs_35[1]? = some (.ref y_38) ∧ (∃ (n_39 : Nat) (f_40 : Nat → Int32), has S y_38 (.inl (0, n_39, .inl f_40)) ∧ vp_in v3 n_39 ∧ (C0_reckon_p63 Q K4 y1 v2 v3 (f_40 (v3.toNatClampNeg)) v2 S)))
def C0_reckon_L4 (Q : Int32 → CS → Prop)  (y1 : Nat) : Nat → Int32 → Int32 → CS → Prop
  | 0, _, _, _ => False
  | n + 1, v2, v3, S => ∃ (fs_1 : List Value) (i_4 : Int32), has S y1 (.inr (12, fs_1)) ∧ fs_1[2]? = some (.int i_4) ∧ ((i_4 ≤ v3 → Q (S.1 21 0) S) ∧ (¬ i_4 ≤ v3 → ∃ (fs_6 : List Value) (y_9 : Nat), has S y1 (.inr (12, fs_6)) ∧ fs_6[0]? = some (.ref y_9) ∧ (∃ (n_10 : Nat) (f_11 : Nat → Int32), has S y_9 (.inl (0, n_10, .inl f_11)) ∧ vp_in v3 n_10 ∧ (∀ x_14 : Int32, x_14 = (f_11 (v3.toNatClampNeg)) → (x_14 = 1 → C0_reckon_p32 Q (fun v2_ v3_ S_ => C0_reckon_L4 Q y1 n v2_ v3_ S_) y1 v2 v3 x_14 S) ∧ (¬ x_14 = 1 → (¬ x_14 = 2 → (¬ x_14 = 3 → vp_in ((v2 + (-1)) - 1) 96 ∧ (vp_in (v2 + (-1)) 96 ∧ (C0_both x_14 (S.1 21 (((v2 + (-1)) - 1).toNatClampNeg)) (S.1 21 ((v2 + (-1)).toNatClampNeg)) S (fun r_20 S_21 => vp_in ((v2 + (-1)) - 1) 96 ∧ (C0_reckon_p133 Q (fun v2_ v3_ S_ => C0_reckon_L4 Q y1 n v2_ v3_ S_) y1 (v2 + (-1)) v3 (cA S_21 21 ((v2 + (-1)) - 1) r_20)))))) ∧ (x_14 = 3 → vp_in (v2 - 1) 96 ∧ ((¬ (S.1 21 ((v2 - 1).toNatClampNeg)) = 0 → C0_reckon_p99 Q (fun v2_ v3_ S_ => C0_reckon_L4 Q y1 n v2_ v3_ S_) y1 v2 v3 0 (v2 - 1) S) ∧ ((S.1 21 ((v2 - 1).toNatClampNeg)) = 0 → C0_reckon_p99 Q (fun v2_ v3_ S_ => C0_reckon_L4 Q y1 n v2_ v3_ S_) y1 v2 v3 1 (v2 - 1) S)))) ∧ (x_14 = 2 → C0_reckon_p32 Q (fun v2_ v3_ S_ => C0_reckon_L4 Q y1 n v2_ v3_ S_) y1 v2 v3 x_14 S))))))
def C0_reckon (y1 : Nat) (S : CS) (Q : Int32 → CS → Prop) : Prop := ∃ k4, C0_reckon_L4 Q y1 k4 0 0 S
abbrev rmX0_reckon : Room := { frames := 1, cells := 0, slots := 0, locals := 22 }
set_option maxHeartbeats 4000000 in
set_option maxRecDepth 100000 in
theorem wC0_reckon_p133 {p : Program} {l : Launch} {e : Env} {s : State} {m : MethodId} {args : Array Value} {below : List Frame} {meth : Method} {c : Code} {D : va_G} {a : Nat → Nat} {d : Nat → ClassId} {A : Nat → Prop} {Q : Int32 → CS → Prop} {K4 : Int32 → Int32 → CS → Prop} (F : FC p s m meth c args D a d A RX0 cX0_reckon 5 (some .int)) (y1 : Nat) (v2 : Int32) (v3 : Int32) (S : CS) (hK4 : ∀ (v2 : Int32) (v3 : Int32) (S : CS) (H : Heap) (locs : List Loc) (ls : Array Slot), GC D a d A s.heap S H locs → lv_has ls 5 [(0, .ref (a 0)), (1, .ref y1), (2, .int v2), (3, .int v3)] → K4 v2 v3 S → wCi p l e rmX0_reckon s m args below meth c D a d A Q 0 0 H locs 0 0 (F0 m 4 ls [])) {H : Heap} {locs : List Loc} {ls : Array Slot} (G : GC D a d A s.heap S H locs) (hl : lv_has ls 5 [(0, .ref (a 0)), (1, .ref y1), (2, .int v2), (3, .int v3)]) (h : C0_reckon_p133 Q K4 y1 v2 v3 S) : wCi p l e rmX0_reckon s m args below meth c D a d A Q 0 0 H locs 0 0 (F0 m 133 ls []) := by
  obtain ⟨hx, hb, hr, hml, hown, hts, hlocks, hA, hK, hN⟩ := id F
  unfold C0_reckon_p133 at h
  refine lv_iinc (v := (v3 + 1)) (lv' := [(3, .int (v3 + 1)), (0, .ref (a 0)), (1, .ref y1), (2, .int v2)]) hx hb dX0_reckon_133 hl (k := 3) rfl rfl (by decide) rfl (fun ls hl => ?_)
  refine lv_goto (tgt := 4) hx hb dX0_reckon_136 (by decide) ?_
  exact hK4 v2 (v3 + 1) S _ _ _ G (lv_sub hl [1, 2, 3, 0] rfl) h
set_option maxHeartbeats 4000000 in
set_option maxRecDepth 100000 in
theorem wC0_reckon_p99 {p : Program} {l : Launch} {e : Env} {s : State} {m : MethodId} {args : Array Value} {below : List Frame} {meth : Method} {c : Code} {D : va_G} {a : Nat → Nat} {d : Nat → ClassId} {A : Nat → Prop} {Q : Int32 → CS → Prop} {K4 : Int32 → Int32 → CS → Prop} (F : FC p s m meth c args D a d A RX0 cX0_reckon 5 (some .int)) (y1 : Nat) (v2 : Int32) (v3 : Int32) (t0 : Int32) (t1 : Int32) (S : CS) (hK4 : ∀ (v2 : Int32) (v3 : Int32) (S : CS) (H : Heap) (locs : List Loc) (ls : Array Slot), GC D a d A s.heap S H locs → lv_has ls 5 [(0, .ref (a 0)), (1, .ref y1), (2, .int v2), (3, .int v3)] → K4 v2 v3 S → wCi p l e rmX0_reckon s m args below meth c D a d A Q 0 0 H locs 0 0 (F0 m 4 ls [])) {H : Heap} {locs : List Loc} {ls : Array Slot} (G : GC D a d A s.heap S H locs) (hl : lv_has ls 5 [(0, .ref (a 0)), (1, .ref y1), (2, .int v2), (3, .int v3)]) (h : C0_reckon_p99 Q K4 y1 v2 v3 t0 t1 S) : wCi p l e rmX0_reckon s m args below meth c D a d A Q 0 0 H locs 0 0 (F0 m 99 ls [.int t0, .int t1, .ref (a 21)]) := by
  obtain ⟨hx, hb, hr, hml, hown, hts, hlocks, hA, hK, hN⟩ := id F
  unfold C0_reckon_p99 at h
  obtain ⟨b_43, h⟩ := h
  refine c_iastore F G cI_21 b_43 dX0_reckon_99 (fun H locs G => ?_)
  refine lv_goto (tgt := 133) hx hb dX0_reckon_100 (by decide) ?_
  exact wC0_reckon_p133 F y1 v2 v3 (cA S 21 t1 t0) hK4 G (lv_sub hl [0, 1, 2, 3] rfl) h
set_option maxHeartbeats 4000000 in
set_option maxRecDepth 100000 in
theorem wC0_reckon_p63 {p : Program} {l : Launch} {e : Env} {s : State} {m : MethodId} {args : Array Value} {below : List Frame} {meth : Method} {c : Code} {D : va_G} {a : Nat → Nat} {d : Nat → ClassId} {A : Nat → Prop} {Q : Int32 → CS → Prop} {K4 : Int32 → Int32 → CS → Prop} (F : FC p s m meth c args D a d A RX0 cX0_reckon 5 (some .int)) (y1 : Nat) (v2 : Int32) (v3 : Int32) (t0 : Int32) (t1 : Int32) (S : CS) (hK4 : ∀ (v2 : Int32) (v3 : Int32) (S : CS) (H : Heap) (locs : List Loc) (ls : Array Slot), GC D a d A s.heap S H locs → lv_has ls 5 [(0, .ref (a 0)), (1, .ref y1), (2, .int v2), (3, .int v3)] → K4 v2 v3 S → wCi p l e rmX0_reckon s m args below meth c D a d A Q 0 0 H locs 0 0 (F0 m 4 ls [])) {H : Heap} {locs : List Loc} {ls : Array Slot} (G : GC D a d A s.heap S H locs) (hl : lv_has ls 5 [(0, .ref (a 0)), (1, .ref y1), (2, .int v2), (3, .int v3)]) (h : C0_reckon_p63 Q K4 y1 v2 v3 t0 t1 S) : wCi p l e rmX0_reckon s m args below meth c D a d A Q 0 0 H locs 0 0 (F0 m 63 ls [.int t0, .int t1, .ref (a 21)]) := by
  obtain ⟨hx, hb, hr, hml, hown, hts, hlocks, hA, hK, hN⟩ := id F
  unfold C0_reckon_p63 at h
  obtain ⟨b_44, h⟩ := h
  refine c_iastore F G cI_21 b_44 dX0_reckon_63 (fun H locs G => ?_)
  refine lv_iinc (v := (v2 + 1)) (lv' := [(2, .int (v2 + 1)), (0, .ref (a 0)), (1, .ref y1), (3, .int v3)]) hx hb dX0_reckon_64 hl (k := 2) rfl rfl (by decide) rfl (fun ls hl => ?_)
  refine lv_goto (tgt := 133) hx hb dX0_reckon_67 (by decide) ?_
  exact wC0_reckon_p133 F y1 (v2 + 1) v3 (cA S 21 t1 t0) hK4 G (lv_sub hl [1, 2, 0, 3] rfl) h
set_option maxHeartbeats 4000000 in
set_option maxRecDepth 100000 in
theorem wC0_reckon_p32 {p : Program} {l : Launch} {e : Env} {s : State} {m : MethodId} {args : Array Value} {below : List Frame} {meth : Method} {c : Code} {D : va_G} {a : Nat → Nat} {d : Nat → ClassId} {A : Nat → Prop} {Q : Int32 → CS → Prop} {K4 : Int32 → Int32 → CS → Prop} (F : FC p s m meth c args D a d A RX0 cX0_reckon 5 (some .int)) (y1 : Nat) (v2 : Int32) (v3 : Int32) (v4 : Int32) (S : CS) (hK4 : ∀ (v2 : Int32) (v3 : Int32) (S : CS) (H : Heap) (locs : List Loc) (ls : Array Slot), GC D a d A s.heap S H locs → lv_has ls 5 [(0, .ref (a 0)), (1, .ref y1), (2, .int v2), (3, .int v3)] → K4 v2 v3 S → wCi p l e rmX0_reckon s m args below meth c D a d A Q 0 0 H locs 0 0 (F0 m 4 ls [])) {H : Heap} {locs : List Loc} {ls : Array Slot} (G : GC D a d A s.heap S H locs) (hl : lv_has ls 5 [(0, .ref (a 0)), (1, .ref y1), (2, .int v2), (3, .int v3), (4, .int v4)]) (h : C0_reckon_p32 Q K4 y1 v2 v3 v4 S) : wCi p l e rmX0_reckon s m args below meth c D a d A Q 0 0 H locs 0 0 (F0 m 32 ls []) := by
  obtain ⟨hx, hb, hr, hml, hown, hts, hlocks, hA, hK, hN⟩ := id F
  unfold C0_reckon_p32 at h
  refine lv_aload_n hx hb dX0_reckon_32 rfl (lv_at hl 0 rfl) ?_
  refine cgX0_0_pile F G dX0_reckon_33 ?_
  refine lv_iload_n hx hb dX0_reckon_36 rfl (lv_at hl 2 rfl) ?_
  refine lv_iload hx hb dX0_reckon_37 (lv_at hl 4 rfl) ?_
  refine lv_iconst (v := 1) hx hb dX0_reckon_39 (by decide) ?_
  refine lv_icmp_ne (tgt := 52) hx hb dX0_reckon_40 (by decide) (fun c_25 => ?_) (fun c_25 => ?_)
  · replace h := h.1 c_25
    refine lv_aload_n hx hb dX0_reckon_52 rfl (lv_at hl 0 rfl) ?_
    refine cgX0_0_named F G dX0_reckon_53 ?_
    refine lv_aload_n hx hb dX0_reckon_56 rfl (lv_at hl 1 rfl) ?_
    obtain ⟨fs_26, y_29, z_27, u_28, h⟩ := h
    refine pgX0_X12_value F G z_27 u_28 dX0_reckon_57 ?_
    refine lv_iload_n hx hb dX0_reckon_60 rfl (lv_at hl 3 rfl) ?_
    obtain ⟨n_30, f_31, z_32, b_33, h⟩ := h
    refine p_iaload F G z_32 b_33 dX0_reckon_61 ?_
    obtain ⟨b_34, h⟩ := h
    refine c_iaload F G cI_23 b_34 dX0_reckon_62 ?_
    exact wC0_reckon_p63 F y1 v2 v3 (S.1 23 ((f_31 (v3.toNatClampNeg)).toNatClampNeg)) v2 S hK4 G (lv_sub hl [0, 1, 2, 3] rfl) h
  · replace h := h.2 c_25
    refine lv_aload_n hx hb dX0_reckon_43 rfl (lv_at hl 1 rfl) ?_
    obtain ⟨fs_35, y_38, z_36, u_37, h⟩ := h
    refine pgX0_X12_value F G z_36 u_37 dX0_reckon_44 ?_
    refine lv_iload_n hx hb dX0_reckon_47 rfl (lv_at hl 3 rfl) ?_
    obtain ⟨n_39, f_40, z_41, b_42, h⟩ := h
    refine p_iaload F G z_41 b_42 dX0_reckon_48 ?_
    refine lv_goto (tgt := 63) hx hb dX0_reckon_49 (by decide) ?_
    exact wC0_reckon_p63 F y1 v2 v3 (f_40 (v3.toNatClampNeg)) v2 S hK4 G (lv_sub hl [0, 1, 2, 3] rfl) h
set_option maxHeartbeats 4000000 in
set_option maxRecDepth 100000 in
theorem wC0_reckon_L4 {p : Program} {l : Launch} {e : Env} {s : State} {m : MethodId} {args : Array Value} {below : List Frame} {meth : Method} {c : Code} {D : va_G} {a : Nat → Nat} {d : Nat → ClassId} {A : Nat → Prop} {Q : Int32 → CS → Prop}  (F : FC p s m meth c args D a d A RX0 cX0_reckon 5 (some .int)) (y1 : Nat)  :
    ∀ (n : Nat) (v2 : Int32) (v3 : Int32) (S : CS) (H : Heap) (locs : List Loc) (ls : Array Slot), GC D a d A s.heap S H locs → lv_has ls 5 [(0, .ref (a 0)), (1, .ref y1), (2, .int v2), (3, .int v3)] → C0_reckon_L4 Q y1 n v2 v3 S → wCi p l e rmX0_reckon s m args below meth c D a d A Q 0 0 H locs 0 0 (F0 m 4 ls []) := by
  obtain ⟨hx, hb, hr, hml, hown, hts, hlocks, hA, hK, hN⟩ := id F
  intro n
  induction n with
  | zero => intro v2 v3 S H locs ls G hl h; exact absurd h (fun q => q)
  | succ n ih =>
    intro v2 v3 S H locs ls G hl h
    unfold C0_reckon_L4 at h
    refine lv_iload_n hx hb dX0_reckon_4 rfl (lv_at hl 3 rfl) ?_
    refine lv_aload_n hx hb dX0_reckon_5 rfl (lv_at hl 1 rfl) ?_
    obtain ⟨fs_1, i_4, z_2, u_3, h⟩ := h
    refine pgX0_X12_many F G z_2 u_3 dX0_reckon_6 ?_
    refine lv_icmp_ge (tgt := 139) hx hb dX0_reckon_9 (by decide) (fun c_5 => ?_) (fun c_5 => ?_)
    · replace h := h.1 c_5
      refine lv_aload_n hx hb dX0_reckon_139 rfl (lv_at hl 0 rfl) ?_
      refine cgX0_0_pile F G dX0_reckon_140 ?_
      refine lv_iconst (v := 0) hx hb dX0_reckon_143 (by decide) ?_
      refine c_iaload F G cI_21 (by unfold vp_in; decide) dX0_reckon_144 ?_
      exact c_iret F G dX0_reckon_145 h
    · replace h := h.2 c_5
      refine lv_aload_n hx hb dX0_reckon_12 rfl (lv_at hl 1 rfl) ?_
      obtain ⟨fs_6, y_9, z_7, u_8, h⟩ := h
      refine pgX0_X12_word F G z_7 u_8 dX0_reckon_13 ?_
      refine lv_iload_n hx hb dX0_reckon_16 rfl (lv_at hl 3 rfl) ?_
      obtain ⟨n_10, f_11, z_12, b_13, h⟩ := h
      refine p_iaload F G z_12 b_13 dX0_reckon_17 ?_
      refine lv_topi (fun x_14 ex_14 => ?_)
      replace h := h x_14 ex_14
      refine lv_istore (lv' := [(4, .int x_14), (0, .ref (a 0)), (1, .ref y1), (2, .int v2), (3, .int v3)]) hx hb dX0_reckon_18 hl (by decide) rfl (fun ls hl => ?_)
      refine lv_iload hx hb dX0_reckon_20 (lv_at hl 0 rfl) ?_
      refine lv_iconst (v := 1) hx hb dX0_reckon_22 (by decide) ?_
      refine lv_icmp_eq (tgt := 32) hx hb dX0_reckon_23 (by decide) (fun c_15 => ?_) (fun c_15 => ?_)
      · replace h := h.1 c_15
        exact wC0_reckon_p32 F y1 v2 v3 x_14 S ih G (lv_sub hl [1, 2, 3, 4, 0] rfl) h
      · replace h := h.2 c_15
        refine lv_iload hx hb dX0_reckon_26 (lv_at hl 0 rfl) ?_
        refine lv_iconst (v := 2) hx hb dX0_reckon_28 (by decide) ?_
        refine lv_icmp_ne (tgt := 70) hx hb dX0_reckon_29 (by decide) (fun c_16 => ?_) (fun c_16 => ?_)
        · replace h := h.1 c_16
          refine lv_iload hx hb dX0_reckon_70 (lv_at hl 0 rfl) ?_
          refine lv_iconst (v := 3) hx hb dX0_reckon_72 (by decide) ?_
          refine lv_icmp_ne (tgt := 103) hx hb dX0_reckon_73 (by decide) (fun c_17 => ?_) (fun c_17 => ?_)
          · replace h := h.1 c_17
            refine lv_iinc (v := (v2 + (-1))) (lv' := [(2, .int (v2 + (-1))), (4, .int x_14), (0, .ref (a 0)), (1, .ref y1), (3, .int v3)]) hx hb dX0_reckon_103 hl (k := 3) rfl rfl (by decide) rfl (fun ls hl => ?_)
            refine lv_aload_n hx hb dX0_reckon_106 rfl (lv_at hl 2 rfl) ?_
            refine cgX0_0_pile F G dX0_reckon_107 ?_
            refine lv_iload_n hx hb dX0_reckon_110 rfl (lv_at hl 0 rfl) ?_
            refine lv_iconst (v := 1) hx hb dX0_reckon_111 (by decide) ?_
            refine lv_isub hx hb dX0_reckon_112 ?_
            refine lv_iload hx hb dX0_reckon_113 (lv_at hl 1 rfl) ?_
            refine lv_aload_n hx hb dX0_reckon_115 rfl (lv_at hl 2 rfl) ?_
            refine cgX0_0_pile F G dX0_reckon_116 ?_
            refine lv_iload_n hx hb dX0_reckon_119 rfl (lv_at hl 0 rfl) ?_
            refine lv_iconst (v := 1) hx hb dX0_reckon_120 (by decide) ?_
            refine lv_isub hx hb dX0_reckon_121 ?_
            obtain ⟨b_18, h⟩ := h
            refine c_iaload F G cI_21 b_18 dX0_reckon_122 ?_
            refine lv_aload_n hx hb dX0_reckon_123 rfl (lv_at hl 2 rfl) ?_
            refine cgX0_0_pile F G dX0_reckon_124 ?_
            refine lv_iload_n hx hb dX0_reckon_127 rfl (lv_at hl 0 rfl) ?_
            obtain ⟨b_19, h⟩ := h
            refine c_iaload F G cI_21 b_19 dX0_reckon_128 ?_
            refine kX0_C0_both F G hl.1 ⟨(Nat.le_of_ble_eq_true rfl), (Nat.le_of_ble_eq_true rfl)⟩ ⟨(Nat.le_of_ble_eq_true rfl), (Nat.le_of_ble_eq_true rfl)⟩ (Nat.le_of_ble_eq_true rfl) dX0_reckon_129 h (fun r_20 S_21 H locs G h => ?_)
            obtain ⟨b_22, h⟩ := h
            refine c_iastore F G cI_21 b_22 dX0_reckon_132 (fun H locs G => ?_)
            exact wC0_reckon_p133 F y1 (v2 + (-1)) v3 (cA S_21 21 ((v2 + (-1)) - 1) r_20) ih G (lv_sub hl [2, 3, 0, 4] rfl) h
          · replace h := h.2 c_17
            refine lv_aload_n hx hb dX0_reckon_76 rfl (lv_at hl 1 rfl) ?_
            refine cgX0_0_pile F G dX0_reckon_77 ?_
            refine lv_iload_n hx hb dX0_reckon_80 rfl (lv_at hl 3 rfl) ?_
            refine lv_iconst (v := 1) hx hb dX0_reckon_81 (by decide) ?_
            refine lv_isub hx hb dX0_reckon_82 ?_
            refine lv_aload_n hx hb dX0_reckon_83 rfl (lv_at hl 1 rfl) ?_
            refine cgX0_0_pile F G dX0_reckon_84 ?_
            refine lv_iload_n hx hb dX0_reckon_87 rfl (lv_at hl 3 rfl) ?_
            refine lv_iconst (v := 1) hx hb dX0_reckon_88 (by decide) ?_
            refine lv_isub hx hb dX0_reckon_89 ?_
            obtain ⟨b_23, h⟩ := h
            refine c_iaload F G cI_21 b_23 dX0_reckon_90 ?_
            refine lv_if_ne (tgt := 98) hx hb dX0_reckon_91 (by decide) (fun c_24 => ?_) (fun c_24 => ?_)
            · replace h := h.1 c_24
              refine lv_iconst (v := 0) hx hb dX0_reckon_98 (by decide) ?_
              exact wC0_reckon_p99 F y1 v2 v3 0 (v2 - 1) S ih G (lv_sub hl [1, 2, 3, 4] rfl) h
            · replace h := h.2 c_24
              refine lv_iconst (v := 1) hx hb dX0_reckon_94 (by decide) ?_
              refine lv_goto (tgt := 99) hx hb dX0_reckon_95 (by decide) ?_
              exact wC0_reckon_p99 F y1 v2 v3 1 (v2 - 1) S ih G (lv_sub hl [1, 2, 3, 4] rfl) h
        · replace h := h.2 c_16
          exact wC0_reckon_p32 F y1 v2 v3 x_14 S ih G (lv_sub hl [1, 2, 3, 4, 0] rfl) h
set_option maxHeartbeats 4000000 in
set_option maxRecDepth 100000 in
theorem wC0_reckon {l : Launch} {D : va_G} {a : Nat → Nat} {d : Nat → ClassId} (sz : Nat) (y1 : Nat) (S : CS) (Q : Int32 → CS → Prop) (h : C0_reckon y1 S Q) : CMi l D a d yX0_reckon cX0_reckon 5 .int rmX0_reckon 0 0 [.ref (a 0), .ref y1] sz S Q := by
  refine c_enter (Qc := fun A => va_Qi Q (BC D a d A) A) RX0 (by decide +kernel) rfl (Nat.le_of_ble_eq_true rfl) ?_
  intro p e s m below meth c ls A hmn F hG hl
  have G := hG
  have hl : lv_has ls 5 [(0, .ref (a 0)), (1, .ref y1)] := hl
  obtain ⟨hx, hb, hr, hml, hown, hts, hlocks, hA, hK, hN⟩ := id F
  unfold C0_reckon at h
  refine lv_iconst (v := 0) hx hb dX0_reckon_0 (by decide) ?_
  refine lv_istore_n (lv' := [(2, .int 0), (0, .ref (a 0)), (1, .ref y1)]) hx hb dX0_reckon_1 rfl hl (by decide) rfl (fun ls hl => ?_)
  refine lv_iconst (v := 0) hx hb dX0_reckon_2 (by decide) ?_
  refine lv_istore_n (lv' := [(3, .int 0), (2, .int 0), (0, .ref (a 0)), (1, .ref y1)]) hx hb dX0_reckon_3 rfl hl (by decide) rfl (fun ls hl => ?_)
  obtain ⟨k4, h⟩ := h
  exact wC0_reckon_L4 F y1  k4 0 0 S _ _ _ G (lv_sub hl [2, 3, 1, 0] rfl) h
set_option maxHeartbeats 4000000 in
set_option maxRecDepth 100000 in
theorem kX0_C0_reckon {p : Program} {l : Launch} {e : Env} {s : State} {m : MethodId} {R : Room} {args : Array Value} {below : List Frame} {meth : Method} {c : Code} {D : va_G} {a : Nat → Nat} {d : Nat → ClassId} {A : Nat → Prop} {Q : State → Prop} {cc : ByteArray} {nL pc cells slots : Nat} {ret : Option FieldType} {ls : Array Slot} {rest : List Value} {y1 : Nat} {S : CS} {H : Heap} {locs : List Loc} {Q1 : Int32 → CS → Prop} (F : FC p s m meth c args D a d A RX0 cc nL ret) (G : GC D a d A s.heap S H locs) (hsz : ls.size = nL) (hR : rmX0_reckon.frames + 1 ≤ R.frames ∧ 8 + (5 + 11) + rmX0_reckon.locals ≤ R.locals) (hc : cells + 0 ≤ R.cells ∧ slots + 0 ≤ R.slots) (hW : (rest.map fun v => v.category).sum ≤ 8) (hd : decode cc pc = .ok (.invokevirtual 282, 3)) (h : C0_reckon y1 S Q1) (k : ∀ (r : Int32) (S1 : CS) (H : Heap) (locs : List Loc), GC D a d A s.heap S1 H locs → Q1 r S1 → W p l e R s m args below meth c H locs cells slots Q (F0 m (pc + 3) ls (.int r :: rest))) : W p l e R s m args below meth c H locs cells slots Q (F0 m pc ls (.ref y1 :: .ref (a 0) :: rest)) := by
  obtain ⟨hx, hb, hr, hml, hown, hts, hlocks, hA, hK, hN⟩ := id F
  exact c_calli F G (va_runV (As := [.ref y1]) (rest := rest) ⟨hx, hb, hml, hown, hts⟩ (wC0_reckon H.size y1 S Q1 h) (cwV 1 hts (lw_V q667 q669 qs23 q82 q670) rfl rfl rfl (by decide +kernel) hR) ⟨PC_blind, va_recv hK G.1 (ci := 0) (q0 := 0) rfl rfl, c_pre F G⟩ rfl rfl hsz rfl (lv_room hW) hd hc) k
/-! java/lang/Math.min -/
def CJ3_min (v0 : Int32) (v1 : Int32) (S : CS) (Q : Int32 → CS → Prop) : Prop := (v1 < v0 → Q v1 S) ∧ (¬ v1 < v0 → Q v0 S)
abbrev rmJ3_min : Room := { frames := 0, cells := 0, slots := 0, locals := 0 }
set_option maxHeartbeats 4000000 in
set_option maxRecDepth 100000 in
theorem wCJ3_min {l : Launch} {D : va_G} {a : Nat → Nat} {d : Nat → ClassId} (sz : Nat) (v0 : Int32) (v1 : Int32) (S : CS) (Q : Int32 → CS → Prop) (h : CJ3_min v0 v1 S Q) : CMi l D a d yJ3_min cJ3_min 2 .int rmJ3_min 0 0 [.int v0, .int v1] sz S Q := by
  refine c_enterF (Qc := fun A => va_Qi Q (BC D a d A) A) RJ3 (by decide +kernel) rfl (Nat.le_of_ble_eq_true rfl) ?_
  intro p e s m below meth c ls A hmn F hG hl
  have G := hG
  have hl : lv_has ls 2 [(0, .int v0), (1, .int v1)] := hl
  obtain ⟨hx, hb, hr, hml, hown, hts, hlocks, hA, hK, hN⟩ := id F
  unfold CJ3_min at h
  refine lv_iload_n hx hb dJ3_min_0 rfl (lv_at hl 0 rfl) ?_
  refine lv_iload_n hx hb dJ3_min_1 rfl (lv_at hl 1 rfl) ?_
  refine lv_icmp_gt (tgt := 9) hx hb dJ3_min_2 (by decide) (fun c_1 => ?_) (fun c_1 => ?_)
  · replace h := h.1 c_1
    refine lv_iload_n hx hb dJ3_min_9 rfl (lv_at hl 1 rfl) ?_
    exact c_iret F G dJ3_min_10 h
  · replace h := h.2 c_1
    refine lv_iload_n hx hb dJ3_min_5 rfl (lv_at hl 0 rfl) ?_
    refine lv_goto (tgt := 10) hx hb dJ3_min_6 (by decide) ?_
    exact c_iret F G dJ3_min_10 h
set_option maxHeartbeats 4000000 in
set_option maxRecDepth 100000 in
theorem kX0_CJ3_min {p : Program} {l : Launch} {e : Env} {s : State} {m : MethodId} {R : Room} {args : Array Value} {below : List Frame} {meth : Method} {c : Code} {D : va_G} {a : Nat → Nat} {d : Nat → ClassId} {A : Nat → Prop} {Q : State → Prop} {cc : ByteArray} {nL pc cells slots : Nat} {ret : Option FieldType} {ls : Array Slot} {rest : List Value} {v0 : Int32} {v1 : Int32} {S : CS} {H : Heap} {locs : List Loc} {Q1 : Int32 → CS → Prop} (F : FC p s m meth c args D a d A RX0 cc nL ret) (G : GC D a d A s.heap S H locs) (hsz : ls.size = nL) (hR : rmJ3_min.frames + 1 ≤ R.frames ∧ 8 + (2 + 11) + rmJ3_min.locals ≤ R.locals) (hc : cells + 0 ≤ R.cells ∧ slots + 0 ≤ R.slots) (hW : (rest.map fun v => v.category).sum ≤ 8) (hd : decode cc pc = .ok (.invokestatic 4, 3)) (h : CJ3_min v0 v1 S Q1) (k : ∀ (r : Int32) (S1 : CS) (H : Heap) (locs : List Loc), GC D a d A s.heap S1 H locs → Q1 r S1 → W p l e R s m args below meth c H locs cells slots Q (F0 m (pc + 3) ls (.int r :: rest))) : W p l e R s m args below meth c H locs cells slots Q (F0 m pc ls (.int v1 :: .int v0 :: rest)) := by
  obtain ⟨hx, hb, hr, hml, hown, hts, hlocks, hA, hK, hN⟩ := id F
  exact c_calli F G (va_runS (As := [.int v0, .int v1]) (rest := rest) ⟨hx, hb, hml, hown, hts⟩ (wCJ3_min H.size v0 v1 S Q1 h) (va_cwS 2 hts (lw_S q677 q678 q97 q679) rfl rfl rfl (by decide +kernel) hR) ⟨PC_blind, c_pre F G⟩ rfl rfl hsz rfl (lv_room hW) hd hc) k
/-! java/lang/Math.max -/
def CJ3_max (v0 : Int32) (v1 : Int32) (S : CS) (Q : Int32 → CS → Prop) : Prop := (v0 < v1 → Q v1 S) ∧ (¬ v0 < v1 → Q v0 S)
abbrev rmJ3_max : Room := { frames := 0, cells := 0, slots := 0, locals := 0 }
set_option maxHeartbeats 4000000 in
set_option maxRecDepth 100000 in
theorem wCJ3_max {l : Launch} {D : va_G} {a : Nat → Nat} {d : Nat → ClassId} (sz : Nat) (v0 : Int32) (v1 : Int32) (S : CS) (Q : Int32 → CS → Prop) (h : CJ3_max v0 v1 S Q) : CMi l D a d yJ3_max cJ3_max 2 .int rmJ3_max 0 0 [.int v0, .int v1] sz S Q := by
  refine c_enterF (Qc := fun A => va_Qi Q (BC D a d A) A) RJ3 (by decide +kernel) rfl (Nat.le_of_ble_eq_true rfl) ?_
  intro p e s m below meth c ls A hmn F hG hl
  have G := hG
  have hl : lv_has ls 2 [(0, .int v0), (1, .int v1)] := hl
  obtain ⟨hx, hb, hr, hml, hown, hts, hlocks, hA, hK, hN⟩ := id F
  unfold CJ3_max at h
  refine lv_iload_n hx hb dJ3_max_0 rfl (lv_at hl 0 rfl) ?_
  refine lv_iload_n hx hb dJ3_max_1 rfl (lv_at hl 1 rfl) ?_
  refine lv_icmp_lt (tgt := 9) hx hb dJ3_max_2 (by decide) (fun c_1 => ?_) (fun c_1 => ?_)
  · replace h := h.1 c_1
    refine lv_iload_n hx hb dJ3_max_9 rfl (lv_at hl 1 rfl) ?_
    exact c_iret F G dJ3_max_10 h
  · replace h := h.2 c_1
    refine lv_iload_n hx hb dJ3_max_5 rfl (lv_at hl 0 rfl) ?_
    refine lv_goto (tgt := 10) hx hb dJ3_max_6 (by decide) ?_
    exact c_iret F G dJ3_max_10 h
set_option maxHeartbeats 4000000 in
set_option maxRecDepth 100000 in
theorem kX0_CJ3_max {p : Program} {l : Launch} {e : Env} {s : State} {m : MethodId} {R : Room} {args : Array Value} {below : List Frame} {meth : Method} {c : Code} {D : va_G} {a : Nat → Nat} {d : Nat → ClassId} {A : Nat → Prop} {Q : State → Prop} {cc : ByteArray} {nL pc cells slots : Nat} {ret : Option FieldType} {ls : Array Slot} {rest : List Value} {v0 : Int32} {v1 : Int32} {S : CS} {H : Heap} {locs : List Loc} {Q1 : Int32 → CS → Prop} (F : FC p s m meth c args D a d A RX0 cc nL ret) (G : GC D a d A s.heap S H locs) (hsz : ls.size = nL) (hR : rmJ3_max.frames + 1 ≤ R.frames ∧ 8 + (2 + 11) + rmJ3_max.locals ≤ R.locals) (hc : cells + 0 ≤ R.cells ∧ slots + 0 ≤ R.slots) (hW : (rest.map fun v => v.category).sum ≤ 8) (hd : decode cc pc = .ok (.invokestatic 10, 3)) (h : CJ3_max v0 v1 S Q1) (k : ∀ (r : Int32) (S1 : CS) (H : Heap) (locs : List Loc), GC D a d A s.heap S1 H locs → Q1 r S1 → W p l e R s m args below meth c H locs cells slots Q (F0 m (pc + 3) ls (.int r :: rest))) : W p l e R s m args below meth c H locs cells slots Q (F0 m pc ls (.int v1 :: .int v0 :: rest)) := by
  obtain ⟨hx, hb, hr, hml, hown, hts, hlocks, hA, hK, hN⟩ := id F
  exact c_calli F G (va_runS (As := [.int v0, .int v1]) (rest := rest) ⟨hx, hb, hml, hown, hts⟩ (wCJ3_max H.size v0 v1 S Q1 h) (va_cwS 2 hts (lw_S q680 q681 q97 q682) rfl rfl rfl (by decide +kernel) hR) ⟨PC_blind, c_pre F G⟩ rfl rfl hsz rfl (lv_room hW) hd hc) k
/-! StrokesHeard.within -/
def C0_within (v0 : Int32) (v1 : Int32) (v2 : Int32) (S : CS) (Q : Int32 → CS → Prop) : Prop := CJ3_min v2 v0 S (fun r_1 S_2 => CJ3_max v1 r_1 S_2 (fun r_3 S_4 => Q r_3 S_4))
abbrev rmX0_within : Room := { frames := 1, cells := 0, slots := 0, locals := 21 }
set_option maxHeartbeats 4000000 in
set_option maxRecDepth 100000 in
theorem wC0_within {l : Launch} {D : va_G} {a : Nat → Nat} {d : Nat → ClassId} (sz : Nat) (v0 : Int32) (v1 : Int32) (v2 : Int32) (S : CS) (Q : Int32 → CS → Prop) (h : C0_within v0 v1 v2 S Q) : CMi l D a d yX0_within cX0_within 3 .int rmX0_within 0 0 [.int v0, .int v1, .int v2] sz S Q := by
  refine c_enter (Qc := fun A => va_Qi Q (BC D a d A) A) RX0 (by decide +kernel) rfl (Nat.le_of_ble_eq_true rfl) ?_
  intro p e s m below meth c ls A hmn F hG hl
  have G := hG
  have hl : lv_has ls 3 [(0, .int v0), (1, .int v1), (2, .int v2)] := hl
  obtain ⟨hx, hb, hr, hml, hown, hts, hlocks, hA, hK, hN⟩ := id F
  unfold C0_within at h
  refine lv_iload_n hx hb dX0_within_0 rfl (lv_at hl 1 rfl) ?_
  refine lv_iload_n hx hb dX0_within_1 rfl (lv_at hl 2 rfl) ?_
  refine lv_iload_n hx hb dX0_within_2 rfl (lv_at hl 0 rfl) ?_
  refine kX0_CJ3_min F G hl.1 ⟨(Nat.le_of_ble_eq_true rfl), (Nat.le_of_ble_eq_true rfl)⟩ ⟨(Nat.le_of_ble_eq_true rfl), (Nat.le_of_ble_eq_true rfl)⟩ (Nat.le_of_ble_eq_true rfl) dX0_within_3 h (fun r_1 S_2 H locs G h => ?_)
  refine kX0_CJ3_max F G hl.1 ⟨(Nat.le_of_ble_eq_true rfl), (Nat.le_of_ble_eq_true rfl)⟩ ⟨(Nat.le_of_ble_eq_true rfl), (Nat.le_of_ble_eq_true rfl)⟩ (Nat.le_of_ble_eq_true rfl) dX0_within_6 h (fun r_3 S_4 H locs G h => ?_)
  exact c_iret F G dX0_within_9 h
set_option maxHeartbeats 4000000 in
set_option maxRecDepth 100000 in
theorem kX0_C0_within {p : Program} {l : Launch} {e : Env} {s : State} {m : MethodId} {R : Room} {args : Array Value} {below : List Frame} {meth : Method} {c : Code} {D : va_G} {a : Nat → Nat} {d : Nat → ClassId} {A : Nat → Prop} {Q : State → Prop} {cc : ByteArray} {nL pc cells slots : Nat} {ret : Option FieldType} {ls : Array Slot} {rest : List Value} {v0 : Int32} {v1 : Int32} {v2 : Int32} {S : CS} {H : Heap} {locs : List Loc} {Q1 : Int32 → CS → Prop} (F : FC p s m meth c args D a d A RX0 cc nL ret) (G : GC D a d A s.heap S H locs) (hsz : ls.size = nL) (hR : rmX0_within.frames + 1 ≤ R.frames ∧ 8 + (3 + 11) + rmX0_within.locals ≤ R.locals) (hc : cells + 0 ≤ R.cells ∧ slots + 0 ≤ R.slots) (hW : (rest.map fun v => v.category).sum ≤ 8) (hd : decode cc pc = .ok (.invokestatic 286, 3)) (h : C0_within v0 v1 v2 S Q1) (k : ∀ (r : Int32) (S1 : CS) (H : Heap) (locs : List Loc), GC D a d A s.heap S1 H locs → Q1 r S1 → W p l e R s m args below meth c H locs cells slots Q (F0 m (pc + 3) ls (.int r :: rest))) : W p l e R s m args below meth c H locs cells slots Q (F0 m pc ls (.int v2 :: .int v1 :: .int v0 :: rest)) := by
  obtain ⟨hx, hb, hr, hml, hown, hts, hlocks, hA, hK, hN⟩ := id F
  exact c_calli F G (va_runS (As := [.int v0, .int v1, .int v2]) (rest := rest) ⟨hx, hb, hml, hown, hts⟩ (wC0_within H.size v0 v1 v2 S Q1 h) (va_cwS 3 hts (lw_S q674 q675 q82 q676) rfl rfl rfl (by decide +kernel) hR) ⟨PC_blind, c_pre F G⟩ rfl rfl hsz rfl (lv_room hW) hd hc) k
/-! StrokesHeard.againAt -/
def C0_againAt (y1 : Nat) (v2 : Int32) (S : CS) (Q : Int32 → CS → Prop) : Prop := C0_counts 0 S (fun r_1 S_2 => (¬ r_1 = (-1) → ∃ (κ_7 : Nat) (fs_4 : List Value) (i_9 : Int32), κ_7 < 6 ∧ has S_2 y1 (.inr (6 + κ_7, fs_4)) ∧ fs_4[0]? = some (.int i_9) ∧ (∃ (κ_13 : Nat) (fs_10 : List Value) (i_15 : Int32), κ_13 < 6 ∧ has (cA S_2 23 111 i_9) y1 (.inr (6 + κ_13, fs_10)) ∧ fs_10[1]? = some (.int i_15) ∧ (vp_in r_1 14 ∧ (∃ y_17 : Nat, ((cA (cA (cA S_2 23 111 i_9) 23 116 i_15) 23 104 v2).2.1 17 r_1.toNatClampNeg) = some y_17 ∧ (∃ (fs_18 : List Value) (y_21 : Nat), has (cA (cA (cA S_2 23 111 i_9) 23 116 i_15) 23 104 v2) y_17 (.inr (13, fs_18)) ∧ fs_18[1]? = some (.ref y_21) ∧ (C0_reckon y_21 (cA (cA (cA S_2 23 111 i_9) 23 116 i_15) 23 104 v2) (fun r_22 S_23 => C0_within r_22 1 14 S_23 (fun r_24 S_25 => Q r_24 S_25)))))))) ∧ (r_1 = (-1) → Q 2 S_2))
abbrev rmX0_againAt : Room := { frames := 2, cells := 0, slots := 0, locals := 46 }
set_option maxHeartbeats 4000000 in
set_option maxRecDepth 100000 in
theorem wC0_againAt {l : Launch} {D : va_G} {a : Nat → Nat} {d : Nat → ClassId} (sz : Nat) (y1 : Nat) (v2 : Int32) (S : CS) (Q : Int32 → CS → Prop) (h : C0_againAt y1 v2 S Q) : CMi l D a d yX0_againAt cX0_againAt 4 .int rmX0_againAt 0 0 [.ref (a 0), .ref y1, .int v2] sz S Q := by
  refine c_enter (Qc := fun A => va_Qi Q (BC D a d A) A) RX0 (by decide +kernel) rfl (Nat.le_of_ble_eq_true rfl) ?_
  intro p e s m below meth c ls A hmn F hG hl
  have G := hG
  have hl : lv_has ls 4 [(0, .ref (a 0)), (1, .ref y1), (2, .int v2)] := hl
  obtain ⟨hx, hb, hr, hml, hown, hts, hlocks, hA, hK, hN⟩ := id F
  unfold C0_againAt at h
  refine lv_aload_n hx hb dX0_againAt_0 rfl (lv_at hl 0 rfl) ?_
  refine lv_iconst (v := 0) hx hb dX0_againAt_1 (by decide) ?_
  refine kX0_C0_counts F G hl.1 ⟨(Nat.le_of_ble_eq_true rfl), (Nat.le_of_ble_eq_true rfl)⟩ ⟨(Nat.le_of_ble_eq_true rfl), (Nat.le_of_ble_eq_true rfl)⟩ (Nat.le_of_ble_eq_true rfl) dX0_againAt_2 h (fun r_1 S_2 H locs G h => ?_)
  refine lv_istore_n (lv' := [(3, .int r_1), (0, .ref (a 0)), (1, .ref y1), (2, .int v2)]) hx hb dX0_againAt_5 rfl hl (by decide) rfl (fun ls hl => ?_)
  refine lv_iload_n hx hb dX0_againAt_6 rfl (lv_at hl 0 rfl) ?_
  refine lv_iconst (v := (-1)) hx hb dX0_againAt_7 (by decide) ?_
  refine lv_icmp_ne (tgt := 13) hx hb dX0_againAt_8 (by decide) (fun c_3 => ?_) (fun c_3 => ?_)
  · replace h := h.1 c_3
    refine lv_aload_n hx hb dX0_againAt_13 rfl (lv_at hl 1 rfl) ?_
    refine cgX0_0_named F G dX0_againAt_14 ?_
    refine lv_bipush (v := 111) hx hb dX0_againAt_17 (by decide) ?_
    refine lv_aload_n hx hb dX0_againAt_19 rfl (lv_at hl 2 rfl) ?_
    obtain ⟨κ_7, fs_4, i_9, q_8, z_5, u_6, h⟩ := h
    refine pgX0_X6_off F G q_8 z_5 u_6 dX0_againAt_20 ?_
    refine c_iastore F G cI_23 (by unfold vp_in; decide) dX0_againAt_23 (fun H locs G => ?_)
    refine lv_aload_n hx hb dX0_againAt_24 rfl (lv_at hl 1 rfl) ?_
    refine cgX0_0_named F G dX0_againAt_25 ?_
    refine lv_bipush (v := 116) hx hb dX0_againAt_28 (by decide) ?_
    refine lv_aload_n hx hb dX0_againAt_30 rfl (lv_at hl 2 rfl) ?_
    obtain ⟨κ_13, fs_10, i_15, q_14, z_11, u_12, h⟩ := h
    refine pgX0_X6_tone F G q_14 z_11 u_12 dX0_againAt_31 ?_
    refine c_iastore F G cI_23 (by unfold vp_in; decide) dX0_againAt_34 (fun H locs G => ?_)
    refine lv_aload_n hx hb dX0_againAt_35 rfl (lv_at hl 1 rfl) ?_
    refine cgX0_0_named F G dX0_againAt_36 ?_
    refine lv_bipush (v := 104) hx hb dX0_againAt_39 (by decide) ?_
    refine lv_iload_n hx hb dX0_againAt_41 rfl (lv_at hl 3 rfl) ?_
    refine c_iastore F G cI_23 (by unfold vp_in; decide) dX0_againAt_42 (fun H locs G => ?_)
    refine lv_aload_n hx hb dX0_againAt_43 rfl (lv_at hl 1 rfl) ?_
    refine lv_aload_n hx hb dX0_againAt_44 rfl (lv_at hl 1 rfl) ?_
    refine cgX0_0_now F G dX0_againAt_45 ?_
    refine cgX0_1_text F G dX0_againAt_48 ?_
    refine lv_iload_n hx hb dX0_againAt_51 rfl (lv_at hl 0 rfl) ?_
    obtain ⟨b_16, h⟩ := h
    refine c_aaload F G cR_17 rfl b_16 dX0_againAt_52 ?_
    obtain ⟨y_17, hy_17, h⟩ := h
    refine c_nn hy_17 ?_
    obtain ⟨fs_18, y_21, z_19, u_20, h⟩ := h
    refine pgX0_X13_words F G z_19 u_20 dX0_againAt_53 ?_
    refine kX0_C0_reckon F G hl.1 ⟨(Nat.le_of_ble_eq_true rfl), (Nat.le_of_ble_eq_true rfl)⟩ ⟨(Nat.le_of_ble_eq_true rfl), (Nat.le_of_ble_eq_true rfl)⟩ (Nat.le_of_ble_eq_true rfl) dX0_againAt_56 h (fun r_22 S_23 H locs G h => ?_)
    refine lv_iconst (v := 1) hx hb dX0_againAt_59 (by decide) ?_
    refine lv_bipush (v := 14) hx hb dX0_againAt_60 (by decide) ?_
    refine kX0_C0_within F G hl.1 ⟨(Nat.le_of_ble_eq_true rfl), (Nat.le_of_ble_eq_true rfl)⟩ ⟨(Nat.le_of_ble_eq_true rfl), (Nat.le_of_ble_eq_true rfl)⟩ (Nat.le_of_ble_eq_true rfl) dX0_againAt_62 h (fun r_24 S_25 H locs G h => ?_)
    exact c_iret F G dX0_againAt_65 h
  · replace h := h.2 c_3
    refine lv_iconst (v := 2) hx hb dX0_againAt_11 (by decide) ?_
    exact c_iret F G dX0_againAt_12 h
set_option maxHeartbeats 4000000 in
set_option maxRecDepth 100000 in
theorem kX0_C0_againAt {p : Program} {l : Launch} {e : Env} {s : State} {m : MethodId} {R : Room} {args : Array Value} {below : List Frame} {meth : Method} {c : Code} {D : va_G} {a : Nat → Nat} {d : Nat → ClassId} {A : Nat → Prop} {Q : State → Prop} {cc : ByteArray} {nL pc cells slots : Nat} {ret : Option FieldType} {ls : Array Slot} {rest : List Value} {y1 : Nat} {v2 : Int32} {S : CS} {H : Heap} {locs : List Loc} {Q1 : Int32 → CS → Prop} (F : FC p s m meth c args D a d A RX0 cc nL ret) (G : GC D a d A s.heap S H locs) (hsz : ls.size = nL) (hR : rmX0_againAt.frames + 1 ≤ R.frames ∧ 8 + (4 + 11) + rmX0_againAt.locals ≤ R.locals) (hc : cells + 0 ≤ R.cells ∧ slots + 0 ≤ R.slots) (hW : (rest.map fun v => v.category).sum ≤ 8) (hd : decode cc pc = .ok (.invokevirtual 292, 3)) (h : C0_againAt y1 v2 S Q1) (k : ∀ (r : Int32) (S1 : CS) (H : Heap) (locs : List Loc), GC D a d A s.heap S1 H locs → Q1 r S1 → W p l e R s m args below meth c H locs cells slots Q (F0 m (pc + 3) ls (.int r :: rest))) : W p l e R s m args below meth c H locs cells slots Q (F0 m pc ls (.int v2 :: .ref y1 :: .ref (a 0) :: rest)) := by
  obtain ⟨hx, hb, hr, hml, hown, hts, hlocks, hA, hK, hN⟩ := id F
  exact c_calli F G (va_runV (As := [.ref y1, .int v2]) (rest := rest) ⟨hx, hb, hml, hown, hts⟩ (wC0_againAt H.size y1 v2 S Q1 h) (cwV 2 hts (lw_V q663 q665 qs22 q82 q666) rfl rfl rfl (by decide +kernel) hR) ⟨PC_blind, va_recv hK G.1 (ci := 0) (q0 := 0) rfl rfl, c_pre F G⟩ rfl rfl hsz rfl (lv_room hW) hd hc) k
/-! StrokesHeard$Chimes.at -/
def C16_at (y0 : Nat) (v1 : Int32) (v2 : Int32) (v3 : Int32) (S : CS) (Q : Int32 → CS → Prop) : Prop := Q 0 S
abbrev rmX16_at : Room := { frames := 0, cells := 0, slots := 0, locals := 0 }
set_option maxHeartbeats 4000000 in
set_option maxRecDepth 100000 in
theorem wC16_at {l : Launch} {D : va_G} {a : Nat → Nat} {d : Nat → ClassId} (sz : Nat) (y0 : Nat) (v1 : Int32) (v2 : Int32) (v3 : Int32) (S : CS) (Q : Int32 → CS → Prop) (h : C16_at y0 v1 v2 v3 S Q) : CMi l D a d yX16_at cX16_at 4 .int rmX16_at 0 0 [.ref y0, .int v1, .int v2, .int v3] sz S Q := by
  refine c_enter (Qc := fun A => va_Qi Q (BC D a d A) A) RX16 (by decide +kernel) rfl (Nat.le_of_ble_eq_true rfl) ?_
  intro p e s m below meth c ls A hmn F hG hl
  have G := hG
  have hl : lv_has ls 4 [(0, .ref y0), (1, .int v1), (2, .int v2), (3, .int v3)] := hl
  obtain ⟨hx, hb, hr, hml, hown, hts, hlocks, hA, hK, hN⟩ := id F
  unfold C16_at at h
  refine lv_iconst (v := 0) hx hb dX16_at_0 (by decide) ?_
  exact c_iret F G dX16_at_1 h
set_option maxHeartbeats 4000000 in
set_option maxRecDepth 100000 in
theorem ksX7_at {p : Program} {l : Launch} {e : Env} {s : State} {m : MethodId} {R : Room} {args : Array Value} {below : List Frame} {meth : Method} {c : Code} {D : va_G} {a : Nat → Nat} {d : Nat → ClassId} {A : Nat → Prop} {Q : State → Prop} {cc : ByteArray} {nL pc cells slots κ : Nat} {fs0 : List Value} {ret : Option FieldType} {ls : Array Slot} {rest : List Value} {y0 : Nat} {v1 : Int32} {v2 : Int32} {v3 : Int32} {S : CS} {H : Heap} {locs : List Loc} {Q1 : Int32 → CS → Prop} (F : FC p s m meth c args D a d A RX7 cc nL ret) (G : GC D a d A s.heap S H locs) (hκ : κ < 6) (hy : has S y0 (.inr (6 + κ, fs0))) (hsz : ls.size = nL) (hR : 0 + 1 ≤ R.frames ∧ 23 ≤ R.locals) (hc : cells + 0 ≤ R.cells ∧ slots + 0 ≤ R.slots) (hW : (rest.map fun v => v.category).sum ≤ 8) (hd : decode cc pc = .ok (.invokespecial 9, 3)) (h : C16_at y0 v1 v2 v3 S Q1) (k : ∀ (r : Int32) (S1 : CS) (H : Heap) (locs : List Loc), GC D a d A s.heap S1 H locs → Q1 r S1 → W p l e R s m args below meth c H locs cells slots Q (F0 m (pc + 3) ls (.int r :: rest))) : W p l e R s m args below meth c H locs cells slots Q (F0 m pc ls (.int v3 :: .int v2 :: .int v1 :: .ref y0 :: rest)) := by
  obtain ⟨hx, hb, hr, hml, hown, hts, hlocks, hA, hK, hN⟩ := id F
  obtain rfl | rfl | rfl | rfl | rfl | rfl : κ = 0 ∨ κ = 1 ∨ κ = 2 ∨ κ = 3 ∨ κ = 4 ∨ κ = 5 := by omega
  · exact c_defS0 (x := ⟨"StrokesHeard$Ringer", "at", "(III)I"⟩) F hsz (hN.2.2.1 _ (List.mem_of_getElem? (i := 9) rfl)) (hN.2.2.1 _ (List.mem_of_getElem? (i := 7) rfl)) q579 (by decide) (by decide) q711 q712 dX16_at_0 dX16_at_1 (hN.2.2.2.1 _ (List.mem_of_getElem? (i := 4) rfl)) (p_recv_X6 F G hy) (by decide +kernel) hR hW hd (k 0 S H locs G h)
  · exact c_defS0 (x := ⟨"StrokesHeard$Ringer", "at", "(III)I"⟩) F hsz (hN.2.2.1 _ (List.mem_of_getElem? (i := 9) rfl)) (hN.2.2.1 _ (List.mem_of_getElem? (i := 7) rfl)) q579 (by decide) (by decide) q711 q712 dX16_at_0 dX16_at_1 (hN.2.2.2.1 _ (List.mem_of_getElem? (i := 4) rfl)) (p_recv_X7 F G hy) (by decide +kernel) hR hW hd (k 0 S H locs G h)
  · exact c_defS0 (x := ⟨"StrokesHeard$Ringer", "at", "(III)I"⟩) F hsz (hN.2.2.1 _ (List.mem_of_getElem? (i := 9) rfl)) (hN.2.2.1 _ (List.mem_of_getElem? (i := 7) rfl)) q579 (by decide) (by decide) q711 q712 dX16_at_0 dX16_at_1 (hN.2.2.2.1 _ (List.mem_of_getElem? (i := 4) rfl)) (p_recv_X8 F G hy) (by decide +kernel) hR hW hd (k 0 S H locs G h)
  · exact c_defS0 (x := ⟨"StrokesHeard$Ringer", "at", "(III)I"⟩) F hsz (hN.2.2.1 _ (List.mem_of_getElem? (i := 9) rfl)) (hN.2.2.1 _ (List.mem_of_getElem? (i := 7) rfl)) q579 (by decide) (by decide) q711 q712 dX16_at_0 dX16_at_1 (hN.2.2.2.1 _ (List.mem_of_getElem? (i := 4) rfl)) (p_recv_X9 F G hy) (by decide +kernel) hR hW hd (k 0 S H locs G h)
  · exact c_defS0 (x := ⟨"StrokesHeard$Ringer", "at", "(III)I"⟩) F hsz (hN.2.2.1 _ (List.mem_of_getElem? (i := 9) rfl)) (hN.2.2.1 _ (List.mem_of_getElem? (i := 7) rfl)) q579 (by decide) (by decide) q711 q712 dX16_at_0 dX16_at_1 (hN.2.2.2.1 _ (List.mem_of_getElem? (i := 4) rfl)) (p_recv_X10 F G hy) (by decide +kernel) hR hW hd (k 0 S H locs G h)
  · exact c_defS0 (x := ⟨"StrokesHeard$Ringer", "at", "(III)I"⟩) F hsz (hN.2.2.1 _ (List.mem_of_getElem? (i := 9) rfl)) (hN.2.2.1 _ (List.mem_of_getElem? (i := 7) rfl)) q579 (by decide) (by decide) q711 q712 dX16_at_0 dX16_at_1 (hN.2.2.2.1 _ (List.mem_of_getElem? (i := 4) rfl)) (p_recv_X11 F G hy) (by decide +kernel) hR hW hd (k 0 S H locs G h)
/-! StrokesHeard$Quarters.at -/
def C7_at (y0 : Nat) (v1 : Int32) (v2 : Int32) (v3 : Int32) (S : CS) (Q : Int32 → CS → Prop) : Prop := (¬ (v1 - v1 / 15 * 15) = 0 → ∃ (κ_4 : Nat) (fs_5 : List Value), κ_4 < 6 ∧ has S y0 (.inr (6 + κ_4, fs_5)) ∧ C16_at y0 v1 v2 v3 S (fun r_2 S_3 => Q r_2 S_3)) ∧ ((v1 - v1 / 15 * 15) = 0 → Q (v1 / 15) S)
abbrev rmX7_at : Room := { frames := 1, cells := 0, slots := 0, locals := 23 }
set_option maxHeartbeats 4000000 in
set_option maxRecDepth 100000 in
theorem wC7_at {l : Launch} {D : va_G} {a : Nat → Nat} {d : Nat → ClassId} (sz : Nat) (y0 : Nat) (v1 : Int32) (v2 : Int32) (v3 : Int32) (S : CS) (Q : Int32 → CS → Prop) (h : C7_at y0 v1 v2 v3 S Q) : CMi l D a d yX7_at cX7_at 4 .int rmX7_at 0 0 [.ref y0, .int v1, .int v2, .int v3] sz S Q := by
  refine c_enter (Qc := fun A => va_Qi Q (BC D a d A) A) RX7 (by decide +kernel) rfl (Nat.le_of_ble_eq_true rfl) ?_
  intro p e s m below meth c ls A hmn F hG hl
  have G := hG
  have hl : lv_has ls 4 [(0, .ref y0), (1, .int v1), (2, .int v2), (3, .int v3)] := hl
  obtain ⟨hx, hb, hr, hml, hown, hts, hlocks, hA, hK, hN⟩ := id F
  unfold C7_at at h
  refine lv_iload_n hx hb dX7_at_0 rfl (lv_at hl 1 rfl) ?_
  refine lv_bipush (v := 15) hx hb dX7_at_1 (by decide) ?_
  refine lv_irem hx hb dX7_at_3 (by decide) ?_
  refine lv_if_ne (tgt := 14) hx hb dX7_at_4 (by decide) (fun c_1 => ?_) (fun c_1 => ?_)
  · replace h := h.1 c_1
    refine lv_aload_n hx hb dX7_at_14 rfl (lv_at hl 0 rfl) ?_
    refine lv_iload_n hx hb dX7_at_15 rfl (lv_at hl 1 rfl) ?_
    refine lv_iload_n hx hb dX7_at_16 rfl (lv_at hl 2 rfl) ?_
    refine lv_iload_n hx hb dX7_at_17 rfl (lv_at hl 3 rfl) ?_
    obtain ⟨κ_4, fs_5, q_6, z_7, h⟩ := h
    refine ksX7_at F G q_6 z_7 hl.1 ⟨(Nat.le_of_ble_eq_true rfl), (Nat.le_of_ble_eq_true rfl)⟩ ⟨(Nat.le_of_ble_eq_true rfl), (Nat.le_of_ble_eq_true rfl)⟩ (Nat.le_of_ble_eq_true rfl) dX7_at_18 h (fun r_2 S_3 H locs G h => ?_)
    exact c_iret F G dX7_at_21 h
  · replace h := h.2 c_1
    refine lv_iload_n hx hb dX7_at_7 rfl (lv_at hl 1 rfl) ?_
    refine lv_bipush (v := 15) hx hb dX7_at_8 (by decide) ?_
    refine lv_idiv hx hb dX7_at_10 (by decide) ?_
    refine lv_goto (tgt := 21) hx hb dX7_at_11 (by decide) ?_
    exact c_iret F G dX7_at_21 h
set_option maxHeartbeats 4000000 in
set_option maxRecDepth 100000 in
theorem ksX8_at {p : Program} {l : Launch} {e : Env} {s : State} {m : MethodId} {R : Room} {args : Array Value} {below : List Frame} {meth : Method} {c : Code} {D : va_G} {a : Nat → Nat} {d : Nat → ClassId} {A : Nat → Prop} {Q : State → Prop} {cc : ByteArray} {nL pc cells slots κ : Nat} {fs0 : List Value} {ret : Option FieldType} {ls : Array Slot} {rest : List Value} {y0 : Nat} {v1 : Int32} {v2 : Int32} {v3 : Int32} {S : CS} {H : Heap} {locs : List Loc} {Q1 : Int32 → CS → Prop} (F : FC p s m meth c args D a d A RX8 cc nL ret) (G : GC D a d A s.heap S H locs) (hκ : κ < 6) (hy : has S y0 (.inr (6 + κ, fs0))) (hsz : ls.size = nL) (hR : 0 + 1 ≤ R.frames ∧ 23 ≤ R.locals) (hc : cells + 0 ≤ R.cells ∧ slots + 0 ≤ R.slots) (hW : (rest.map fun v => v.category).sum ≤ 8) (hd : decode cc pc = .ok (.invokespecial 15, 3)) (h : C16_at y0 v1 v2 v3 S Q1) (k : ∀ (r : Int32) (S1 : CS) (H : Heap) (locs : List Loc), GC D a d A s.heap S1 H locs → Q1 r S1 → W p l e R s m args below meth c H locs cells slots Q (F0 m (pc + 3) ls (.int r :: rest))) : W p l e R s m args below meth c H locs cells slots Q (F0 m pc ls (.int v3 :: .int v2 :: .int v1 :: .ref y0 :: rest)) := by
  obtain ⟨hx, hb, hr, hml, hown, hts, hlocks, hA, hK, hN⟩ := id F
  obtain rfl | rfl | rfl | rfl | rfl | rfl : κ = 0 ∨ κ = 1 ∨ κ = 2 ∨ κ = 3 ∨ κ = 4 ∨ κ = 5 := by omega
  · exact c_defS0 (x := ⟨"StrokesHeard$Ringer", "at", "(III)I"⟩) F hsz (hN.2.2.1 _ (List.mem_of_getElem? (i := 11) rfl)) (hN.2.2.1 _ (List.mem_of_getElem? (i := 7) rfl)) q588 (by decide) (by decide) q711 q712 dX16_at_0 dX16_at_1 (hN.2.2.2.1 _ (List.mem_of_getElem? (i := 4) rfl)) (p_recv_X6 F G hy) (by decide +kernel) hR hW hd (k 0 S H locs G h)
  · exact c_defS0 (x := ⟨"StrokesHeard$Ringer", "at", "(III)I"⟩) F hsz (hN.2.2.1 _ (List.mem_of_getElem? (i := 11) rfl)) (hN.2.2.1 _ (List.mem_of_getElem? (i := 7) rfl)) q588 (by decide) (by decide) q711 q712 dX16_at_0 dX16_at_1 (hN.2.2.2.1 _ (List.mem_of_getElem? (i := 4) rfl)) (p_recv_X7 F G hy) (by decide +kernel) hR hW hd (k 0 S H locs G h)
  · exact c_defS0 (x := ⟨"StrokesHeard$Ringer", "at", "(III)I"⟩) F hsz (hN.2.2.1 _ (List.mem_of_getElem? (i := 11) rfl)) (hN.2.2.1 _ (List.mem_of_getElem? (i := 7) rfl)) q588 (by decide) (by decide) q711 q712 dX16_at_0 dX16_at_1 (hN.2.2.2.1 _ (List.mem_of_getElem? (i := 4) rfl)) (p_recv_X8 F G hy) (by decide +kernel) hR hW hd (k 0 S H locs G h)
  · exact c_defS0 (x := ⟨"StrokesHeard$Ringer", "at", "(III)I"⟩) F hsz (hN.2.2.1 _ (List.mem_of_getElem? (i := 11) rfl)) (hN.2.2.1 _ (List.mem_of_getElem? (i := 7) rfl)) q588 (by decide) (by decide) q711 q712 dX16_at_0 dX16_at_1 (hN.2.2.2.1 _ (List.mem_of_getElem? (i := 4) rfl)) (p_recv_X9 F G hy) (by decide +kernel) hR hW hd (k 0 S H locs G h)
  · exact c_defS0 (x := ⟨"StrokesHeard$Ringer", "at", "(III)I"⟩) F hsz (hN.2.2.1 _ (List.mem_of_getElem? (i := 11) rfl)) (hN.2.2.1 _ (List.mem_of_getElem? (i := 7) rfl)) q588 (by decide) (by decide) q711 q712 dX16_at_0 dX16_at_1 (hN.2.2.2.1 _ (List.mem_of_getElem? (i := 4) rfl)) (p_recv_X10 F G hy) (by decide +kernel) hR hW hd (k 0 S H locs G h)
  · exact c_defS0 (x := ⟨"StrokesHeard$Ringer", "at", "(III)I"⟩) F hsz (hN.2.2.1 _ (List.mem_of_getElem? (i := 11) rfl)) (hN.2.2.1 _ (List.mem_of_getElem? (i := 7) rfl)) q588 (by decide) (by decide) q711 q712 dX16_at_0 dX16_at_1 (hN.2.2.2.1 _ (List.mem_of_getElem? (i := 4) rfl)) (p_recv_X11 F G hy) (by decide +kernel) hR hW hd (k 0 S H locs G h)
/-! StrokesHeard$Strikes.atHour -/
def C15_atHour (y0 : Nat) (v1 : Int32) (S : CS) (Q : Int32 → CS → Prop) : Prop := Q v1 S
abbrev rmX15_atHour : Room := { frames := 0, cells := 0, slots := 0, locals := 0 }
set_option maxHeartbeats 4000000 in
set_option maxRecDepth 100000 in
theorem wC15_atHour {l : Launch} {D : va_G} {a : Nat → Nat} {d : Nat → ClassId} (sz : Nat) (y0 : Nat) (v1 : Int32) (S : CS) (Q : Int32 → CS → Prop) (h : C15_atHour y0 v1 S Q) : CMi l D a d yX15_atHour cX15_atHour 2 .int rmX15_atHour 0 0 [.ref y0, .int v1] sz S Q := by
  refine c_enter (Qc := fun A => va_Qi Q (BC D a d A) A) RX15 (by decide +kernel) rfl (Nat.le_of_ble_eq_true rfl) ?_
  intro p e s m below meth c ls A hmn F hG hl
  have G := hG
  have hl : lv_has ls 2 [(0, .ref y0), (1, .int v1)] := hl
  obtain ⟨hx, hb, hr, hml, hown, hts, hlocks, hA, hK, hN⟩ := id F
  unfold C15_atHour at h
  refine lv_iload_n hx hb dX15_atHour_0 rfl (lv_at hl 1 rfl) ?_
  exact c_iret F G dX15_atHour_1 h
set_option maxHeartbeats 4000000 in
set_option maxRecDepth 100000 in
theorem ksX9_atHour {p : Program} {l : Launch} {e : Env} {s : State} {m : MethodId} {R : Room} {args : Array Value} {below : List Frame} {meth : Method} {c : Code} {D : va_G} {a : Nat → Nat} {d : Nat → ClassId} {A : Nat → Prop} {Q : State → Prop} {cc : ByteArray} {nL pc cells slots κ : Nat} {fs0 : List Value} {ret : Option FieldType} {ls : Array Slot} {rest : List Value} {y0 : Nat} {v1 : Int32} {S : CS} {H : Heap} {locs : List Loc} {Q1 : Int32 → CS → Prop} (F : FC p s m meth c args D a d A RX9 cc nL ret) (G : GC D a d A s.heap S H locs) (hκ : κ < 6) (hy : has S y0 (.inr (6 + κ, fs0))) (hsz : ls.size = nL) (hR : 0 + 1 ≤ R.frames ∧ 21 ≤ R.locals) (hc : cells + 0 ≤ R.cells ∧ slots + 0 ≤ R.slots) (hW : (rest.map fun v => v.category).sum ≤ 8) (hd : decode cc pc = .ok (.invokespecial 11, 3)) (h : C15_atHour y0 v1 S Q1) (k : ∀ (r : Int32) (S1 : CS) (H : Heap) (locs : List Loc), GC D a d A s.heap S1 H locs → Q1 r S1 → W p l e R s m args below meth c H locs cells slots Q (F0 m (pc + 3) ls (.int r :: rest))) : W p l e R s m args below meth c H locs cells slots Q (F0 m pc ls (.int v1 :: .ref y0 :: rest)) := by
  obtain ⟨hx, hb, hr, hml, hown, hts, hlocks, hA, hK, hN⟩ := id F
  obtain rfl | rfl | rfl | rfl | rfl | rfl : κ = 0 ∨ κ = 1 ∨ κ = 2 ∨ κ = 3 ∨ κ = 4 ∨ κ = 5 := by omega
  · exact c_defS1 (x := ⟨"StrokesHeard$Quarters", "atHour", "(I)I"⟩) F hsz (hN.2.2.1 _ (List.mem_of_getElem? (i := 4) rfl)) (hN.2.2.1 _ (List.mem_of_getElem? (i := 5) rfl)) q597 (by decide) (by decide) q700 q701 dX15_atHour_0 dX15_atHour_1 (hN.2.2.2.1 _ (List.mem_of_getElem? (i := 1) rfl)) (p_recv_X6 F G hy) (by decide +kernel) hR hW hd (k v1 S H locs G h)
  · exact c_defS1 (x := ⟨"StrokesHeard$Quarters", "atHour", "(I)I"⟩) F hsz (hN.2.2.1 _ (List.mem_of_getElem? (i := 4) rfl)) (hN.2.2.1 _ (List.mem_of_getElem? (i := 5) rfl)) q597 (by decide) (by decide) q700 q701 dX15_atHour_0 dX15_atHour_1 (hN.2.2.2.1 _ (List.mem_of_getElem? (i := 1) rfl)) (p_recv_X7 F G hy) (by decide +kernel) hR hW hd (k v1 S H locs G h)
  · exact c_defS1 (x := ⟨"StrokesHeard$Quarters", "atHour", "(I)I"⟩) F hsz (hN.2.2.1 _ (List.mem_of_getElem? (i := 4) rfl)) (hN.2.2.1 _ (List.mem_of_getElem? (i := 5) rfl)) q597 (by decide) (by decide) q700 q701 dX15_atHour_0 dX15_atHour_1 (hN.2.2.2.1 _ (List.mem_of_getElem? (i := 1) rfl)) (p_recv_X8 F G hy) (by decide +kernel) hR hW hd (k v1 S H locs G h)
  · exact c_defS1 (x := ⟨"StrokesHeard$Quarters", "atHour", "(I)I"⟩) F hsz (hN.2.2.1 _ (List.mem_of_getElem? (i := 4) rfl)) (hN.2.2.1 _ (List.mem_of_getElem? (i := 5) rfl)) q597 (by decide) (by decide) q700 q701 dX15_atHour_0 dX15_atHour_1 (hN.2.2.2.1 _ (List.mem_of_getElem? (i := 1) rfl)) (p_recv_X9 F G hy) (by decide +kernel) hR hW hd (k v1 S H locs G h)
  · exact c_defS1 (x := ⟨"StrokesHeard$Quarters", "atHour", "(I)I"⟩) F hsz (hN.2.2.1 _ (List.mem_of_getElem? (i := 4) rfl)) (hN.2.2.1 _ (List.mem_of_getElem? (i := 5) rfl)) q597 (by decide) (by decide) q700 q701 dX15_atHour_0 dX15_atHour_1 (hN.2.2.2.1 _ (List.mem_of_getElem? (i := 1) rfl)) (p_recv_X10 F G hy) (by decide +kernel) hR hW hd (k v1 S H locs G h)
  · exact c_defS1 (x := ⟨"StrokesHeard$Quarters", "atHour", "(I)I"⟩) F hsz (hN.2.2.1 _ (List.mem_of_getElem? (i := 4) rfl)) (hN.2.2.1 _ (List.mem_of_getElem? (i := 5) rfl)) q597 (by decide) (by decide) q700 q701 dX15_atHour_0 dX15_atHour_1 (hN.2.2.2.1 _ (List.mem_of_getElem? (i := 1) rfl)) (p_recv_X11 F G hy) (by decide +kernel) hR hW hd (k v1 S H locs G h)
/-! StrokesHeard$Tune.atHour -/
def C9_atHour (y0 : Nat) (v1 : Int32) (S : CS) (Q : Int32 → CS → Prop) : Prop := ∃ (κ_3 : Nat) (fs_4 : List Value), κ_3 < 6 ∧ has S y0 (.inr (6 + κ_3, fs_4)) ∧ C15_atHour y0 v1 S (fun r_1 S_2 => Q (r_1 + 4) S_2)
abbrev rmX9_atHour : Room := { frames := 1, cells := 0, slots := 0, locals := 21 }
set_option maxHeartbeats 4000000 in
set_option maxRecDepth 100000 in
theorem wC9_atHour {l : Launch} {D : va_G} {a : Nat → Nat} {d : Nat → ClassId} (sz : Nat) (y0 : Nat) (v1 : Int32) (S : CS) (Q : Int32 → CS → Prop) (h : C9_atHour y0 v1 S Q) : CMi l D a d yX9_atHour cX9_atHour 2 .int rmX9_atHour 0 0 [.ref y0, .int v1] sz S Q := by
  refine c_enter (Qc := fun A => va_Qi Q (BC D a d A) A) RX9 (by decide +kernel) rfl (Nat.le_of_ble_eq_true rfl) ?_
  intro p e s m below meth c ls A hmn F hG hl
  have G := hG
  have hl : lv_has ls 2 [(0, .ref y0), (1, .int v1)] := hl
  obtain ⟨hx, hb, hr, hml, hown, hts, hlocks, hA, hK, hN⟩ := id F
  unfold C9_atHour at h
  refine lv_aload_n hx hb dX9_atHour_0 rfl (lv_at hl 0 rfl) ?_
  refine lv_iload_n hx hb dX9_atHour_1 rfl (lv_at hl 1 rfl) ?_
  obtain ⟨κ_3, fs_4, q_5, z_6, h⟩ := h
  refine ksX9_atHour F G q_5 z_6 hl.1 ⟨(Nat.le_of_ble_eq_true rfl), (Nat.le_of_ble_eq_true rfl)⟩ ⟨(Nat.le_of_ble_eq_true rfl), (Nat.le_of_ble_eq_true rfl)⟩ (Nat.le_of_ble_eq_true rfl) dX9_atHour_2 h (fun r_1 S_2 H locs G h => ?_)
  refine lv_iconst (v := 4) hx hb dX9_atHour_5 (by decide) ?_
  refine lv_iadd hx hb dX9_atHour_6 ?_
  exact c_iret F G dX9_atHour_7 h
set_option maxHeartbeats 4000000 in
set_option maxRecDepth 100000 in
theorem ksX10_atHour {p : Program} {l : Launch} {e : Env} {s : State} {m : MethodId} {R : Room} {args : Array Value} {below : List Frame} {meth : Method} {c : Code} {D : va_G} {a : Nat → Nat} {d : Nat → ClassId} {A : Nat → Prop} {Q : State → Prop} {cc : ByteArray} {nL pc cells slots κ : Nat} {fs0 : List Value} {ret : Option FieldType} {ls : Array Slot} {rest : List Value} {y0 : Nat} {v1 : Int32} {S : CS} {H : Heap} {locs : List Loc} {Q1 : Int32 → CS → Prop} (F : FC p s m meth c args D a d A RX10 cc nL ret) (G : GC D a d A s.heap S H locs) (hκ : κ < 6) (hy : has S y0 (.inr (6 + κ, fs0))) (hsz : ls.size = nL) (hR : 0 + 1 ≤ R.frames ∧ 21 ≤ R.locals) (hc : cells + 0 ≤ R.cells ∧ slots + 0 ≤ R.slots) (hW : (rest.map fun v => v.category).sum ≤ 8) (hd : decode cc pc = .ok (.invokespecial 11, 3)) (h : C15_atHour y0 v1 S Q1) (k : ∀ (r : Int32) (S1 : CS) (H : Heap) (locs : List Loc), GC D a d A s.heap S1 H locs → Q1 r S1 → W p l e R s m args below meth c H locs cells slots Q (F0 m (pc + 3) ls (.int r :: rest))) : W p l e R s m args below meth c H locs cells slots Q (F0 m pc ls (.int v1 :: .ref y0 :: rest)) := by
  obtain ⟨hx, hb, hr, hml, hown, hts, hlocks, hA, hK, hN⟩ := id F
  obtain rfl | rfl | rfl | rfl | rfl | rfl : κ = 0 ∨ κ = 1 ∨ κ = 2 ∨ κ = 3 ∨ κ = 4 ∨ κ = 5 := by omega
  · exact c_defS1 (x := ⟨"StrokesHeard$Twice", "atHour", "(I)I"⟩) F hsz (hN.2.2.1 _ (List.mem_of_getElem? (i := 2) rfl)) (hN.2.2.1 _ (List.mem_of_getElem? (i := 3) rfl)) q606 (by decide) (by decide) q700 q701 dX15_atHour_0 dX15_atHour_1 (hN.2.2.2.1 _ (List.mem_of_getElem? (i := 3) rfl)) (p_recv_X6 F G hy) (by decide +kernel) hR hW hd (k v1 S H locs G h)
  · exact c_defS1 (x := ⟨"StrokesHeard$Twice", "atHour", "(I)I"⟩) F hsz (hN.2.2.1 _ (List.mem_of_getElem? (i := 2) rfl)) (hN.2.2.1 _ (List.mem_of_getElem? (i := 3) rfl)) q606 (by decide) (by decide) q700 q701 dX15_atHour_0 dX15_atHour_1 (hN.2.2.2.1 _ (List.mem_of_getElem? (i := 3) rfl)) (p_recv_X7 F G hy) (by decide +kernel) hR hW hd (k v1 S H locs G h)
  · exact c_defS1 (x := ⟨"StrokesHeard$Twice", "atHour", "(I)I"⟩) F hsz (hN.2.2.1 _ (List.mem_of_getElem? (i := 2) rfl)) (hN.2.2.1 _ (List.mem_of_getElem? (i := 3) rfl)) q606 (by decide) (by decide) q700 q701 dX15_atHour_0 dX15_atHour_1 (hN.2.2.2.1 _ (List.mem_of_getElem? (i := 3) rfl)) (p_recv_X8 F G hy) (by decide +kernel) hR hW hd (k v1 S H locs G h)
  · exact c_defS1 (x := ⟨"StrokesHeard$Twice", "atHour", "(I)I"⟩) F hsz (hN.2.2.1 _ (List.mem_of_getElem? (i := 2) rfl)) (hN.2.2.1 _ (List.mem_of_getElem? (i := 3) rfl)) q606 (by decide) (by decide) q700 q701 dX15_atHour_0 dX15_atHour_1 (hN.2.2.2.1 _ (List.mem_of_getElem? (i := 3) rfl)) (p_recv_X9 F G hy) (by decide +kernel) hR hW hd (k v1 S H locs G h)
  · exact c_defS1 (x := ⟨"StrokesHeard$Twice", "atHour", "(I)I"⟩) F hsz (hN.2.2.1 _ (List.mem_of_getElem? (i := 2) rfl)) (hN.2.2.1 _ (List.mem_of_getElem? (i := 3) rfl)) q606 (by decide) (by decide) q700 q701 dX15_atHour_0 dX15_atHour_1 (hN.2.2.2.1 _ (List.mem_of_getElem? (i := 3) rfl)) (p_recv_X10 F G hy) (by decide +kernel) hR hW hd (k v1 S H locs G h)
  · exact c_defS1 (x := ⟨"StrokesHeard$Twice", "atHour", "(I)I"⟩) F hsz (hN.2.2.1 _ (List.mem_of_getElem? (i := 2) rfl)) (hN.2.2.1 _ (List.mem_of_getElem? (i := 3) rfl)) q606 (by decide) (by decide) q700 q701 dX15_atHour_0 dX15_atHour_1 (hN.2.2.2.1 _ (List.mem_of_getElem? (i := 3) rfl)) (p_recv_X11 F G hy) (by decide +kernel) hR hW hd (k v1 S H locs G h)
/-! StrokesHeard$Sign.atHour -/
def C10_atHour (y0 : Nat) (v1 : Int32) (S : CS) (Q : Int32 → CS → Prop) : Prop := ∃ (κ_3 : Nat) (fs_4 : List Value), κ_3 < 6 ∧ has S y0 (.inr (6 + κ_3, fs_4)) ∧ C15_atHour y0 v1 S (fun r_1 S_2 => ∃ (κ_9 : Nat) (fs_10 : List Value), κ_9 < 6 ∧ has S_2 y0 (.inr (6 + κ_9, fs_10)) ∧ C15_atHour y0 v1 S_2 (fun r_7 S_8 => Q ((r_1 / 5) + (r_7 - r_7 / 5 * 5)) S_8))
abbrev rmX10_atHour : Room := { frames := 1, cells := 0, slots := 0, locals := 21 }
set_option maxHeartbeats 4000000 in
set_option maxRecDepth 100000 in
theorem wC10_atHour {l : Launch} {D : va_G} {a : Nat → Nat} {d : Nat → ClassId} (sz : Nat) (y0 : Nat) (v1 : Int32) (S : CS) (Q : Int32 → CS → Prop) (h : C10_atHour y0 v1 S Q) : CMi l D a d yX10_atHour cX10_atHour 2 .int rmX10_atHour 0 0 [.ref y0, .int v1] sz S Q := by
  refine c_enter (Qc := fun A => va_Qi Q (BC D a d A) A) RX10 (by decide +kernel) rfl (Nat.le_of_ble_eq_true rfl) ?_
  intro p e s m below meth c ls A hmn F hG hl
  have G := hG
  have hl : lv_has ls 2 [(0, .ref y0), (1, .int v1)] := hl
  obtain ⟨hx, hb, hr, hml, hown, hts, hlocks, hA, hK, hN⟩ := id F
  unfold C10_atHour at h
  refine lv_aload_n hx hb dX10_atHour_0 rfl (lv_at hl 0 rfl) ?_
  refine lv_iload_n hx hb dX10_atHour_1 rfl (lv_at hl 1 rfl) ?_
  obtain ⟨κ_3, fs_4, q_5, z_6, h⟩ := h
  refine ksX10_atHour F G q_5 z_6 hl.1 ⟨(Nat.le_of_ble_eq_true rfl), (Nat.le_of_ble_eq_true rfl)⟩ ⟨(Nat.le_of_ble_eq_true rfl), (Nat.le_of_ble_eq_true rfl)⟩ (Nat.le_of_ble_eq_true rfl) dX10_atHour_2 h (fun r_1 S_2 H locs G h => ?_)
  refine lv_iconst (v := 5) hx hb dX10_atHour_5 (by decide) ?_
  refine lv_idiv hx hb dX10_atHour_6 (by decide) ?_
  refine lv_aload_n hx hb dX10_atHour_7 rfl (lv_at hl 0 rfl) ?_
  refine lv_iload_n hx hb dX10_atHour_8 rfl (lv_at hl 1 rfl) ?_
  obtain ⟨κ_9, fs_10, q_11, z_12, h⟩ := h
  refine ksX10_atHour F G q_11 z_12 hl.1 ⟨(Nat.le_of_ble_eq_true rfl), (Nat.le_of_ble_eq_true rfl)⟩ ⟨(Nat.le_of_ble_eq_true rfl), (Nat.le_of_ble_eq_true rfl)⟩ (Nat.le_of_ble_eq_true rfl) dX10_atHour_9 h (fun r_7 S_8 H locs G h => ?_)
  refine lv_iconst (v := 5) hx hb dX10_atHour_12 (by decide) ?_
  refine lv_irem hx hb dX10_atHour_13 (by decide) ?_
  refine lv_iadd hx hb dX10_atHour_14 ?_
  exact c_iret F G dX10_atHour_15 h
def CV_atHour (κ : Nat) (y0 : Nat) (v1 : Int32) (S : CS) (Q : Int32 → CS → Prop) : Prop := match κ with
  | 0 => C15_atHour y0 v1 S Q
  | 1 => C15_atHour y0 v1 S Q
  | 2 => C15_atHour y0 v1 S Q
  | 3 => C9_atHour y0 v1 S Q
  | 4 => C10_atHour y0 v1 S Q
  | _ => C15_atHour y0 v1 S Q
set_option maxHeartbeats 4000000 in
set_option maxRecDepth 100000 in
theorem kdX8_atHour {p : Program} {l : Launch} {e : Env} {s : State} {m : MethodId} {R : Room} {args : Array Value} {below : List Frame} {meth : Method} {c : Code} {D : va_G} {a : Nat → Nat} {d : Nat → ClassId} {A : Nat → Prop} {Q : State → Prop} {cc : ByteArray} {nL pc cells slots κ : Nat} {fs0 : List Value} {ret : Option FieldType} {ls : Array Slot} {rest : List Value} {y0 : Nat} {v1 : Int32} {S : CS} {H : Heap} {locs : List Loc} {Q1 : Int32 → CS → Prop} (F : FC p s m meth c args D a d A RX8 cc nL ret) (G : GC D a d A s.heap S H locs) (hκ : κ = 2 ∨ κ = 4) (hy : has S y0 (.inr (6 + κ, fs0))) (hsz : ls.size = nL) (hR : 1 + 1 ≤ R.frames ∧ 42 ≤ R.locals) (hc : cells + 0 ≤ R.cells ∧ slots + 0 ≤ R.slots) (hW : (rest.map fun v => v.category).sum ≤ 8) (hd : decode cc pc = .ok (.invokevirtual 9, 3)) (h : CV_atHour κ y0 v1 S Q1) (k : ∀ (r : Int32) (S1 : CS) (H : Heap) (locs : List Loc), GC D a d A s.heap S1 H locs → Q1 r S1 → W p l e R s m args below meth c H locs cells slots Q (F0 m (pc + 3) ls (.int r :: rest))) : W p l e R s m args below meth c H locs cells slots Q (F0 m pc ls (.int v1 :: .ref y0 :: rest)) := by
  obtain ⟨hx, hb, hr, hml, hown, hts, hlocks, hA, hK, hN⟩ := id F
  obtain rfl | rfl : κ = 2 ∨ κ = 4 := by omega
  · exact c_defV1 (x := ⟨"StrokesHeard$Twice", "atHour", "(I)I"⟩) F hsz (hN.2.2.1 _ (List.mem_of_getElem? (i := 10) rfl)) (hN.2.2.1 _ (List.mem_of_getElem? (i := 3) rfl)) (by decide) (by decide) q700 q701 dX15_atHour_0 dX15_atHour_1 (hN.2.2.2.1 _ (List.mem_of_getElem? (i := 3) rfl)) (p_recv_X8 F G hy) (by decide +kernel) ⟨Nat.le_trans (Nat.le_of_ble_eq_true rfl) hR.1, Nat.le_trans (Nat.le_of_ble_eq_true rfl) hR.2⟩ hW hd (k v1 S H locs G h)
  · exact c_calli F G (c_runVS (x := ⟨"StrokesHeard$Twice", "atHour", "(I)I"⟩) (n := 1) (As := [.int v1]) (rest := rest) (C := RX10) F (wC10_atHour H.size y0 v1 S Q1 h) (hN.2.2.1 _ (List.mem_of_getElem? (i := 10) rfl)) (hN.2.2.1 _ (List.mem_of_getElem? (i := 3) rfl)) q700 q701 q697 q698 q95 q699 (by decide) rfl rfl (by decide +kernel) ⟨Nat.le_trans (Nat.le_of_ble_eq_true rfl) hR.1, Nat.le_trans (Nat.le_of_ble_eq_true rfl) hR.2⟩ ⟨PC_blind, p_recv_X10 F G hy, c_pre F G⟩ rfl rfl hsz rfl (lv_room hW) hd hc) k
/-! StrokesHeard$Twice.at -/
def C8_at (y0 : Nat) (v1 : Int32) (v2 : Int32) (v3 : Int32) (S : CS) (Q : Int32 → CS → Prop) : Prop := (¬ v1 = v3 → ∃ (κ_4 : Nat) (fs_5 : List Value), κ_4 < 6 ∧ has S y0 (.inr (6 + κ_4, fs_5)) ∧ C16_at y0 v1 v2 v3 S (fun r_2 S_3 => Q r_2 S_3)) ∧ (v1 = v3 → ∃ (κ_10 : Nat) (fs_11 : List Value), (κ_10 = 2 ∨ κ_10 = 4) ∧ has S y0 (.inr (6 + κ_10, fs_11)) ∧ CV_atHour κ_10 y0 v2 S (fun r_8 S_9 => Q r_8 S_9))
abbrev rmX8_at : Room := { frames := 2, cells := 0, slots := 0, locals := 42 }
set_option maxHeartbeats 4000000 in
set_option maxRecDepth 100000 in
theorem wC8_at {l : Launch} {D : va_G} {a : Nat → Nat} {d : Nat → ClassId} (sz : Nat) (y0 : Nat) (v1 : Int32) (v2 : Int32) (v3 : Int32) (S : CS) (Q : Int32 → CS → Prop) (h : C8_at y0 v1 v2 v3 S Q) : CMi l D a d yX8_at cX8_at 4 .int rmX8_at 0 0 [.ref y0, .int v1, .int v2, .int v3] sz S Q := by
  refine c_enter (Qc := fun A => va_Qi Q (BC D a d A) A) RX8 (by decide +kernel) rfl (Nat.le_of_ble_eq_true rfl) ?_
  intro p e s m below meth c ls A hmn F hG hl
  have G := hG
  have hl : lv_has ls 4 [(0, .ref y0), (1, .int v1), (2, .int v2), (3, .int v3)] := hl
  obtain ⟨hx, hb, hr, hml, hown, hts, hlocks, hA, hK, hN⟩ := id F
  unfold C8_at at h
  refine lv_iload_n hx hb dX8_at_0 rfl (lv_at hl 1 rfl) ?_
  refine lv_iload_n hx hb dX8_at_1 rfl (lv_at hl 3 rfl) ?_
  refine lv_icmp_ne (tgt := 13) hx hb dX8_at_2 (by decide) (fun c_1 => ?_) (fun c_1 => ?_)
  · replace h := h.1 c_1
    refine lv_aload_n hx hb dX8_at_13 rfl (lv_at hl 0 rfl) ?_
    refine lv_iload_n hx hb dX8_at_14 rfl (lv_at hl 1 rfl) ?_
    refine lv_iload_n hx hb dX8_at_15 rfl (lv_at hl 2 rfl) ?_
    refine lv_iload_n hx hb dX8_at_16 rfl (lv_at hl 3 rfl) ?_
    obtain ⟨κ_4, fs_5, q_6, z_7, h⟩ := h
    refine ksX8_at F G q_6 z_7 hl.1 ⟨(Nat.le_of_ble_eq_true rfl), (Nat.le_of_ble_eq_true rfl)⟩ ⟨(Nat.le_of_ble_eq_true rfl), (Nat.le_of_ble_eq_true rfl)⟩ (Nat.le_of_ble_eq_true rfl) dX8_at_17 h (fun r_2 S_3 H locs G h => ?_)
    exact c_iret F G dX8_at_20 h
  · replace h := h.2 c_1
    refine lv_aload_n hx hb dX8_at_5 rfl (lv_at hl 0 rfl) ?_
    refine lv_iload_n hx hb dX8_at_6 rfl (lv_at hl 2 rfl) ?_
    obtain ⟨κ_10, fs_11, q_12, z_13, h⟩ := h
    refine kdX8_atHour F G q_12 z_13 hl.1 ⟨(Nat.le_of_ble_eq_true rfl), (Nat.le_of_ble_eq_true rfl)⟩ ⟨(Nat.le_of_ble_eq_true rfl), (Nat.le_of_ble_eq_true rfl)⟩ (Nat.le_of_ble_eq_true rfl) dX8_at_7 h (fun r_8 S_9 H locs G h => ?_)
    refine lv_goto (tgt := 20) hx hb dX8_at_10 (by decide) ?_
    exact c_iret F G dX8_at_20 h
set_option maxHeartbeats 4000000 in
set_option maxRecDepth 100000 in
theorem ksX11_at {p : Program} {l : Launch} {e : Env} {s : State} {m : MethodId} {R : Room} {args : Array Value} {below : List Frame} {meth : Method} {c : Code} {D : va_G} {a : Nat → Nat} {d : Nat → ClassId} {A : Nat → Prop} {Q : State → Prop} {cc : ByteArray} {nL pc cells slots κ : Nat} {fs0 : List Value} {ret : Option FieldType} {ls : Array Slot} {rest : List Value} {y0 : Nat} {v1 : Int32} {v2 : Int32} {v3 : Int32} {S : CS} {H : Heap} {locs : List Loc} {Q1 : Int32 → CS → Prop} (F : FC p s m meth c args D a d A RX11 cc nL ret) (G : GC D a d A s.heap S H locs) (hκ : κ < 6) (hy : has S y0 (.inr (6 + κ, fs0))) (hsz : ls.size = nL) (hR : 0 + 1 ≤ R.frames ∧ 23 ≤ R.locals) (hc : cells + 0 ≤ R.cells ∧ slots + 0 ≤ R.slots) (hW : (rest.map fun v => v.category).sum ≤ 8) (hd : decode cc pc = .ok (.invokespecial 9, 3)) (h : C16_at y0 v1 v2 v3 S Q1) (k : ∀ (r : Int32) (S1 : CS) (H : Heap) (locs : List Loc), GC D a d A s.heap S1 H locs → Q1 r S1 → W p l e R s m args below meth c H locs cells slots Q (F0 m (pc + 3) ls (.int r :: rest))) : W p l e R s m args below meth c H locs cells slots Q (F0 m pc ls (.int v3 :: .int v2 :: .int v1 :: .ref y0 :: rest)) := by
  obtain ⟨hx, hb, hr, hml, hown, hts, hlocks, hA, hK, hN⟩ := id F
  obtain rfl | rfl | rfl | rfl | rfl | rfl : κ = 0 ∨ κ = 1 ∨ κ = 2 ∨ κ = 3 ∨ κ = 4 ∨ κ = 5 := by omega
  · exact c_defS0 (x := ⟨"StrokesHeard$Ringer", "at", "(III)I"⟩) F hsz (hN.2.2.1 _ (List.mem_of_getElem? (i := 8) rfl)) (hN.2.2.1 _ (List.mem_of_getElem? (i := 7) rfl)) q615 (by decide) (by decide) q711 q712 dX16_at_0 dX16_at_1 (hN.2.2.2.1 _ (List.mem_of_getElem? (i := 4) rfl)) (p_recv_X6 F G hy) (by decide +kernel) hR hW hd (k 0 S H locs G h)
  · exact c_defS0 (x := ⟨"StrokesHeard$Ringer", "at", "(III)I"⟩) F hsz (hN.2.2.1 _ (List.mem_of_getElem? (i := 8) rfl)) (hN.2.2.1 _ (List.mem_of_getElem? (i := 7) rfl)) q615 (by decide) (by decide) q711 q712 dX16_at_0 dX16_at_1 (hN.2.2.2.1 _ (List.mem_of_getElem? (i := 4) rfl)) (p_recv_X7 F G hy) (by decide +kernel) hR hW hd (k 0 S H locs G h)
  · exact c_defS0 (x := ⟨"StrokesHeard$Ringer", "at", "(III)I"⟩) F hsz (hN.2.2.1 _ (List.mem_of_getElem? (i := 8) rfl)) (hN.2.2.1 _ (List.mem_of_getElem? (i := 7) rfl)) q615 (by decide) (by decide) q711 q712 dX16_at_0 dX16_at_1 (hN.2.2.2.1 _ (List.mem_of_getElem? (i := 4) rfl)) (p_recv_X8 F G hy) (by decide +kernel) hR hW hd (k 0 S H locs G h)
  · exact c_defS0 (x := ⟨"StrokesHeard$Ringer", "at", "(III)I"⟩) F hsz (hN.2.2.1 _ (List.mem_of_getElem? (i := 8) rfl)) (hN.2.2.1 _ (List.mem_of_getElem? (i := 7) rfl)) q615 (by decide) (by decide) q711 q712 dX16_at_0 dX16_at_1 (hN.2.2.2.1 _ (List.mem_of_getElem? (i := 4) rfl)) (p_recv_X9 F G hy) (by decide +kernel) hR hW hd (k 0 S H locs G h)
  · exact c_defS0 (x := ⟨"StrokesHeard$Ringer", "at", "(III)I"⟩) F hsz (hN.2.2.1 _ (List.mem_of_getElem? (i := 8) rfl)) (hN.2.2.1 _ (List.mem_of_getElem? (i := 7) rfl)) q615 (by decide) (by decide) q711 q712 dX16_at_0 dX16_at_1 (hN.2.2.2.1 _ (List.mem_of_getElem? (i := 4) rfl)) (p_recv_X10 F G hy) (by decide +kernel) hR hW hd (k 0 S H locs G h)
  · exact c_defS0 (x := ⟨"StrokesHeard$Ringer", "at", "(III)I"⟩) F hsz (hN.2.2.1 _ (List.mem_of_getElem? (i := 8) rfl)) (hN.2.2.1 _ (List.mem_of_getElem? (i := 7) rfl)) q615 (by decide) (by decide) q711 q712 dX16_at_0 dX16_at_1 (hN.2.2.2.1 _ (List.mem_of_getElem? (i := 4) rfl)) (p_recv_X11 F G hy) (by decide +kernel) hR hW hd (k 0 S H locs G h)
/-! StrokesHeard$Cuckoo.at -/
def C11_at (y0 : Nat) (v1 : Int32) (v2 : Int32) (v3 : Int32) (S : CS) (Q : Int32 → CS → Prop) : Prop := (¬ v1 = 30 → ∃ (κ_4 : Nat) (fs_5 : List Value), κ_4 < 6 ∧ has S y0 (.inr (6 + κ_4, fs_5)) ∧ C16_at y0 v1 v2 v3 S (fun r_2 S_3 => Q r_2 S_3)) ∧ (v1 = 30 → Q 1 S)
abbrev rmX11_at : Room := { frames := 1, cells := 0, slots := 0, locals := 23 }
set_option maxHeartbeats 4000000 in
set_option maxRecDepth 100000 in
theorem wC11_at {l : Launch} {D : va_G} {a : Nat → Nat} {d : Nat → ClassId} (sz : Nat) (y0 : Nat) (v1 : Int32) (v2 : Int32) (v3 : Int32) (S : CS) (Q : Int32 → CS → Prop) (h : C11_at y0 v1 v2 v3 S Q) : CMi l D a d yX11_at cX11_at 4 .int rmX11_at 0 0 [.ref y0, .int v1, .int v2, .int v3] sz S Q := by
  refine c_enter (Qc := fun A => va_Qi Q (BC D a d A) A) RX11 (by decide +kernel) rfl (Nat.le_of_ble_eq_true rfl) ?_
  intro p e s m below meth c ls A hmn F hG hl
  have G := hG
  have hl : lv_has ls 4 [(0, .ref y0), (1, .int v1), (2, .int v2), (3, .int v3)] := hl
  obtain ⟨hx, hb, hr, hml, hown, hts, hlocks, hA, hK, hN⟩ := id F
  unfold C11_at at h
  refine lv_iload_n hx hb dX11_at_0 rfl (lv_at hl 1 rfl) ?_
  refine lv_bipush (v := 30) hx hb dX11_at_1 (by decide) ?_
  refine lv_icmp_ne (tgt := 10) hx hb dX11_at_3 (by decide) (fun c_1 => ?_) (fun c_1 => ?_)
  · replace h := h.1 c_1
    refine lv_aload_n hx hb dX11_at_10 rfl (lv_at hl 0 rfl) ?_
    refine lv_iload_n hx hb dX11_at_11 rfl (lv_at hl 1 rfl) ?_
    refine lv_iload_n hx hb dX11_at_12 rfl (lv_at hl 2 rfl) ?_
    refine lv_iload_n hx hb dX11_at_13 rfl (lv_at hl 3 rfl) ?_
    obtain ⟨κ_4, fs_5, q_6, z_7, h⟩ := h
    refine ksX11_at F G q_6 z_7 hl.1 ⟨(Nat.le_of_ble_eq_true rfl), (Nat.le_of_ble_eq_true rfl)⟩ ⟨(Nat.le_of_ble_eq_true rfl), (Nat.le_of_ble_eq_true rfl)⟩ (Nat.le_of_ble_eq_true rfl) dX11_at_14 h (fun r_2 S_3 H locs G h => ?_)
    exact c_iret F G dX11_at_17 h
  · replace h := h.2 c_1
    refine lv_iconst (v := 1) hx hb dX11_at_6 (by decide) ?_
    refine lv_goto (tgt := 17) hx hb dX11_at_7 (by decide) ?_
    exact c_iret F G dX11_at_17 h
def CV_at (κ : Nat) (y0 : Nat) (v1 : Int32) (v2 : Int32) (v3 : Int32) (S : CS) (Q : Int32 → CS → Prop) : Prop := match κ with
  | 0 => C16_at y0 v1 v2 v3 S Q
  | 1 => C7_at y0 v1 v2 v3 S Q
  | 2 => C8_at y0 v1 v2 v3 S Q
  | 3 => C7_at y0 v1 v2 v3 S Q
  | 4 => C8_at y0 v1 v2 v3 S Q
  | _ => C11_at y0 v1 v2 v3 S Q
set_option maxHeartbeats 4000000 in
set_option maxRecDepth 100000 in
theorem kdX6_at {p : Program} {l : Launch} {e : Env} {s : State} {m : MethodId} {R : Room} {args : Array Value} {below : List Frame} {meth : Method} {c : Code} {D : va_G} {a : Nat → Nat} {d : Nat → ClassId} {A : Nat → Prop} {Q : State → Prop} {cc : ByteArray} {nL pc cells slots κ : Nat} {fs0 : List Value} {ret : Option FieldType} {ls : Array Slot} {rest : List Value} {y0 : Nat} {v1 : Int32} {v2 : Int32} {v3 : Int32} {S : CS} {H : Heap} {locs : List Loc} {Q1 : Int32 → CS → Prop} (F : FC p s m meth c args D a d A RX6 cc nL ret) (G : GC D a d A s.heap S H locs) (hκ : κ < 6) (hy : has S y0 (.inr (6 + κ, fs0))) (hsz : ls.size = nL) (hR : 2 + 1 ≤ R.frames ∧ 65 ≤ R.locals) (hc : cells + 0 ≤ R.cells ∧ slots + 0 ≤ R.slots) (hW : (rest.map fun v => v.category).sum ≤ 8) (hd : decode cc pc = .ok (.invokevirtual 15, 3)) (h : CV_at κ y0 v1 v2 v3 S Q1) (k : ∀ (r : Int32) (S1 : CS) (H : Heap) (locs : List Loc), GC D a d A s.heap S1 H locs → Q1 r S1 → W p l e R s m args below meth c H locs cells slots Q (F0 m (pc + 3) ls (.int r :: rest))) : W p l e R s m args below meth c H locs cells slots Q (F0 m pc ls (.int v3 :: .int v2 :: .int v1 :: .ref y0 :: rest)) := by
  obtain ⟨hx, hb, hr, hml, hown, hts, hlocks, hA, hK, hN⟩ := id F
  obtain rfl | rfl | rfl | rfl | rfl | rfl : κ = 0 ∨ κ = 1 ∨ κ = 2 ∨ κ = 3 ∨ κ = 4 ∨ κ = 5 := by omega
  · exact c_defV0 (x := ⟨"StrokesHeard$Ringer", "at", "(III)I"⟩) F hsz (hN.2.2.1 _ (List.mem_of_getElem? (i := 6) rfl)) (hN.2.2.1 _ (List.mem_of_getElem? (i := 7) rfl)) (by decide) (by decide) q711 q712 dX16_at_0 dX16_at_1 (hN.2.2.2.1 _ (List.mem_of_getElem? (i := 4) rfl)) (p_recv_X6 F G hy) (by decide +kernel) ⟨Nat.le_trans (Nat.le_of_ble_eq_true rfl) hR.1, Nat.le_trans (Nat.le_of_ble_eq_true rfl) hR.2⟩ hW hd (k 0 S H locs G h)
  · exact c_calli F G (c_runVS (x := ⟨"StrokesHeard$Ringer", "at", "(III)I"⟩) (n := 3) (As := [.int v1, .int v2, .int v3]) (rest := rest) (C := RX7) F (wC7_at H.size y0 v1 v2 v3 S Q1 h) (hN.2.2.1 _ (List.mem_of_getElem? (i := 6) rfl)) (hN.2.2.1 _ (List.mem_of_getElem? (i := 7) rfl)) q711 q712 q713 q714 q92 q715 (by decide) rfl rfl (by decide +kernel) ⟨Nat.le_trans (Nat.le_of_ble_eq_true rfl) hR.1, Nat.le_trans (Nat.le_of_ble_eq_true rfl) hR.2⟩ ⟨PC_blind, p_recv_X7 F G hy, c_pre F G⟩ rfl rfl hsz rfl (lv_room hW) hd hc) k
  · exact c_calli F G (c_runVS (x := ⟨"StrokesHeard$Ringer", "at", "(III)I"⟩) (n := 3) (As := [.int v1, .int v2, .int v3]) (rest := rest) (C := RX8) F (wC8_at H.size y0 v1 v2 v3 S Q1 h) (hN.2.2.1 _ (List.mem_of_getElem? (i := 6) rfl)) (hN.2.2.1 _ (List.mem_of_getElem? (i := 7) rfl)) q711 q712 q721 q718 q93 q719 (by decide) rfl rfl (by decide +kernel) ⟨Nat.le_trans (Nat.le_of_ble_eq_true rfl) hR.1, Nat.le_trans (Nat.le_of_ble_eq_true rfl) hR.2⟩ ⟨PC_blind, p_recv_X8 F G hy, c_pre F G⟩ rfl rfl hsz rfl (lv_room hW) hd hc) k
  · exact c_calli F G (c_runVS (x := ⟨"StrokesHeard$Ringer", "at", "(III)I"⟩) (n := 3) (As := [.int v1, .int v2, .int v3]) (rest := rest) (C := RX9) F (wC7_at H.size y0 v1 v2 v3 S Q1 h) (hN.2.2.1 _ (List.mem_of_getElem? (i := 6) rfl)) (hN.2.2.1 _ (List.mem_of_getElem? (i := 7) rfl)) q711 q712 q720 q714 q92 q715 (by decide) rfl rfl (by decide +kernel) ⟨Nat.le_trans (Nat.le_of_ble_eq_true rfl) hR.1, Nat.le_trans (Nat.le_of_ble_eq_true rfl) hR.2⟩ ⟨PC_blind, p_recv_X9 F G hy, c_pre F G⟩ rfl rfl hsz rfl (lv_room hW) hd hc) k
  · exact c_calli F G (c_runVS (x := ⟨"StrokesHeard$Ringer", "at", "(III)I"⟩) (n := 3) (As := [.int v1, .int v2, .int v3]) (rest := rest) (C := RX10) F (wC8_at H.size y0 v1 v2 v3 S Q1 h) (hN.2.2.1 _ (List.mem_of_getElem? (i := 6) rfl)) (hN.2.2.1 _ (List.mem_of_getElem? (i := 7) rfl)) q711 q712 q717 q718 q93 q719 (by decide) rfl rfl (by decide +kernel) ⟨Nat.le_trans (Nat.le_of_ble_eq_true rfl) hR.1, Nat.le_trans (Nat.le_of_ble_eq_true rfl) hR.2⟩ ⟨PC_blind, p_recv_X10 F G hy, c_pre F G⟩ rfl rfl hsz rfl (lv_room hW) hd hc) k
  · exact c_calli F G (c_runVS (x := ⟨"StrokesHeard$Ringer", "at", "(III)I"⟩) (n := 3) (As := [.int v1, .int v2, .int v3]) (rest := rest) (C := RX11) F (wC11_at H.size y0 v1 v2 v3 S Q1 h) (hN.2.2.1 _ (List.mem_of_getElem? (i := 6) rfl)) (hN.2.2.1 _ (List.mem_of_getElem? (i := 7) rfl)) q711 q712 q708 q709 q96 q710 (by decide) rfl rfl (by decide +kernel) ⟨Nat.le_trans (Nat.le_of_ble_eq_true rfl) hR.1, Nat.le_trans (Nat.le_of_ble_eq_true rfl) hR.2⟩ ⟨PC_blind, p_recv_X11 F G hy, c_pre F G⟩ rfl rfl hsz rfl (lv_room hW) hd hc) k
set_option maxHeartbeats 4000000 in
set_option maxRecDepth 100000 in
theorem kdX6_atHour {p : Program} {l : Launch} {e : Env} {s : State} {m : MethodId} {R : Room} {args : Array Value} {below : List Frame} {meth : Method} {c : Code} {D : va_G} {a : Nat → Nat} {d : Nat → ClassId} {A : Nat → Prop} {Q : State → Prop} {cc : ByteArray} {nL pc cells slots κ : Nat} {fs0 : List Value} {ret : Option FieldType} {ls : Array Slot} {rest : List Value} {y0 : Nat} {v1 : Int32} {S : CS} {H : Heap} {locs : List Loc} {Q1 : Int32 → CS → Prop} (F : FC p s m meth c args D a d A RX6 cc nL ret) (G : GC D a d A s.heap S H locs) (hκ : κ < 6) (hy : has S y0 (.inr (6 + κ, fs0))) (hsz : ls.size = nL) (hR : 1 + 1 ≤ R.frames ∧ 42 ≤ R.locals) (hc : cells + 0 ≤ R.cells ∧ slots + 0 ≤ R.slots) (hW : (rest.map fun v => v.category).sum ≤ 8) (hd : decode cc pc = .ok (.invokevirtual 9, 3)) (h : CV_atHour κ y0 v1 S Q1) (k : ∀ (r : Int32) (S1 : CS) (H : Heap) (locs : List Loc), GC D a d A s.heap S1 H locs → Q1 r S1 → W p l e R s m args below meth c H locs cells slots Q (F0 m (pc + 3) ls (.int r :: rest))) : W p l e R s m args below meth c H locs cells slots Q (F0 m pc ls (.int v1 :: .ref y0 :: rest)) := by
  obtain ⟨hx, hb, hr, hml, hown, hts, hlocks, hA, hK, hN⟩ := id F
  obtain rfl | rfl | rfl | rfl | rfl | rfl : κ = 0 ∨ κ = 1 ∨ κ = 2 ∨ κ = 3 ∨ κ = 4 ∨ κ = 5 := by omega
  · exact c_defV1 (x := ⟨"StrokesHeard$Ringer", "atHour", "(I)I"⟩) F hsz (hN.2.2.1 _ (List.mem_of_getElem? (i := 0) rfl)) (hN.2.2.1 _ (List.mem_of_getElem? (i := 1) rfl)) (by decide) (by decide) q700 q701 dX15_atHour_0 dX15_atHour_1 (hN.2.2.2.1 _ (List.mem_of_getElem? (i := 2) rfl)) (p_recv_X6 F G hy) (by decide +kernel) ⟨Nat.le_trans (Nat.le_of_ble_eq_true rfl) hR.1, Nat.le_trans (Nat.le_of_ble_eq_true rfl) hR.2⟩ hW hd (k v1 S H locs G h)
  · exact c_defV1 (x := ⟨"StrokesHeard$Ringer", "atHour", "(I)I"⟩) F hsz (hN.2.2.1 _ (List.mem_of_getElem? (i := 0) rfl)) (hN.2.2.1 _ (List.mem_of_getElem? (i := 1) rfl)) (by decide) (by decide) q700 q701 dX15_atHour_0 dX15_atHour_1 (hN.2.2.2.1 _ (List.mem_of_getElem? (i := 1) rfl)) (p_recv_X7 F G hy) (by decide +kernel) ⟨Nat.le_trans (Nat.le_of_ble_eq_true rfl) hR.1, Nat.le_trans (Nat.le_of_ble_eq_true rfl) hR.2⟩ hW hd (k v1 S H locs G h)
  · exact c_defV1 (x := ⟨"StrokesHeard$Ringer", "atHour", "(I)I"⟩) F hsz (hN.2.2.1 _ (List.mem_of_getElem? (i := 0) rfl)) (hN.2.2.1 _ (List.mem_of_getElem? (i := 1) rfl)) (by decide) (by decide) q700 q701 dX15_atHour_0 dX15_atHour_1 (hN.2.2.2.1 _ (List.mem_of_getElem? (i := 3) rfl)) (p_recv_X8 F G hy) (by decide +kernel) ⟨Nat.le_trans (Nat.le_of_ble_eq_true rfl) hR.1, Nat.le_trans (Nat.le_of_ble_eq_true rfl) hR.2⟩ hW hd (k v1 S H locs G h)
  · exact c_calli F G (c_runVS (x := ⟨"StrokesHeard$Ringer", "atHour", "(I)I"⟩) (n := 1) (As := [.int v1]) (rest := rest) (C := RX9) F (wC9_atHour H.size y0 v1 S Q1 h) (hN.2.2.1 _ (List.mem_of_getElem? (i := 0) rfl)) (hN.2.2.1 _ (List.mem_of_getElem? (i := 1) rfl)) q700 q701 q702 q703 q94 q704 (by decide) rfl rfl (by decide +kernel) ⟨Nat.le_trans (Nat.le_of_ble_eq_true rfl) hR.1, Nat.le_trans (Nat.le_of_ble_eq_true rfl) hR.2⟩ ⟨PC_blind, p_recv_X9 F G hy, c_pre F G⟩ rfl rfl hsz rfl (lv_room hW) hd hc) k
  · exact c_calli F G (c_runVS (x := ⟨"StrokesHeard$Ringer", "atHour", "(I)I"⟩) (n := 1) (As := [.int v1]) (rest := rest) (C := RX10) F (wC10_atHour H.size y0 v1 S Q1 h) (hN.2.2.1 _ (List.mem_of_getElem? (i := 0) rfl)) (hN.2.2.1 _ (List.mem_of_getElem? (i := 1) rfl)) q700 q701 q697 q698 q95 q699 (by decide) rfl rfl (by decide +kernel) ⟨Nat.le_trans (Nat.le_of_ble_eq_true rfl) hR.1, Nat.le_trans (Nat.le_of_ble_eq_true rfl) hR.2⟩ ⟨PC_blind, p_recv_X10 F G hy, c_pre F G⟩ rfl rfl hsz rfl (lv_room hW) hd hc) k
  · exact c_defV1 (x := ⟨"StrokesHeard$Ringer", "atHour", "(I)I"⟩) F hsz (hN.2.2.1 _ (List.mem_of_getElem? (i := 0) rfl)) (hN.2.2.1 _ (List.mem_of_getElem? (i := 1) rfl)) (by decide) (by decide) q700 q701 dX15_atHour_0 dX15_atHour_1 (hN.2.2.2.1 _ (List.mem_of_getElem? (i := 0) rfl)) (p_recv_X11 F G hy) (by decide +kernel) ⟨Nat.le_trans (Nat.le_of_ble_eq_true rfl) hR.1, Nat.le_trans (Nat.le_of_ble_eq_true rfl) hR.2⟩ hW hd (k v1 S H locs G h)
/-! StrokesHeard$Ringer.strokes -/
def C6_strokes_p16 (Q : Int32 → CS → Prop)  (y0 : Nat) (v1 : Int32) (v2 : Int32) (t0 : Int32) (S : CS) : Prop := ∀ x_2 : Int32, x_2 = (v1 - v1 / 60 * 60) → (¬ x_2 = 0 → ∃ (κ_6 : Nat) (fs_7 : List Value), κ_6 < 6 ∧ has S y0 (.inr (6 + κ_6, fs_7)) ∧ CV_at κ_6 y0 x_2 t0 v2 S (fun r_4 S_5 => Q r_4 S_5)) ∧ (x_2 = 0 → ∃ (κ_12 : Nat) (fs_13 : List Value), κ_12 < 6 ∧ has S y0 (.inr (6 + κ_12, fs_13)) ∧ CV_atHour κ_12 y0 t0 S (fun r_10 S_11 => Q r_10 S_11))
def C6_strokes (y0 : Nat) (v1 : Int32) (v2 : Int32) (S : CS) (Q : Int32 → CS → Prop) : Prop := (¬ (v1 / 60) = 0 → C6_strokes_p16 Q y0 v1 v2 (v1 / 60) S) ∧ ((v1 / 60) = 0 → C6_strokes_p16 Q y0 v1 v2 12 S)
abbrev rmX6_strokes : Room := { frames := 3, cells := 0, slots := 0, locals := 65 }
set_option maxHeartbeats 4000000 in
set_option maxRecDepth 100000 in
theorem wC6_strokes_p16 {p : Program} {l : Launch} {e : Env} {s : State} {m : MethodId} {args : Array Value} {below : List Frame} {meth : Method} {c : Code} {D : va_G} {a : Nat → Nat} {d : Nat → ClassId} {A : Nat → Prop} {Q : Int32 → CS → Prop}  (F : FC p s m meth c args D a d A RX6 cX6_strokes 5 (some .int)) (y0 : Nat) (v1 : Int32) (v2 : Int32) (t0 : Int32) (S : CS)  {H : Heap} {locs : List Loc} {ls : Array Slot} (G : GC D a d A s.heap S H locs) (hl : lv_has ls 5 [(0, .ref y0), (1, .int v1), (2, .int v2)]) (h : C6_strokes_p16 Q y0 v1 v2 t0 S) : wCi p l e rmX6_strokes s m args below meth c D a d A Q 0 0 H locs 0 0 (F0 m 16 ls [.int t0]) := by
  obtain ⟨hx, hb, hr, hml, hown, hts, hlocks, hA, hK, hN⟩ := id F
  unfold C6_strokes_p16 at h
  refine lv_istore_n (lv' := [(3, .int t0), (0, .ref y0), (1, .int v1), (2, .int v2)]) hx hb dX6_strokes_16 rfl hl (by decide) rfl (fun ls hl => ?_)
  refine lv_iload_n hx hb dX6_strokes_17 rfl (lv_at hl 2 rfl) ?_
  refine lv_bipush (v := 60) hx hb dX6_strokes_18 (by decide) ?_
  refine lv_irem hx hb dX6_strokes_20 (by decide) ?_
  refine lv_topi (fun x_2 ex_2 => ?_)
  replace h := h x_2 ex_2
  refine lv_istore (lv' := [(4, .int x_2), (3, .int t0), (0, .ref y0), (1, .int v1), (2, .int v2)]) hx hb dX6_strokes_21 hl (by decide) rfl (fun ls hl => ?_)
  refine lv_iload hx hb dX6_strokes_23 (lv_at hl 0 rfl) ?_
  refine lv_if_ne (tgt := 36) hx hb dX6_strokes_25 (by decide) (fun c_3 => ?_) (fun c_3 => ?_)
  · replace h := h.1 c_3
    refine lv_aload_n hx hb dX6_strokes_36 rfl (lv_at hl 2 rfl) ?_
    refine lv_iload hx hb dX6_strokes_37 (lv_at hl 0 rfl) ?_
    refine lv_iload_n hx hb dX6_strokes_39 rfl (lv_at hl 1 rfl) ?_
    refine lv_iload_n hx hb dX6_strokes_40 rfl (lv_at hl 4 rfl) ?_
    obtain ⟨κ_6, fs_7, q_8, z_9, h⟩ := h
    refine kdX6_at F G q_8 z_9 hl.1 ⟨(Nat.le_of_ble_eq_true rfl), (Nat.le_of_ble_eq_true rfl)⟩ ⟨(Nat.le_of_ble_eq_true rfl), (Nat.le_of_ble_eq_true rfl)⟩ (Nat.le_of_ble_eq_true rfl) dX6_strokes_41 h (fun r_4 S_5 H locs G h => ?_)
    exact c_iret F G dX6_strokes_44 h
  · replace h := h.2 c_3
    refine lv_aload_n hx hb dX6_strokes_28 rfl (lv_at hl 2 rfl) ?_
    refine lv_iload_n hx hb dX6_strokes_29 rfl (lv_at hl 1 rfl) ?_
    obtain ⟨κ_12, fs_13, q_14, z_15, h⟩ := h
    refine kdX6_atHour F G q_14 z_15 hl.1 ⟨(Nat.le_of_ble_eq_true rfl), (Nat.le_of_ble_eq_true rfl)⟩ ⟨(Nat.le_of_ble_eq_true rfl), (Nat.le_of_ble_eq_true rfl)⟩ (Nat.le_of_ble_eq_true rfl) dX6_strokes_30 h (fun r_10 S_11 H locs G h => ?_)
    refine lv_goto (tgt := 44) hx hb dX6_strokes_33 (by decide) ?_
    exact c_iret F G dX6_strokes_44 h
set_option maxHeartbeats 4000000 in
set_option maxRecDepth 100000 in
theorem wC6_strokes {l : Launch} {D : va_G} {a : Nat → Nat} {d : Nat → ClassId} (sz : Nat) (y0 : Nat) (v1 : Int32) (v2 : Int32) (S : CS) (Q : Int32 → CS → Prop) (h : C6_strokes y0 v1 v2 S Q) : CMi l D a d yX6_strokes cX6_strokes 5 .int rmX6_strokes 0 0 [.ref y0, .int v1, .int v2] sz S Q := by
  refine c_enter (Qc := fun A => va_Qi Q (BC D a d A) A) RX6 (by decide +kernel) rfl (Nat.le_of_ble_eq_true rfl) ?_
  intro p e s m below meth c ls A hmn F hG hl
  have G := hG
  have hl : lv_has ls 5 [(0, .ref y0), (1, .int v1), (2, .int v2)] := hl
  obtain ⟨hx, hb, hr, hml, hown, hts, hlocks, hA, hK, hN⟩ := id F
  unfold C6_strokes at h
  refine lv_iload_n hx hb dX6_strokes_0 rfl (lv_at hl 1 rfl) ?_
  refine lv_bipush (v := 60) hx hb dX6_strokes_1 (by decide) ?_
  refine lv_idiv hx hb dX6_strokes_3 (by decide) ?_
  refine lv_if_ne (tgt := 12) hx hb dX6_strokes_4 (by decide) (fun c_1 => ?_) (fun c_1 => ?_)
  · replace h := h.1 c_1
    refine lv_iload_n hx hb dX6_strokes_12 rfl (lv_at hl 1 rfl) ?_
    refine lv_bipush (v := 60) hx hb dX6_strokes_13 (by decide) ?_
    refine lv_idiv hx hb dX6_strokes_15 (by decide) ?_
    exact wC6_strokes_p16 F y0 v1 v2 (v1 / 60) S  G (lv_sub hl [0, 1, 2] rfl) h
  · replace h := h.2 c_1
    refine lv_bipush (v := 12) hx hb dX6_strokes_7 (by decide) ?_
    refine lv_goto (tgt := 16) hx hb dX6_strokes_9 (by decide) ?_
    exact wC6_strokes_p16 F y0 v1 v2 12 S  G (lv_sub hl [0, 1, 2] rfl) h
def CV_strokes (κ : Nat) (y0 : Nat) (v1 : Int32) (v2 : Int32) (S : CS) (Q : Int32 → CS → Prop) : Prop := match κ with
  | 0 => C6_strokes y0 v1 v2 S Q
  | 1 => C6_strokes y0 v1 v2 S Q
  | 2 => C6_strokes y0 v1 v2 S Q
  | 3 => C6_strokes y0 v1 v2 S Q
  | 4 => C6_strokes y0 v1 v2 S Q
  | _ => C6_strokes y0 v1 v2 S Q
set_option maxHeartbeats 4000000 in
set_option maxRecDepth 100000 in
theorem kvX0_strokes {p : Program} {l : Launch} {e : Env} {s : State} {m : MethodId} {R : Room} {args : Array Value} {below : List Frame} {meth : Method} {c : Code} {D : va_G} {a : Nat → Nat} {d : Nat → ClassId} {A : Nat → Prop} {Q : State → Prop} {cc : ByteArray} {nL pc cells slots κ : Nat} {fs0 : List Value} {ret : Option FieldType} {ls : Array Slot} {rest : List Value} {y0 : Nat} {v1 : Int32} {v2 : Int32} {S : CS} {H : Heap} {locs : List Loc} {Q1 : Int32 → CS → Prop} (F : FC p s m meth c args D a d A RX0 cc nL ret) (G : GC D a d A s.heap S H locs) (hκ : κ < 6) (hy : has S y0 (.inr (6 + κ, fs0))) (hsz : ls.size = nL) (hR : 3 + 1 ≤ R.frames ∧ 89 ≤ R.locals) (hc : cells + 0 ≤ R.cells ∧ slots + 0 ≤ R.slots) (hW : (rest.map fun v => v.category).sum ≤ 8) (hd : decode cc pc = .ok (.invokevirtual 296, 3)) (h : CV_strokes κ y0 v1 v2 S Q1) (k : ∀ (r : Int32) (S1 : CS) (H : Heap) (locs : List Loc), GC D a d A s.heap S1 H locs → Q1 r S1 → W p l e R s m args below meth c H locs cells slots Q (F0 m (pc + 3) ls (.int r :: rest))) : W p l e R s m args below meth c H locs cells slots Q (F0 m pc ls (.int v2 :: .int v1 :: .ref y0 :: rest)) := by
  obtain ⟨hx, hb, hr, hml, hown, hts, hlocks, hA, hK, hN⟩ := id F
  obtain rfl | rfl | rfl | rfl | rfl | rfl : κ = 0 ∨ κ = 1 ∨ κ = 2 ∨ κ = 3 ∨ κ = 4 ∨ κ = 5 := by omega
  · exact c_calli F G (va_runU (As := [.int v1, .int v2]) (rest := rest) ⟨hx, hb, hml, hown, hts⟩ (wC6_strokes H.size y0 v1 v2 S Q1 h) (va_cwO (C := RX6) (owner := RX6) 2 hts (lw_O q683 q686 q684 q685 q684 q91 q692) rfl rfl rfl q692 (by decide +kernel) ⟨Nat.le_trans (Nat.le_of_ble_eq_true rfl) hR.1, Nat.le_trans (Nat.le_of_ble_eq_true rfl) hR.2⟩) ⟨PC_blind, p_recv_X6 F G hy, c_pre F G⟩ rfl rfl hsz rfl (lv_room hW) hd hc) k
  · exact c_calli F G (va_runU (As := [.int v1, .int v2]) (rest := rest) ⟨hx, hb, hml, hown, hts⟩ (wC6_strokes H.size y0 v1 v2 S Q1 h) (va_cwO (C := RX7) (owner := RX6) 2 hts (lw_O q683 q686 q684 q688 q684 q91 q692) rfl rfl rfl q692 (by decide +kernel) ⟨Nat.le_trans (Nat.le_of_ble_eq_true rfl) hR.1, Nat.le_trans (Nat.le_of_ble_eq_true rfl) hR.2⟩) ⟨PC_blind, p_recv_X7 F G hy, c_pre F G⟩ rfl rfl hsz rfl (lv_room hW) hd hc) k
  · exact c_calli F G (va_runU (As := [.int v1, .int v2]) (rest := rest) ⟨hx, hb, hml, hown, hts⟩ (wC6_strokes H.size y0 v1 v2 S Q1 h) (va_cwO (C := RX8) (owner := RX6) 2 hts (lw_O q683 q686 q684 q691 q684 q91 q692) rfl rfl rfl q692 (by decide +kernel) ⟨Nat.le_trans (Nat.le_of_ble_eq_true rfl) hR.1, Nat.le_trans (Nat.le_of_ble_eq_true rfl) hR.2⟩) ⟨PC_blind, p_recv_X8 F G hy, c_pre F G⟩ rfl rfl hsz rfl (lv_room hW) hd hc) k
  · exact c_calli F G (va_runU (As := [.int v1, .int v2]) (rest := rest) ⟨hx, hb, hml, hown, hts⟩ (wC6_strokes H.size y0 v1 v2 S Q1 h) (va_cwO (C := RX9) (owner := RX6) 2 hts (lw_O q683 q686 q684 q690 q684 q91 q692) rfl rfl rfl q692 (by decide +kernel) ⟨Nat.le_trans (Nat.le_of_ble_eq_true rfl) hR.1, Nat.le_trans (Nat.le_of_ble_eq_true rfl) hR.2⟩) ⟨PC_blind, p_recv_X9 F G hy, c_pre F G⟩ rfl rfl hsz rfl (lv_room hW) hd hc) k
  · exact c_calli F G (va_runU (As := [.int v1, .int v2]) (rest := rest) ⟨hx, hb, hml, hown, hts⟩ (wC6_strokes H.size y0 v1 v2 S Q1 h) (va_cwO (C := RX10) (owner := RX6) 2 hts (lw_O q683 q686 q684 q689 q684 q91 q692) rfl rfl rfl q692 (by decide +kernel) ⟨Nat.le_trans (Nat.le_of_ble_eq_true rfl) hR.1, Nat.le_trans (Nat.le_of_ble_eq_true rfl) hR.2⟩) ⟨PC_blind, p_recv_X10 F G hy, c_pre F G⟩ rfl rfl hsz rfl (lv_room hW) hd hc) k
  · exact c_calli F G (va_runU (As := [.int v1, .int v2]) (rest := rest) ⟨hx, hb, hml, hown, hts⟩ (wC6_strokes H.size y0 v1 v2 S Q1 h) (va_cwO (C := RX11) (owner := RX6) 2 hts (lw_O q683 q686 q684 q687 q684 q91 q692) rfl rfl rfl q692 (by decide +kernel) ⟨Nat.le_trans (Nat.le_of_ble_eq_true rfl) hR.1, Nat.le_trans (Nat.le_of_ble_eq_true rfl) hR.2⟩) ⟨PC_blind, p_recv_X11 F G hy, c_pre F G⟩ rfl rfl hsz rfl (lv_room hW) hd hc) k
/-! StrokesHeard.strokesOf -/
def C0_strokesOf_p57 (Q : Int32 → CS → Prop)  (t0 : Int32) (t1 : Int32) (t2 : Nat) (S : CS) : Prop := ∃ (κ_17 : Nat) (fs_18 : List Value), κ_17 < 6 ∧ has S t2 (.inr (6 + κ_17, fs_18)) ∧ CV_strokes κ_17 t2 t1 t0 S (fun r_15 S_16 => Q r_15 S_16)
def C0_strokesOf_p29 (Q : Int32 → CS → Prop)  (y1 : Nat) (v3 : Int32) (t0 : Int32) (S : CS) : Prop := C0_isIn (v3 - v3 / 60 * 60) 1 14 S (fun r_10 S_11 => (r_10 = 0 → C0_strokesOf_p57 Q 0 v3 y1 S_11) ∧ (¬ r_10 = 0 → C0_againAt y1 t0 S_11 (fun r_13 S_14 => C0_strokesOf_p57 Q r_13 v3 y1 S_14)))
def C0_strokesOf (y1 : Nat) (v2 : Int32) (S : CS) (Q : Int32 → CS → Prop) : Prop := ∃ (κ_4 : Nat) (fs_1 : List Value) (i_6 : Int32), κ_4 < 6 ∧ has S y1 (.inr (6 + κ_4, fs_1)) ∧ fs_1[0]? = some (.int i_6) ∧ (CJ3_floorMod (v2 - i_6) 720 S (fun r_7 S_8 => (¬ (r_7 / 60) = 0 → C0_strokesOf_p29 Q y1 r_7 (r_7 / 60) S_8) ∧ ((r_7 / 60) = 0 → C0_strokesOf_p29 Q y1 r_7 12 S_8)))
abbrev rmX0_strokesOf : Room := { frames := 4, cells := 0, slots := 0, locals := 89 }
set_option maxHeartbeats 4000000 in
set_option maxRecDepth 100000 in
theorem wC0_strokesOf_p57 {p : Program} {l : Launch} {e : Env} {s : State} {m : MethodId} {args : Array Value} {below : List Frame} {meth : Method} {c : Code} {D : va_G} {a : Nat → Nat} {d : Nat → ClassId} {A : Nat → Prop} {Q : Int32 → CS → Prop}  (F : FC p s m meth c args D a d A RX0 cX0_strokesOf 5 (some .int)) (t0 : Int32) (t1 : Int32) (t2 : Nat) (S : CS)  {H : Heap} {locs : List Loc} {ls : Array Slot} (G : GC D a d A s.heap S H locs) (hl : lv_has ls 5 []) (h : C0_strokesOf_p57 Q t0 t1 t2 S) : wCi p l e rmX0_strokesOf s m args below meth c D a d A Q 0 0 H locs 0 0 (F0 m 57 ls [.int t0, .int t1, .ref t2]) := by
  obtain ⟨hx, hb, hr, hml, hown, hts, hlocks, hA, hK, hN⟩ := id F
  unfold C0_strokesOf_p57 at h
  obtain ⟨κ_17, fs_18, q_19, z_20, h⟩ := h
  refine kvX0_strokes F G q_19 z_20 hl.1 ⟨(Nat.le_of_ble_eq_true rfl), (Nat.le_of_ble_eq_true rfl)⟩ ⟨(Nat.le_of_ble_eq_true rfl), (Nat.le_of_ble_eq_true rfl)⟩ (Nat.le_of_ble_eq_true rfl) dX0_strokesOf_57 h (fun r_15 S_16 H locs G h => ?_)
  exact c_iret F G dX0_strokesOf_60 h
set_option maxHeartbeats 4000000 in
set_option maxRecDepth 100000 in
theorem wC0_strokesOf_p29 {p : Program} {l : Launch} {e : Env} {s : State} {m : MethodId} {args : Array Value} {below : List Frame} {meth : Method} {c : Code} {D : va_G} {a : Nat → Nat} {d : Nat → ClassId} {A : Nat → Prop} {Q : Int32 → CS → Prop}  (F : FC p s m meth c args D a d A RX0 cX0_strokesOf 5 (some .int)) (y1 : Nat) (v3 : Int32) (t0 : Int32) (S : CS)  {H : Heap} {locs : List Loc} {ls : Array Slot} (G : GC D a d A s.heap S H locs) (hl : lv_has ls 5 [(0, .ref (a 0)), (1, .ref y1), (3, .int v3)]) (h : C0_strokesOf_p29 Q y1 v3 t0 S) : wCi p l e rmX0_strokesOf s m args below meth c D a d A Q 0 0 H locs 0 0 (F0 m 29 ls [.int t0]) := by
  obtain ⟨hx, hb, hr, hml, hown, hts, hlocks, hA, hK, hN⟩ := id F
  unfold C0_strokesOf_p29 at h
  refine lv_istore (lv' := [(4, .int t0), (0, .ref (a 0)), (1, .ref y1), (3, .int v3)]) hx hb dX0_strokesOf_29 hl (by decide) rfl (fun ls hl => ?_)
  refine lv_aload_n hx hb dX0_strokesOf_31 rfl (lv_at hl 2 rfl) ?_
  refine lv_iload_n hx hb dX0_strokesOf_32 rfl (lv_at hl 3 rfl) ?_
  refine lv_iload_n hx hb dX0_strokesOf_33 rfl (lv_at hl 3 rfl) ?_
  refine lv_bipush (v := 60) hx hb dX0_strokesOf_34 (by decide) ?_
  refine lv_irem hx hb dX0_strokesOf_36 (by decide) ?_
  refine lv_iconst (v := 1) hx hb dX0_strokesOf_37 (by decide) ?_
  refine lv_bipush (v := 14) hx hb dX0_strokesOf_38 (by decide) ?_
  refine kX0_C0_isIn F G hl.1 ⟨(Nat.le_of_ble_eq_true rfl), (Nat.le_of_ble_eq_true rfl)⟩ ⟨(Nat.le_of_ble_eq_true rfl), (Nat.le_of_ble_eq_true rfl)⟩ (Nat.le_of_ble_eq_true rfl) dX0_strokesOf_40 h (fun r_10 S_11 H locs G h => ?_)
  refine lv_if_eq (tgt := 56) hx hb dX0_strokesOf_43 (by decide) (fun c_12 => ?_) (fun c_12 => ?_)
  · replace h := h.1 c_12
    refine lv_iconst (v := 0) hx hb dX0_strokesOf_56 (by decide) ?_
    exact wC0_strokesOf_p57 F 0 v3 y1 S_11  G (lv_sub hl [] rfl) h
  · replace h := h.2 c_12
    refine lv_aload_n hx hb dX0_strokesOf_46 rfl (lv_at hl 1 rfl) ?_
    refine lv_aload_n hx hb dX0_strokesOf_47 rfl (lv_at hl 2 rfl) ?_
    refine lv_iload hx hb dX0_strokesOf_48 (lv_at hl 0 rfl) ?_
    refine kX0_C0_againAt F G hl.1 ⟨(Nat.le_of_ble_eq_true rfl), (Nat.le_of_ble_eq_true rfl)⟩ ⟨(Nat.le_of_ble_eq_true rfl), (Nat.le_of_ble_eq_true rfl)⟩ (Nat.le_of_ble_eq_true rfl) dX0_strokesOf_50 h (fun r_13 S_14 H locs G h => ?_)
    refine lv_goto (tgt := 57) hx hb dX0_strokesOf_53 (by decide) ?_
    exact wC0_strokesOf_p57 F r_13 v3 y1 S_14  G (lv_sub hl [] rfl) h
set_option maxHeartbeats 4000000 in
set_option maxRecDepth 100000 in
theorem wC0_strokesOf {l : Launch} {D : va_G} {a : Nat → Nat} {d : Nat → ClassId} (sz : Nat) (y1 : Nat) (v2 : Int32) (S : CS) (Q : Int32 → CS → Prop) (h : C0_strokesOf y1 v2 S Q) : CMi l D a d yX0_strokesOf cX0_strokesOf 5 .int rmX0_strokesOf 0 0 [.ref (a 0), .ref y1, .int v2] sz S Q := by
  refine c_enter (Qc := fun A => va_Qi Q (BC D a d A) A) RX0 (by decide +kernel) rfl (Nat.le_of_ble_eq_true rfl) ?_
  intro p e s m below meth c ls A hmn F hG hl
  have G := hG
  have hl : lv_has ls 5 [(0, .ref (a 0)), (1, .ref y1), (2, .int v2)] := hl
  obtain ⟨hx, hb, hr, hml, hown, hts, hlocks, hA, hK, hN⟩ := id F
  unfold C0_strokesOf at h
  refine lv_iload_n hx hb dX0_strokesOf_0 rfl (lv_at hl 2 rfl) ?_
  refine lv_aload_n hx hb dX0_strokesOf_1 rfl (lv_at hl 1 rfl) ?_
  obtain ⟨κ_4, fs_1, i_6, q_5, z_2, u_3, h⟩ := h
  refine pgX0_X6_off F G q_5 z_2 u_3 dX0_strokesOf_2 ?_
  refine lv_isub hx hb dX0_strokesOf_5 ?_
  refine lv_sipush (v := 720) hx hb dX0_strokesOf_6 (by decide) ?_
  refine kX0_CJ3_floorMod F G hl.1 ⟨(Nat.le_of_ble_eq_true rfl), (Nat.le_of_ble_eq_true rfl)⟩ ⟨(Nat.le_of_ble_eq_true rfl), (Nat.le_of_ble_eq_true rfl)⟩ (Nat.le_of_ble_eq_true rfl) dX0_strokesOf_9 h (fun r_7 S_8 H locs G h => ?_)
  refine lv_istore_n (lv' := [(3, .int r_7), (0, .ref (a 0)), (1, .ref y1), (2, .int v2)]) hx hb dX0_strokesOf_12 rfl hl (by decide) rfl (fun ls hl => ?_)
  refine lv_iload_n hx hb dX0_strokesOf_13 rfl (lv_at hl 0 rfl) ?_
  refine lv_bipush (v := 60) hx hb dX0_strokesOf_14 (by decide) ?_
  refine lv_idiv hx hb dX0_strokesOf_16 (by decide) ?_
  refine lv_if_ne (tgt := 25) hx hb dX0_strokesOf_17 (by decide) (fun c_9 => ?_) (fun c_9 => ?_)
  · replace h := h.1 c_9
    refine lv_iload_n hx hb dX0_strokesOf_25 rfl (lv_at hl 0 rfl) ?_
    refine lv_bipush (v := 60) hx hb dX0_strokesOf_26 (by decide) ?_
    refine lv_idiv hx hb dX0_strokesOf_28 (by decide) ?_
    exact wC0_strokesOf_p29 F y1 r_7 (r_7 / 60) S_8  G (lv_sub hl [1, 2, 0] rfl) h
  · replace h := h.2 c_9
    refine lv_bipush (v := 12) hx hb dX0_strokesOf_20 (by decide) ?_
    refine lv_goto (tgt := 29) hx hb dX0_strokesOf_22 (by decide) ?_
    exact wC0_strokesOf_p29 F y1 r_7 12 S_8  G (lv_sub hl [1, 2, 0] rfl) h
set_option maxHeartbeats 4000000 in
set_option maxRecDepth 100000 in
theorem kX0_C0_strokesOf {p : Program} {l : Launch} {e : Env} {s : State} {m : MethodId} {R : Room} {args : Array Value} {below : List Frame} {meth : Method} {c : Code} {D : va_G} {a : Nat → Nat} {d : Nat → ClassId} {A : Nat → Prop} {Q : State → Prop} {cc : ByteArray} {nL pc cells slots : Nat} {ret : Option FieldType} {ls : Array Slot} {rest : List Value} {y1 : Nat} {v2 : Int32} {S : CS} {H : Heap} {locs : List Loc} {Q1 : Int32 → CS → Prop} (F : FC p s m meth c args D a d A RX0 cc nL ret) (G : GC D a d A s.heap S H locs) (hsz : ls.size = nL) (hR : rmX0_strokesOf.frames + 1 ≤ R.frames ∧ 8 + (5 + 11) + rmX0_strokesOf.locals ≤ R.locals) (hc : cells + 0 ≤ R.cells ∧ slots + 0 ≤ R.slots) (hW : (rest.map fun v => v.category).sum ≤ 8) (hd : decode cc pc = .ok (.invokevirtual 299, 3)) (h : C0_strokesOf y1 v2 S Q1) (k : ∀ (r : Int32) (S1 : CS) (H : Heap) (locs : List Loc), GC D a d A s.heap S1 H locs → Q1 r S1 → W p l e R s m args below meth c H locs cells slots Q (F0 m (pc + 3) ls (.int r :: rest))) : W p l e R s m args below meth c H locs cells slots Q (F0 m pc ls (.int v2 :: .ref y1 :: .ref (a 0) :: rest)) := by
  obtain ⟨hx, hb, hr, hml, hown, hts, hlocks, hA, hK, hN⟩ := id F
  exact c_calli F G (va_runV (As := [.ref y1, .int v2]) (rest := rest) ⟨hx, hb, hml, hown, hts⟩ (wC0_strokesOf H.size y1 v2 S Q1 h) (cwV 2 hts (lw_V q656 q658 qs21 q82 q659) rfl rfl rfl (by decide +kernel) hR) ⟨PC_blind, va_recv hK G.1 (ci := 0) (q0 := 0) rfl rfl, c_pre F G⟩ rfl rfl hsz rfl (lv_room hW) hd hc) k
/-! StrokesHeard.inAll -/
def C0_inAll_L4 (Q : Int32 → CS → Prop)  (y1 : Nat) : Nat → Int32 → Int32 → CS → Prop
  | 0, _, _, _ => False
  | n + 1, v2, v3, S => (720 ≤ v3 → Q v2 S) ∧ (¬ 720 ≤ v3 → C0_strokesOf y1 v3 S (fun r_2 S_3 => ∀ x_4 : Int32, x_4 = (v2 + r_2) → C0_inAll_L4 Q y1 n x_4 (v3 + 1) S_3))
def C0_inAll (y1 : Nat) (S : CS) (Q : Int32 → CS → Prop) : Prop := ∃ k4, C0_inAll_L4 Q y1 k4 0 0 S
abbrev rmX0_inAll : Room := { frames := 5, cells := 0, slots := 0, locals := 113 }
set_option maxHeartbeats 4000000 in
set_option maxRecDepth 100000 in
theorem wC0_inAll_L4 {p : Program} {l : Launch} {e : Env} {s : State} {m : MethodId} {args : Array Value} {below : List Frame} {meth : Method} {c : Code} {D : va_G} {a : Nat → Nat} {d : Nat → ClassId} {A : Nat → Prop} {Q : Int32 → CS → Prop}  (F : FC p s m meth c args D a d A RX0 cX0_inAll 4 (some .int)) (y1 : Nat)  :
    ∀ (n : Nat) (v2 : Int32) (v3 : Int32) (S : CS) (H : Heap) (locs : List Loc) (ls : Array Slot), GC D a d A s.heap S H locs → lv_has ls 4 [(0, .ref (a 0)), (1, .ref y1), (2, .int v2), (3, .int v3)] → C0_inAll_L4 Q y1 n v2 v3 S → wCi p l e rmX0_inAll s m args below meth c D a d A Q 0 0 H locs 0 0 (F0 m 4 ls []) := by
  obtain ⟨hx, hb, hr, hml, hown, hts, hlocks, hA, hK, hN⟩ := id F
  intro n
  induction n with
  | zero => intro v2 v3 S H locs ls G hl h; exact absurd h (fun q => q)
  | succ n ih =>
    intro v2 v3 S H locs ls G hl h
    unfold C0_inAll_L4 at h
    refine lv_iload_n hx hb dX0_inAll_4 rfl (lv_at hl 3 rfl) ?_
    refine lv_sipush (v := 720) hx hb dX0_inAll_5 (by decide) ?_
    refine lv_icmp_ge (tgt := 26) hx hb dX0_inAll_8 (by decide) (fun c_1 => ?_) (fun c_1 => ?_)
    · replace h := h.1 c_1
      refine lv_iload_n hx hb dX0_inAll_26 rfl (lv_at hl 2 rfl) ?_
      exact c_iret F G dX0_inAll_27 h
    · replace h := h.2 c_1
      refine lv_iload_n hx hb dX0_inAll_11 rfl (lv_at hl 2 rfl) ?_
      refine lv_aload_n hx hb dX0_inAll_12 rfl (lv_at hl 0 rfl) ?_
      refine lv_aload_n hx hb dX0_inAll_13 rfl (lv_at hl 1 rfl) ?_
      refine lv_iload_n hx hb dX0_inAll_14 rfl (lv_at hl 3 rfl) ?_
      refine kX0_C0_strokesOf F G hl.1 ⟨(Nat.le_of_ble_eq_true rfl), (Nat.le_of_ble_eq_true rfl)⟩ ⟨(Nat.le_of_ble_eq_true rfl), (Nat.le_of_ble_eq_true rfl)⟩ (Nat.le_of_ble_eq_true rfl) dX0_inAll_15 h (fun r_2 S_3 H locs G h => ?_)
      refine lv_iadd hx hb dX0_inAll_18 ?_
      refine lv_topi (fun x_4 ex_4 => ?_)
      replace h := h x_4 ex_4
      refine lv_istore_n (lv' := [(2, .int x_4), (0, .ref (a 0)), (1, .ref y1), (3, .int v3)]) hx hb dX0_inAll_19 rfl hl (by decide) rfl (fun ls hl => ?_)
      refine lv_iinc (v := (v3 + 1)) (lv' := [(3, .int (v3 + 1)), (2, .int x_4), (0, .ref (a 0)), (1, .ref y1)]) hx hb dX0_inAll_20 hl (k := 3) rfl rfl (by decide) rfl (fun ls hl => ?_)
      refine lv_goto (tgt := 4) hx hb dX0_inAll_23 (by decide) ?_
      exact ih x_4 (v3 + 1) S_3 _ _ _ G (lv_sub hl [2, 3, 1, 0] rfl) h
set_option maxHeartbeats 4000000 in
set_option maxRecDepth 100000 in
theorem wC0_inAll {l : Launch} {D : va_G} {a : Nat → Nat} {d : Nat → ClassId} (sz : Nat) (y1 : Nat) (S : CS) (Q : Int32 → CS → Prop) (h : C0_inAll y1 S Q) : CMi l D a d yX0_inAll cX0_inAll 4 .int rmX0_inAll 0 0 [.ref (a 0), .ref y1] sz S Q := by
  refine c_enter (Qc := fun A => va_Qi Q (BC D a d A) A) RX0 (by decide +kernel) rfl (Nat.le_of_ble_eq_true rfl) ?_
  intro p e s m below meth c ls A hmn F hG hl
  have G := hG
  have hl : lv_has ls 4 [(0, .ref (a 0)), (1, .ref y1)] := hl
  obtain ⟨hx, hb, hr, hml, hown, hts, hlocks, hA, hK, hN⟩ := id F
  unfold C0_inAll at h
  refine lv_iconst (v := 0) hx hb dX0_inAll_0 (by decide) ?_
  refine lv_istore_n (lv' := [(2, .int 0), (0, .ref (a 0)), (1, .ref y1)]) hx hb dX0_inAll_1 rfl hl (by decide) rfl (fun ls hl => ?_)
  refine lv_iconst (v := 0) hx hb dX0_inAll_2 (by decide) ?_
  refine lv_istore_n (lv' := [(3, .int 0), (2, .int 0), (0, .ref (a 0)), (1, .ref y1)]) hx hb dX0_inAll_3 rfl hl (by decide) rfl (fun ls hl => ?_)
  obtain ⟨k4, h⟩ := h
  exact wC0_inAll_L4 F y1  k4 0 0 S _ _ _ G (lv_sub hl [2, 3, 1, 0] rfl) h
set_option maxHeartbeats 4000000 in
set_option maxRecDepth 100000 in
theorem kX0_C0_inAll {p : Program} {l : Launch} {e : Env} {s : State} {m : MethodId} {R : Room} {args : Array Value} {below : List Frame} {meth : Method} {c : Code} {D : va_G} {a : Nat → Nat} {d : Nat → ClassId} {A : Nat → Prop} {Q : State → Prop} {cc : ByteArray} {nL pc cells slots : Nat} {ret : Option FieldType} {ls : Array Slot} {rest : List Value} {y1 : Nat} {S : CS} {H : Heap} {locs : List Loc} {Q1 : Int32 → CS → Prop} (F : FC p s m meth c args D a d A RX0 cc nL ret) (G : GC D a d A s.heap S H locs) (hsz : ls.size = nL) (hR : rmX0_inAll.frames + 1 ≤ R.frames ∧ 8 + (4 + 11) + rmX0_inAll.locals ≤ R.locals) (hc : cells + 0 ≤ R.cells ∧ slots + 0 ≤ R.slots) (hW : (rest.map fun v => v.category).sum ≤ 8) (hd : decode cc pc = .ok (.invokevirtual 314, 3)) (h : C0_inAll y1 S Q1) (k : ∀ (r : Int32) (S1 : CS) (H : Heap) (locs : List Loc), GC D a d A s.heap S1 H locs → Q1 r S1 → W p l e R s m args below meth c H locs cells slots Q (F0 m (pc + 3) ls (.int r :: rest))) : W p l e R s m args below meth c H locs cells slots Q (F0 m pc ls (.ref y1 :: .ref (a 0) :: rest)) := by
  obtain ⟨hx, hb, hr, hml, hown, hts, hlocks, hA, hK, hN⟩ := id F
  exact c_calli F G (va_runV (As := [.ref y1]) (rest := rest) ⟨hx, hb, hml, hown, hts⟩ (wC0_inAll H.size y1 S Q1 h) (cwV 1 hts (lw_V q723 q725 qs24 q82 q726) rfl rfl rfl (by decide +kernel) hR) ⟨PC_blind, va_recv hK G.1 (ci := 0) (q0 := 0) rfl rfl, c_pre F G⟩ rfl rfl hsz rfl (lv_room hW) hd hc) k
/-! StrokesHeard$Ringer.worth -/
def C6_worth (y0 : Nat) (S : CS) (Q : Int32 → CS → Prop) : Prop := ∃ (κ_4 : Nat) (fs_1 : List Value) (i_6 : Int32), κ_4 < 6 ∧ has S y0 (.inr (6 + κ_4, fs_1)) ∧ fs_1[0]? = some (.int i_6) ∧ (Q i_6 S)
abbrev rmX6_worth : Room := { frames := 0, cells := 0, slots := 0, locals := 0 }
set_option maxHeartbeats 4000000 in
set_option maxRecDepth 100000 in
theorem wC6_worth {l : Launch} {D : va_G} {a : Nat → Nat} {d : Nat → ClassId} (sz : Nat) (y0 : Nat) (S : CS) (Q : Int32 → CS → Prop) (h : C6_worth y0 S Q) : CMi l D a d yX6_worth cX6_worth 1 .int rmX6_worth 0 0 [.ref y0] sz S Q := by
  refine c_enter (Qc := fun A => va_Qi Q (BC D a d A) A) RX6 (by decide +kernel) rfl (Nat.le_of_ble_eq_true rfl) ?_
  intro p e s m below meth c ls A hmn F hG hl
  have G := hG
  have hl : lv_has ls 1 [(0, .ref y0)] := hl
  obtain ⟨hx, hb, hr, hml, hown, hts, hlocks, hA, hK, hN⟩ := id F
  unfold C6_worth at h
  refine lv_aload_n hx hb dX6_worth_0 rfl (lv_at hl 0 rfl) ?_
  obtain ⟨κ_4, fs_1, i_6, q_5, z_2, u_3, h⟩ := h
  refine pgX6_X6_off F G q_5 z_2 u_3 dX6_worth_1 ?_
  exact c_iret F G dX6_worth_4 h
set_option maxHeartbeats 4000000 in
set_option maxRecDepth 100000 in
theorem kuX7_worth {p : Program} {l : Launch} {e : Env} {s : State} {m : MethodId} {R : Room} {args : Array Value} {below : List Frame} {meth : Method} {c : Code} {D : va_G} {a : Nat → Nat} {d : Nat → ClassId} {A : Nat → Prop} {Q : State → Prop} {cc : ByteArray} {nL pc cells slots κ : Nat} {fs0 : List Value} {ret : Option FieldType} {ls : Array Slot} {rest : List Value} {y0 : Nat} {S : CS} {H : Heap} {locs : List Loc} {Q1 : Int32 → CS → Prop} (F : FC p s m meth c args D a d A RX7 cc nL ret) (G : GC D a d A s.heap S H locs) (hκ : κ < 6) (hy : has S y0 (.inr (6 + κ, fs0))) (hsz : ls.size = nL) (hR : 0 + 1 ≤ R.frames ∧ 20 ≤ R.locals) (hc : cells + 0 ≤ R.cells ∧ slots + 0 ≤ R.slots) (hW : (rest.map fun v => v.category).sum ≤ 8) (hd : decode cc pc = .ok (.invokespecial 13, 3)) (h : C6_worth y0 S Q1) (k : ∀ (r : Int32) (S1 : CS) (H : Heap) (locs : List Loc), GC D a d A s.heap S1 H locs → Q1 r S1 → W p l e R s m args below meth c H locs cells slots Q (F0 m (pc + 3) ls (.int r :: rest))) : W p l e R s m args below meth c H locs cells slots Q (F0 m pc ls (.ref y0 :: rest)) := by
  obtain ⟨hx, hb, hr, hml, hown, hts, hlocks, hA, hK, hN⟩ := id F
  obtain rfl | rfl | rfl | rfl | rfl | rfl : κ = 0 ∨ κ = 1 ∨ κ = 2 ∨ κ = 3 ∨ κ = 4 ∨ κ = 5 := by omega
  · exact c_calli F G (va_runSU (As := []) (rest := rest) (C := RX6) (hK.1 6 _ rfl).2 ⟨hx, hb, hml, hown, hts⟩ (wC6_worth H.size y0 S Q1 h) (va_cwSU 0 hts (lw_SU q737 q730 q579 q728 q91 q750) rfl rfl rfl (by decide +kernel) hR) ⟨PC_blind, p_recv_X6 F G hy, c_pre F G⟩ rfl rfl hsz rfl (lv_room hW) hd hc) k
  · exact c_calli F G (va_runSU (As := []) (rest := rest) (C := RX7) (hK.1 7 _ rfl).2 ⟨hx, hb, hml, hown, hts⟩ (wC6_worth H.size y0 S Q1 h) (va_cwSU 0 hts (lw_SU q737 q730 q579 q728 q91 q750) rfl rfl rfl (by decide +kernel) hR) ⟨PC_blind, p_recv_X7 F G hy, c_pre F G⟩ rfl rfl hsz rfl (lv_room hW) hd hc) k
  · exact c_calli F G (va_runSU (As := []) (rest := rest) (C := RX8) (hK.1 8 _ rfl).2 ⟨hx, hb, hml, hown, hts⟩ (wC6_worth H.size y0 S Q1 h) (va_cwSU 0 hts (lw_SU q737 q730 q579 q728 q91 q750) rfl rfl rfl (by decide +kernel) hR) ⟨PC_blind, p_recv_X8 F G hy, c_pre F G⟩ rfl rfl hsz rfl (lv_room hW) hd hc) k
  · exact c_calli F G (va_runSU (As := []) (rest := rest) (C := RX9) (hK.1 9 _ rfl).2 ⟨hx, hb, hml, hown, hts⟩ (wC6_worth H.size y0 S Q1 h) (va_cwSU 0 hts (lw_SU q737 q730 q579 q728 q91 q750) rfl rfl rfl (by decide +kernel) hR) ⟨PC_blind, p_recv_X9 F G hy, c_pre F G⟩ rfl rfl hsz rfl (lv_room hW) hd hc) k
  · exact c_calli F G (va_runSU (As := []) (rest := rest) (C := RX10) (hK.1 10 _ rfl).2 ⟨hx, hb, hml, hown, hts⟩ (wC6_worth H.size y0 S Q1 h) (va_cwSU 0 hts (lw_SU q737 q730 q579 q728 q91 q750) rfl rfl rfl (by decide +kernel) hR) ⟨PC_blind, p_recv_X10 F G hy, c_pre F G⟩ rfl rfl hsz rfl (lv_room hW) hd hc) k
  · exact c_calli F G (va_runSU (As := []) (rest := rest) (C := RX11) (hK.1 11 _ rfl).2 ⟨hx, hb, hml, hown, hts⟩ (wC6_worth H.size y0 S Q1 h) (va_cwSU 0 hts (lw_SU q737 q730 q579 q728 q91 q750) rfl rfl rfl (by decide +kernel) hR) ⟨PC_blind, p_recv_X11 F G hy, c_pre F G⟩ rfl rfl hsz rfl (lv_room hW) hd hc) k
/-! StrokesHeard$Quarters.worth -/
def C7_worth (y0 : Nat) (S : CS) (Q : Int32 → CS → Prop) : Prop := ∃ (κ_3 : Nat) (fs_4 : List Value), κ_3 < 6 ∧ has S y0 (.inr (6 + κ_3, fs_4)) ∧ C6_worth y0 S (fun r_1 S_2 => Q (r_1 + 4) S_2)
abbrev rmX7_worth : Room := { frames := 1, cells := 0, slots := 0, locals := 20 }
set_option maxHeartbeats 4000000 in
set_option maxRecDepth 100000 in
theorem wC7_worth {l : Launch} {D : va_G} {a : Nat → Nat} {d : Nat → ClassId} (sz : Nat) (y0 : Nat) (S : CS) (Q : Int32 → CS → Prop) (h : C7_worth y0 S Q) : CMi l D a d yX7_worth cX7_worth 1 .int rmX7_worth 0 0 [.ref y0] sz S Q := by
  refine c_enter (Qc := fun A => va_Qi Q (BC D a d A) A) RX7 (by decide +kernel) rfl (Nat.le_of_ble_eq_true rfl) ?_
  intro p e s m below meth c ls A hmn F hG hl
  have G := hG
  have hl : lv_has ls 1 [(0, .ref y0)] := hl
  obtain ⟨hx, hb, hr, hml, hown, hts, hlocks, hA, hK, hN⟩ := id F
  unfold C7_worth at h
  refine lv_aload_n hx hb dX7_worth_0 rfl (lv_at hl 0 rfl) ?_
  obtain ⟨κ_3, fs_4, q_5, z_6, h⟩ := h
  refine kuX7_worth F G q_5 z_6 hl.1 ⟨(Nat.le_of_ble_eq_true rfl), (Nat.le_of_ble_eq_true rfl)⟩ ⟨(Nat.le_of_ble_eq_true rfl), (Nat.le_of_ble_eq_true rfl)⟩ (Nat.le_of_ble_eq_true rfl) dX7_worth_1 h (fun r_1 S_2 H locs G h => ?_)
  refine lv_iconst (v := 4) hx hb dX7_worth_4 (by decide) ?_
  refine lv_iadd hx hb dX7_worth_5 ?_
  exact c_iret F G dX7_worth_6 h
set_option maxHeartbeats 4000000 in
set_option maxRecDepth 100000 in
theorem kuX8_worth {p : Program} {l : Launch} {e : Env} {s : State} {m : MethodId} {R : Room} {args : Array Value} {below : List Frame} {meth : Method} {c : Code} {D : va_G} {a : Nat → Nat} {d : Nat → ClassId} {A : Nat → Prop} {Q : State → Prop} {cc : ByteArray} {nL pc cells slots κ : Nat} {fs0 : List Value} {ret : Option FieldType} {ls : Array Slot} {rest : List Value} {y0 : Nat} {S : CS} {H : Heap} {locs : List Loc} {Q1 : Int32 → CS → Prop} (F : FC p s m meth c args D a d A RX8 cc nL ret) (G : GC D a d A s.heap S H locs) (hκ : κ < 6) (hy : has S y0 (.inr (6 + κ, fs0))) (hsz : ls.size = nL) (hR : 0 + 1 ≤ R.frames ∧ 20 ≤ R.locals) (hc : cells + 0 ≤ R.cells ∧ slots + 0 ≤ R.slots) (hW : (rest.map fun v => v.category).sum ≤ 8) (hd : decode cc pc = .ok (.invokespecial 19, 3)) (h : C6_worth y0 S Q1) (k : ∀ (r : Int32) (S1 : CS) (H : Heap) (locs : List Loc), GC D a d A s.heap S1 H locs → Q1 r S1 → W p l e R s m args below meth c H locs cells slots Q (F0 m (pc + 3) ls (.int r :: rest))) : W p l e R s m args below meth c H locs cells slots Q (F0 m pc ls (.ref y0 :: rest)) := by
  obtain ⟨hx, hb, hr, hml, hown, hts, hlocks, hA, hK, hN⟩ := id F
  obtain rfl | rfl | rfl | rfl | rfl | rfl : κ = 0 ∨ κ = 1 ∨ κ = 2 ∨ κ = 3 ∨ κ = 4 ∨ κ = 5 := by omega
  · exact c_calli F G (va_runSU (As := []) (rest := rest) (C := RX6) (hK.1 6 _ rfl).2 ⟨hx, hb, hml, hown, hts⟩ (wC6_worth H.size y0 S Q1 h) (va_cwSU 0 hts (lw_SU q744 q730 q588 q728 q91 q750) rfl rfl rfl (by decide +kernel) hR) ⟨PC_blind, p_recv_X6 F G hy, c_pre F G⟩ rfl rfl hsz rfl (lv_room hW) hd hc) k
  · exact c_calli F G (va_runSU (As := []) (rest := rest) (C := RX7) (hK.1 7 _ rfl).2 ⟨hx, hb, hml, hown, hts⟩ (wC6_worth H.size y0 S Q1 h) (va_cwSU 0 hts (lw_SU q744 q730 q588 q728 q91 q750) rfl rfl rfl (by decide +kernel) hR) ⟨PC_blind, p_recv_X7 F G hy, c_pre F G⟩ rfl rfl hsz rfl (lv_room hW) hd hc) k
  · exact c_calli F G (va_runSU (As := []) (rest := rest) (C := RX8) (hK.1 8 _ rfl).2 ⟨hx, hb, hml, hown, hts⟩ (wC6_worth H.size y0 S Q1 h) (va_cwSU 0 hts (lw_SU q744 q730 q588 q728 q91 q750) rfl rfl rfl (by decide +kernel) hR) ⟨PC_blind, p_recv_X8 F G hy, c_pre F G⟩ rfl rfl hsz rfl (lv_room hW) hd hc) k
  · exact c_calli F G (va_runSU (As := []) (rest := rest) (C := RX9) (hK.1 9 _ rfl).2 ⟨hx, hb, hml, hown, hts⟩ (wC6_worth H.size y0 S Q1 h) (va_cwSU 0 hts (lw_SU q744 q730 q588 q728 q91 q750) rfl rfl rfl (by decide +kernel) hR) ⟨PC_blind, p_recv_X9 F G hy, c_pre F G⟩ rfl rfl hsz rfl (lv_room hW) hd hc) k
  · exact c_calli F G (va_runSU (As := []) (rest := rest) (C := RX10) (hK.1 10 _ rfl).2 ⟨hx, hb, hml, hown, hts⟩ (wC6_worth H.size y0 S Q1 h) (va_cwSU 0 hts (lw_SU q744 q730 q588 q728 q91 q750) rfl rfl rfl (by decide +kernel) hR) ⟨PC_blind, p_recv_X10 F G hy, c_pre F G⟩ rfl rfl hsz rfl (lv_room hW) hd hc) k
  · exact c_calli F G (va_runSU (As := []) (rest := rest) (C := RX11) (hK.1 11 _ rfl).2 ⟨hx, hb, hml, hown, hts⟩ (wC6_worth H.size y0 S Q1 h) (va_cwSU 0 hts (lw_SU q744 q730 q588 q728 q91 q750) rfl rfl rfl (by decide +kernel) hR) ⟨PC_blind, p_recv_X11 F G hy, c_pre F G⟩ rfl rfl hsz rfl (lv_room hW) hd hc) k
/-! StrokesHeard$Twice.worth -/
def C8_worth (y0 : Nat) (S : CS) (Q : Int32 → CS → Prop) : Prop := ∃ (κ_3 : Nat) (fs_4 : List Value), κ_3 < 6 ∧ has S y0 (.inr (6 + κ_3, fs_4)) ∧ C6_worth y0 S (fun r_1 S_2 => Q (60 - r_1) S_2)
abbrev rmX8_worth : Room := { frames := 1, cells := 0, slots := 0, locals := 20 }
set_option maxHeartbeats 4000000 in
set_option maxRecDepth 100000 in
theorem wC8_worth {l : Launch} {D : va_G} {a : Nat → Nat} {d : Nat → ClassId} (sz : Nat) (y0 : Nat) (S : CS) (Q : Int32 → CS → Prop) (h : C8_worth y0 S Q) : CMi l D a d yX8_worth cX8_worth 1 .int rmX8_worth 0 0 [.ref y0] sz S Q := by
  refine c_enter (Qc := fun A => va_Qi Q (BC D a d A) A) RX8 (by decide +kernel) rfl (Nat.le_of_ble_eq_true rfl) ?_
  intro p e s m below meth c ls A hmn F hG hl
  have G := hG
  have hl : lv_has ls 1 [(0, .ref y0)] := hl
  obtain ⟨hx, hb, hr, hml, hown, hts, hlocks, hA, hK, hN⟩ := id F
  unfold C8_worth at h
  refine lv_bipush (v := 60) hx hb dX8_worth_0 (by decide) ?_
  refine lv_aload_n hx hb dX8_worth_2 rfl (lv_at hl 0 rfl) ?_
  obtain ⟨κ_3, fs_4, q_5, z_6, h⟩ := h
  refine kuX8_worth F G q_5 z_6 hl.1 ⟨(Nat.le_of_ble_eq_true rfl), (Nat.le_of_ble_eq_true rfl)⟩ ⟨(Nat.le_of_ble_eq_true rfl), (Nat.le_of_ble_eq_true rfl)⟩ (Nat.le_of_ble_eq_true rfl) dX8_worth_3 h (fun r_1 S_2 H locs G h => ?_)
  refine lv_isub hx hb dX8_worth_6 ?_
  exact c_iret F G dX8_worth_7 h
set_option maxHeartbeats 4000000 in
set_option maxRecDepth 100000 in
theorem kuX9_worth {p : Program} {l : Launch} {e : Env} {s : State} {m : MethodId} {R : Room} {args : Array Value} {below : List Frame} {meth : Method} {c : Code} {D : va_G} {a : Nat → Nat} {d : Nat → ClassId} {A : Nat → Prop} {Q : State → Prop} {cc : ByteArray} {nL pc cells slots κ : Nat} {fs0 : List Value} {ret : Option FieldType} {ls : Array Slot} {rest : List Value} {y0 : Nat} {S : CS} {H : Heap} {locs : List Loc} {Q1 : Int32 → CS → Prop} (F : FC p s m meth c args D a d A RX9 cc nL ret) (G : GC D a d A s.heap S H locs) (hκ : κ < 6) (hy : has S y0 (.inr (6 + κ, fs0))) (hsz : ls.size = nL) (hR : 1 + 1 ≤ R.frames ∧ 40 ≤ R.locals) (hc : cells + 0 ≤ R.cells ∧ slots + 0 ≤ R.slots) (hW : (rest.map fun v => v.category).sum ≤ 8) (hd : decode cc pc = .ok (.invokespecial 15, 3)) (h : C7_worth y0 S Q1) (k : ∀ (r : Int32) (S1 : CS) (H : Heap) (locs : List Loc), GC D a d A s.heap S1 H locs → Q1 r S1 → W p l e R s m args below meth c H locs cells slots Q (F0 m (pc + 3) ls (.int r :: rest))) : W p l e R s m args below meth c H locs cells slots Q (F0 m pc ls (.ref y0 :: rest)) := by
  obtain ⟨hx, hb, hr, hml, hown, hts, hlocks, hA, hK, hN⟩ := id F
  obtain rfl | rfl | rfl | rfl | rfl | rfl : κ = 0 ∨ κ = 1 ∨ κ = 2 ∨ κ = 3 ∨ κ = 4 ∨ κ = 5 := by omega
  · exact c_calli F G (va_runSU (As := []) (rest := rest) (C := RX6) (hK.1 6 _ rfl).2 ⟨hx, hb, hml, hown, hts⟩ (wC7_worth H.size y0 S Q1 h) (va_cwSU 0 hts (lw_SU q748 q1695 q597 q735 q92 q736) rfl rfl rfl (by decide +kernel) hR) ⟨PC_blind, p_recv_X6 F G hy, c_pre F G⟩ rfl rfl hsz rfl (lv_room hW) hd hc) k
  · exact c_calli F G (va_runSU (As := []) (rest := rest) (C := RX7) (hK.1 7 _ rfl).2 ⟨hx, hb, hml, hown, hts⟩ (wC7_worth H.size y0 S Q1 h) (va_cwSU 0 hts (lw_SU q748 q1695 q597 q735 q92 q736) rfl rfl rfl (by decide +kernel) hR) ⟨PC_blind, p_recv_X7 F G hy, c_pre F G⟩ rfl rfl hsz rfl (lv_room hW) hd hc) k
  · exact c_calli F G (va_runSU (As := []) (rest := rest) (C := RX8) (hK.1 8 _ rfl).2 ⟨hx, hb, hml, hown, hts⟩ (wC7_worth H.size y0 S Q1 h) (va_cwSU 0 hts (lw_SU q748 q1695 q597 q735 q92 q736) rfl rfl rfl (by decide +kernel) hR) ⟨PC_blind, p_recv_X8 F G hy, c_pre F G⟩ rfl rfl hsz rfl (lv_room hW) hd hc) k
  · exact c_calli F G (va_runSU (As := []) (rest := rest) (C := RX9) (hK.1 9 _ rfl).2 ⟨hx, hb, hml, hown, hts⟩ (wC7_worth H.size y0 S Q1 h) (va_cwSU 0 hts (lw_SU q748 q1695 q597 q735 q92 q736) rfl rfl rfl (by decide +kernel) hR) ⟨PC_blind, p_recv_X9 F G hy, c_pre F G⟩ rfl rfl hsz rfl (lv_room hW) hd hc) k
  · exact c_calli F G (va_runSU (As := []) (rest := rest) (C := RX10) (hK.1 10 _ rfl).2 ⟨hx, hb, hml, hown, hts⟩ (wC7_worth H.size y0 S Q1 h) (va_cwSU 0 hts (lw_SU q748 q1695 q597 q735 q92 q736) rfl rfl rfl (by decide +kernel) hR) ⟨PC_blind, p_recv_X10 F G hy, c_pre F G⟩ rfl rfl hsz rfl (lv_room hW) hd hc) k
  · exact c_calli F G (va_runSU (As := []) (rest := rest) (C := RX11) (hK.1 11 _ rfl).2 ⟨hx, hb, hml, hown, hts⟩ (wC7_worth H.size y0 S Q1 h) (va_cwSU 0 hts (lw_SU q748 q1695 q597 q735 q92 q736) rfl rfl rfl (by decide +kernel) hR) ⟨PC_blind, p_recv_X11 F G hy, c_pre F G⟩ rfl rfl hsz rfl (lv_room hW) hd hc) k
/-! StrokesHeard$Tune.worth -/
def C9_worth (y0 : Nat) (S : CS) (Q : Int32 → CS → Prop) : Prop := ∃ (κ_3 : Nat) (fs_4 : List Value), κ_3 < 6 ∧ has S y0 (.inr (6 + κ_3, fs_4)) ∧ C7_worth y0 S (fun r_1 S_2 => Q (2 * r_1) S_2)
abbrev rmX9_worth : Room := { frames := 2, cells := 0, slots := 0, locals := 40 }
set_option maxHeartbeats 4000000 in
set_option maxRecDepth 100000 in
theorem wC9_worth {l : Launch} {D : va_G} {a : Nat → Nat} {d : Nat → ClassId} (sz : Nat) (y0 : Nat) (S : CS) (Q : Int32 → CS → Prop) (h : C9_worth y0 S Q) : CMi l D a d yX9_worth cX9_worth 1 .int rmX9_worth 0 0 [.ref y0] sz S Q := by
  refine c_enter (Qc := fun A => va_Qi Q (BC D a d A) A) RX9 (by decide +kernel) rfl (Nat.le_of_ble_eq_true rfl) ?_
  intro p e s m below meth c ls A hmn F hG hl
  have G := hG
  have hl : lv_has ls 1 [(0, .ref y0)] := hl
  obtain ⟨hx, hb, hr, hml, hown, hts, hlocks, hA, hK, hN⟩ := id F
  unfold C9_worth at h
  refine lv_iconst (v := 2) hx hb dX9_worth_0 (by decide) ?_
  refine lv_aload_n hx hb dX9_worth_1 rfl (lv_at hl 0 rfl) ?_
  obtain ⟨κ_3, fs_4, q_5, z_6, h⟩ := h
  refine kuX9_worth F G q_5 z_6 hl.1 ⟨(Nat.le_of_ble_eq_true rfl), (Nat.le_of_ble_eq_true rfl)⟩ ⟨(Nat.le_of_ble_eq_true rfl), (Nat.le_of_ble_eq_true rfl)⟩ (Nat.le_of_ble_eq_true rfl) dX9_worth_2 h (fun r_1 S_2 H locs G h => ?_)
  refine lv_imul hx hb dX9_worth_5 ?_
  exact c_iret F G dX9_worth_6 h
set_option maxHeartbeats 4000000 in
set_option maxRecDepth 100000 in
theorem kuX10_worth {p : Program} {l : Launch} {e : Env} {s : State} {m : MethodId} {R : Room} {args : Array Value} {below : List Frame} {meth : Method} {c : Code} {D : va_G} {a : Nat → Nat} {d : Nat → ClassId} {A : Nat → Prop} {Q : State → Prop} {cc : ByteArray} {nL pc cells slots κ : Nat} {fs0 : List Value} {ret : Option FieldType} {ls : Array Slot} {rest : List Value} {y0 : Nat} {S : CS} {H : Heap} {locs : List Loc} {Q1 : Int32 → CS → Prop} (F : FC p s m meth c args D a d A RX10 cc nL ret) (G : GC D a d A s.heap S H locs) (hκ : κ < 6) (hy : has S y0 (.inr (6 + κ, fs0))) (hsz : ls.size = nL) (hR : 1 + 1 ≤ R.frames ∧ 40 ≤ R.locals) (hc : cells + 0 ≤ R.cells ∧ slots + 0 ≤ R.slots) (hW : (rest.map fun v => v.category).sum ≤ 8) (hd : decode cc pc = .ok (.invokespecial 15, 3)) (h : C8_worth y0 S Q1) (k : ∀ (r : Int32) (S1 : CS) (H : Heap) (locs : List Loc), GC D a d A s.heap S1 H locs → Q1 r S1 → W p l e R s m args below meth c H locs cells slots Q (F0 m (pc + 3) ls (.int r :: rest))) : W p l e R s m args below meth c H locs cells slots Q (F0 m pc ls (.ref y0 :: rest)) := by
  obtain ⟨hx, hb, hr, hml, hown, hts, hlocks, hA, hK, hN⟩ := id F
  obtain rfl | rfl | rfl | rfl | rfl | rfl : κ = 0 ∨ κ = 1 ∨ κ = 2 ∨ κ = 3 ∨ κ = 4 ∨ κ = 5 := by omega
  · exact c_calli F G (va_runSU (As := []) (rest := rest) (C := RX6) (hK.1 6 _ rfl).2 ⟨hx, hb, hml, hown, hts⟩ (wC8_worth H.size y0 S Q1 h) (va_cwSU 0 hts (lw_SU q741 q1694 q606 q742 q93 q743) rfl rfl rfl (by decide +kernel) hR) ⟨PC_blind, p_recv_X6 F G hy, c_pre F G⟩ rfl rfl hsz rfl (lv_room hW) hd hc) k
  · exact c_calli F G (va_runSU (As := []) (rest := rest) (C := RX7) (hK.1 7 _ rfl).2 ⟨hx, hb, hml, hown, hts⟩ (wC8_worth H.size y0 S Q1 h) (va_cwSU 0 hts (lw_SU q741 q1694 q606 q742 q93 q743) rfl rfl rfl (by decide +kernel) hR) ⟨PC_blind, p_recv_X7 F G hy, c_pre F G⟩ rfl rfl hsz rfl (lv_room hW) hd hc) k
  · exact c_calli F G (va_runSU (As := []) (rest := rest) (C := RX8) (hK.1 8 _ rfl).2 ⟨hx, hb, hml, hown, hts⟩ (wC8_worth H.size y0 S Q1 h) (va_cwSU 0 hts (lw_SU q741 q1694 q606 q742 q93 q743) rfl rfl rfl (by decide +kernel) hR) ⟨PC_blind, p_recv_X8 F G hy, c_pre F G⟩ rfl rfl hsz rfl (lv_room hW) hd hc) k
  · exact c_calli F G (va_runSU (As := []) (rest := rest) (C := RX9) (hK.1 9 _ rfl).2 ⟨hx, hb, hml, hown, hts⟩ (wC8_worth H.size y0 S Q1 h) (va_cwSU 0 hts (lw_SU q741 q1694 q606 q742 q93 q743) rfl rfl rfl (by decide +kernel) hR) ⟨PC_blind, p_recv_X9 F G hy, c_pre F G⟩ rfl rfl hsz rfl (lv_room hW) hd hc) k
  · exact c_calli F G (va_runSU (As := []) (rest := rest) (C := RX10) (hK.1 10 _ rfl).2 ⟨hx, hb, hml, hown, hts⟩ (wC8_worth H.size y0 S Q1 h) (va_cwSU 0 hts (lw_SU q741 q1694 q606 q742 q93 q743) rfl rfl rfl (by decide +kernel) hR) ⟨PC_blind, p_recv_X10 F G hy, c_pre F G⟩ rfl rfl hsz rfl (lv_room hW) hd hc) k
  · exact c_calli F G (va_runSU (As := []) (rest := rest) (C := RX11) (hK.1 11 _ rfl).2 ⟨hx, hb, hml, hown, hts⟩ (wC8_worth H.size y0 S Q1 h) (va_cwSU 0 hts (lw_SU q741 q1694 q606 q742 q93 q743) rfl rfl rfl (by decide +kernel) hR) ⟨PC_blind, p_recv_X11 F G hy, c_pre F G⟩ rfl rfl hsz rfl (lv_room hW) hd hc) k
/-! StrokesHeard$Sign.worth -/
def C10_worth (y0 : Nat) (S : CS) (Q : Int32 → CS → Prop) : Prop := ∃ (κ_3 : Nat) (fs_4 : List Value), κ_3 < 6 ∧ has S y0 (.inr (6 + κ_3, fs_4)) ∧ C8_worth y0 S (fun r_1 S_2 => Q (r_1 - 5) S_2)
abbrev rmX10_worth : Room := { frames := 2, cells := 0, slots := 0, locals := 40 }
set_option maxHeartbeats 4000000 in
set_option maxRecDepth 100000 in
theorem wC10_worth {l : Launch} {D : va_G} {a : Nat → Nat} {d : Nat → ClassId} (sz : Nat) (y0 : Nat) (S : CS) (Q : Int32 → CS → Prop) (h : C10_worth y0 S Q) : CMi l D a d yX10_worth cX10_worth 1 .int rmX10_worth 0 0 [.ref y0] sz S Q := by
  refine c_enter (Qc := fun A => va_Qi Q (BC D a d A) A) RX10 (by decide +kernel) rfl (Nat.le_of_ble_eq_true rfl) ?_
  intro p e s m below meth c ls A hmn F hG hl
  have G := hG
  have hl : lv_has ls 1 [(0, .ref y0)] := hl
  obtain ⟨hx, hb, hr, hml, hown, hts, hlocks, hA, hK, hN⟩ := id F
  unfold C10_worth at h
  refine lv_aload_n hx hb dX10_worth_0 rfl (lv_at hl 0 rfl) ?_
  obtain ⟨κ_3, fs_4, q_5, z_6, h⟩ := h
  refine kuX10_worth F G q_5 z_6 hl.1 ⟨(Nat.le_of_ble_eq_true rfl), (Nat.le_of_ble_eq_true rfl)⟩ ⟨(Nat.le_of_ble_eq_true rfl), (Nat.le_of_ble_eq_true rfl)⟩ (Nat.le_of_ble_eq_true rfl) dX10_worth_1 h (fun r_1 S_2 H locs G h => ?_)
  refine lv_iconst (v := 5) hx hb dX10_worth_4 (by decide) ?_
  refine lv_isub hx hb dX10_worth_5 ?_
  exact c_iret F G dX10_worth_6 h
/-! StrokesHeard$Cuckoo.worth -/
def C11_worth (y0 : Nat) (S : CS) (Q : Int32 → CS → Prop) : Prop := Q 2 S
abbrev rmX11_worth : Room := { frames := 0, cells := 0, slots := 0, locals := 0 }
set_option maxHeartbeats 4000000 in
set_option maxRecDepth 100000 in
theorem wC11_worth {l : Launch} {D : va_G} {a : Nat → Nat} {d : Nat → ClassId} (sz : Nat) (y0 : Nat) (S : CS) (Q : Int32 → CS → Prop) (h : C11_worth y0 S Q) : CMi l D a d yX11_worth cX11_worth 1 .int rmX11_worth 0 0 [.ref y0] sz S Q := by
  refine c_enter (Qc := fun A => va_Qi Q (BC D a d A) A) RX11 (by decide +kernel) rfl (Nat.le_of_ble_eq_true rfl) ?_
  intro p e s m below meth c ls A hmn F hG hl
  have G := hG
  have hl : lv_has ls 1 [(0, .ref y0)] := hl
  obtain ⟨hx, hb, hr, hml, hown, hts, hlocks, hA, hK, hN⟩ := id F
  unfold C11_worth at h
  refine lv_iconst (v := 2) hx hb dX11_worth_0 (by decide) ?_
  exact c_iret F G dX11_worth_1 h
def CV_worth (κ : Nat) (y0 : Nat) (S : CS) (Q : Int32 → CS → Prop) : Prop := match κ with
  | 0 => C6_worth y0 S Q
  | 1 => C7_worth y0 S Q
  | 2 => C8_worth y0 S Q
  | 3 => C9_worth y0 S Q
  | 4 => C10_worth y0 S Q
  | _ => C11_worth y0 S Q
set_option maxHeartbeats 4000000 in
set_option maxRecDepth 100000 in
theorem kvX0_worth {p : Program} {l : Launch} {e : Env} {s : State} {m : MethodId} {R : Room} {args : Array Value} {below : List Frame} {meth : Method} {c : Code} {D : va_G} {a : Nat → Nat} {d : Nat → ClassId} {A : Nat → Prop} {Q : State → Prop} {cc : ByteArray} {nL pc cells slots κ : Nat} {fs0 : List Value} {ret : Option FieldType} {ls : Array Slot} {rest : List Value} {y0 : Nat} {S : CS} {H : Heap} {locs : List Loc} {Q1 : Int32 → CS → Prop} (F : FC p s m meth c args D a d A RX0 cc nL ret) (G : GC D a d A s.heap S H locs) (hκ : κ < 6) (hy : has S y0 (.inr (6 + κ, fs0))) (hsz : ls.size = nL) (hR : 2 + 1 ≤ R.frames ∧ 60 ≤ R.locals) (hc : cells + 0 ≤ R.cells ∧ slots + 0 ≤ R.slots) (hW : (rest.map fun v => v.category).sum ≤ 8) (hd : decode cc pc = .ok (.invokevirtual 318, 3)) (h : CV_worth κ y0 S Q1) (k : ∀ (r : Int32) (S1 : CS) (H : Heap) (locs : List Loc), GC D a d A s.heap S1 H locs → Q1 r S1 → W p l e R s m args below meth c H locs cells slots Q (F0 m (pc + 3) ls (.int r :: rest))) : W p l e R s m args below meth c H locs cells slots Q (F0 m pc ls (.ref y0 :: rest)) := by
  obtain ⟨hx, hb, hr, hml, hown, hts, hlocks, hA, hK, hN⟩ := id F
  obtain rfl | rfl | rfl | rfl | rfl | rfl : κ = 0 ∨ κ = 1 ∨ κ = 2 ∨ κ = 3 ∨ κ = 4 ∨ κ = 5 := by omega
  · exact c_calli F G (va_runU (As := []) (rest := rest) ⟨hx, hb, hml, hown, hts⟩ (wC6_worth H.size y0 S Q1 h) (va_cwO (C := RX6) (owner := RX6) 0 hts (lw_O q727 q730 q728 q729 q728 q91 q750) rfl rfl rfl q750 (by decide +kernel) ⟨Nat.le_trans (Nat.le_of_ble_eq_true rfl) hR.1, Nat.le_trans (Nat.le_of_ble_eq_true rfl) hR.2⟩) ⟨PC_blind, p_recv_X6 F G hy, c_pre F G⟩ rfl rfl hsz rfl (lv_room hW) hd hc) k
  · exact c_calli F G (va_runU (As := []) (rest := rest) ⟨hx, hb, hml, hown, hts⟩ (wC7_worth H.size y0 S Q1 h) (va_cwO (C := RX7) (owner := RX6) 0 hts (lw_O q727 q730 q728 q734 q735 q92 q736) rfl rfl rfl q750 (by decide +kernel) ⟨Nat.le_trans (Nat.le_of_ble_eq_true rfl) hR.1, Nat.le_trans (Nat.le_of_ble_eq_true rfl) hR.2⟩) ⟨PC_blind, p_recv_X7 F G hy, c_pre F G⟩ rfl rfl hsz rfl (lv_room hW) hd hc) k
  · exact c_calli F G (va_runU (As := []) (rest := rest) ⟨hx, hb, hml, hown, hts⟩ (wC8_worth H.size y0 S Q1 h) (va_cwO (C := RX8) (owner := RX6) 0 hts (lw_O q727 q730 q728 q749 q742 q93 q743) rfl rfl rfl q750 (by decide +kernel) ⟨Nat.le_trans (Nat.le_of_ble_eq_true rfl) hR.1, Nat.le_trans (Nat.le_of_ble_eq_true rfl) hR.2⟩) ⟨PC_blind, p_recv_X8 F G hy, c_pre F G⟩ rfl rfl hsz rfl (lv_room hW) hd hc) k
  · exact c_calli F G (va_runU (As := []) (rest := rest) ⟨hx, hb, hml, hown, hts⟩ (wC9_worth H.size y0 S Q1 h) (va_cwO (C := RX9) (owner := RX6) 0 hts (lw_O q727 q730 q728 q745 q746 q94 q747) rfl rfl rfl q750 (by decide +kernel) ⟨Nat.le_trans (Nat.le_of_ble_eq_true rfl) hR.1, Nat.le_trans (Nat.le_of_ble_eq_true rfl) hR.2⟩) ⟨PC_blind, p_recv_X9 F G hy, c_pre F G⟩ rfl rfl hsz rfl (lv_room hW) hd hc) k
  · exact c_calli F G (va_runU (As := []) (rest := rest) ⟨hx, hb, hml, hown, hts⟩ (wC10_worth H.size y0 S Q1 h) (va_cwO (C := RX10) (owner := RX6) 0 hts (lw_O q727 q730 q728 q738 q739 q95 q740) rfl rfl rfl q750 (by decide +kernel) ⟨Nat.le_trans (Nat.le_of_ble_eq_true rfl) hR.1, Nat.le_trans (Nat.le_of_ble_eq_true rfl) hR.2⟩) ⟨PC_blind, p_recv_X10 F G hy, c_pre F G⟩ rfl rfl hsz rfl (lv_room hW) hd hc) k
  · exact c_calli F G (va_runU (As := []) (rest := rest) ⟨hx, hb, hml, hown, hts⟩ (wC11_worth H.size y0 S Q1 h) (va_cwO (C := RX11) (owner := RX6) 0 hts (lw_O q727 q730 q728 q731 q732 q96 q733) rfl rfl rfl q750 (by decide +kernel) ⟨Nat.le_trans (Nat.le_of_ble_eq_true rfl) hR.1, Nat.le_trans (Nat.le_of_ble_eq_true rfl) hR.2⟩) ⟨PC_blind, p_recv_X11 F G hy, c_pre F G⟩ rfl rfl hsz rfl (lv_room hW) hd hc) k
/-! StrokesHeard.told -/
def C0_told (v1 : Int32) (v2 : Int32) (S : CS) (Q : Int32 → CS → Prop) : Prop := C0_isClock v1 S (fun r_1 S_2 => (¬ r_1 = 0 → vp_in v1 6 ∧ (∃ y_5 : Nat, (S_2.2.1 5 v1.toNatClampNeg) = some y_5 ∧ ((v2 = 0 → ∃ (κ_9 : Nat) (fs_10 : List Value), κ_9 < 6 ∧ has S_2 y_5 (.inr (6 + κ_9, fs_10)) ∧ CV_kind κ_9 y_5 S_2 (fun r_7 S_8 => Q r_7 S_8)) ∧ (v2 = 1 → ∃ (κ_17 : Nat) (fs_14 : List Value) (i_19 : Int32), κ_17 < 6 ∧ has S_2 y_5 (.inr (6 + κ_17, fs_14)) ∧ fs_14[0]? = some (.int i_19) ∧ (Q i_19 S_2)) ∧ (v2 = 2 → ∃ (κ_24 : Nat) (fs_21 : List Value) (i_26 : Int32), κ_24 < 6 ∧ has S_2 y_5 (.inr (6 + κ_24, fs_21)) ∧ fs_21[1]? = some (.int i_26) ∧ (Q i_26 S_2)) ∧ (v2 = 3 → C0_timeNow  S_2 (fun r_28 S_29 => C0_strokesOf y_5 r_28 S_29 (fun r_30 S_31 => Q r_30 S_31))) ∧ (v2 = 4 → C0_inAll y_5 S_2 (fun r_33 S_34 => Q r_33 S_34)) ∧ (v2 = 5 → ∃ (κ_38 : Nat) (fs_39 : List Value), κ_38 < 6 ∧ has S_2 y_5 (.inr (6 + κ_38, fs_39)) ∧ CV_worth κ_38 y_5 S_2 (fun r_36 S_37 => Q r_36 S_37)) ∧ (¬ v2 = 0 → ¬ v2 = 1 → ¬ v2 = 2 → ¬ v2 = 3 → ¬ v2 = 4 → ¬ v2 = 5 → Q (-1000000001) S_2)))) ∧ (r_1 = 0 → Q (-1000000001) S_2))
abbrev rmX0_told : Room := { frames := 6, cells := 0, slots := 0, locals := 136 }
set_option maxHeartbeats 4000000 in
set_option maxRecDepth 100000 in
theorem wC0_told {l : Launch} {D : va_G} {a : Nat → Nat} {d : Nat → ClassId} (sz : Nat) (v1 : Int32) (v2 : Int32) (S : CS) (Q : Int32 → CS → Prop) (h : C0_told v1 v2 S Q) : CMi l D a d yX0_told cX0_told 4 .int rmX0_told 0 0 [.ref (a 0), .int v1, .int v2] sz S Q := by
  refine c_enter (Qc := fun A => va_Qi Q (BC D a d A) A) RX0 (by decide +kernel) rfl (Nat.le_of_ble_eq_true rfl) ?_
  intro p e s m below meth c ls A hmn F hG hl
  have G := hG
  have hl : lv_has ls 4 [(0, .ref (a 0)), (1, .int v1), (2, .int v2)] := hl
  obtain ⟨hx, hb, hr, hml, hown, hts, hlocks, hA, hK, hN⟩ := id F
  unfold C0_told at h
  refine lv_aload_n hx hb dX0_told_0 rfl (lv_at hl 0 rfl) ?_
  refine lv_iload_n hx hb dX0_told_1 rfl (lv_at hl 1 rfl) ?_
  refine kX0_C0_isClock F G hl.1 ⟨(Nat.le_of_ble_eq_true rfl), (Nat.le_of_ble_eq_true rfl)⟩ ⟨(Nat.le_of_ble_eq_true rfl), (Nat.le_of_ble_eq_true rfl)⟩ (Nat.le_of_ble_eq_true rfl) dX0_told_2 h (fun r_1 S_2 H locs G h => ?_)
  refine lv_if_ne (tgt := 11) hx hb dX0_told_5 (by decide) (fun c_3 => ?_) (fun c_3 => ?_)
  · replace h := h.1 c_3
    refine lv_aload_n hx hb dX0_told_11 rfl (lv_at hl 0 rfl) ?_
    refine cgX0_0_now F G dX0_told_12 ?_
    refine cgX0_1_clock F G dX0_told_15 ?_
    refine lv_iload_n hx hb dX0_told_18 rfl (lv_at hl 1 rfl) ?_
    obtain ⟨b_4, h⟩ := h
    refine c_aaload F G cR_5 rfl b_4 dX0_told_19 ?_
    obtain ⟨y_5, hy_5, h⟩ := h
    refine c_nn hy_5 ?_
    refine lv_astore_n (lv' := [(3, .ref y_5), (0, .ref (a 0)), (1, .int v1), (2, .int v2)]) hx hb dX0_told_20 rfl hl (by decide) rfl (fun ls hl => ?_)
    refine lv_iload_n hx hb dX0_told_21 rfl (lv_at hl 3 rfl) ?_
    by_cases c_6 : v2 = 0
    · replace h := h.1 c_6
      refine m_tsIn (k := 0) (off := 38) (tgt := 60) hx hb dX0_told_22 c_6 (by decide) (by decide) (by decide) (by decide) ?_
      refine lv_aload_n hx hb dX0_told_60 rfl (lv_at hl 0 rfl) ?_
      obtain ⟨κ_9, fs_10, q_11, z_12, h⟩ := h
      refine kvX0_kind F G q_11 z_12 hl.1 ⟨(Nat.le_of_ble_eq_true rfl), (Nat.le_of_ble_eq_true rfl)⟩ ⟨(Nat.le_of_ble_eq_true rfl), (Nat.le_of_ble_eq_true rfl)⟩ (Nat.le_of_ble_eq_true rfl) dX0_told_61 h (fun r_7 S_8 H locs G h => ?_)
      exact c_iret F G dX0_told_64 h
    by_cases c_13 : v2 = 1
    · replace h := h.2.1 c_13
      refine m_tsIn (k := 1) (off := 43) (tgt := 65) hx hb dX0_told_22 c_13 (by decide) (by decide) (by decide) (by decide) ?_
      refine lv_aload_n hx hb dX0_told_65 rfl (lv_at hl 0 rfl) ?_
      obtain ⟨κ_17, fs_14, i_19, q_18, z_15, u_16, h⟩ := h
      refine pgX0_X6_off F G q_18 z_15 u_16 dX0_told_66 ?_
      exact c_iret F G dX0_told_69 h
    by_cases c_20 : v2 = 2
    · replace h := h.2.2.1 c_20
      refine m_tsIn (k := 2) (off := 48) (tgt := 70) hx hb dX0_told_22 c_20 (by decide) (by decide) (by decide) (by decide) ?_
      refine lv_aload_n hx hb dX0_told_70 rfl (lv_at hl 0 rfl) ?_
      obtain ⟨κ_24, fs_21, i_26, q_25, z_22, u_23, h⟩ := h
      refine pgX0_X6_tone F G q_25 z_22 u_23 dX0_told_71 ?_
      exact c_iret F G dX0_told_74 h
    by_cases c_27 : v2 = 3
    · replace h := h.2.2.2.1 c_27
      refine m_tsIn (k := 3) (off := 53) (tgt := 75) hx hb dX0_told_22 c_27 (by decide) (by decide) (by decide) (by decide) ?_
      refine lv_aload_n hx hb dX0_told_75 rfl (lv_at hl 1 rfl) ?_
      refine lv_aload_n hx hb dX0_told_76 rfl (lv_at hl 0 rfl) ?_
      refine lv_aload_n hx hb dX0_told_77 rfl (lv_at hl 1 rfl) ?_
      refine kX0_C0_timeNow F G hl.1 ⟨(Nat.le_of_ble_eq_true rfl), (Nat.le_of_ble_eq_true rfl)⟩ ⟨(Nat.le_of_ble_eq_true rfl), (Nat.le_of_ble_eq_true rfl)⟩ (Nat.le_of_ble_eq_true rfl) dX0_told_78 h (fun r_28 S_29 H locs G h => ?_)
      refine kX0_C0_strokesOf F G hl.1 ⟨(Nat.le_of_ble_eq_true rfl), (Nat.le_of_ble_eq_true rfl)⟩ ⟨(Nat.le_of_ble_eq_true rfl), (Nat.le_of_ble_eq_true rfl)⟩ (Nat.le_of_ble_eq_true rfl) dX0_told_81 h (fun r_30 S_31 H locs G h => ?_)
      exact c_iret F G dX0_told_84 h
    by_cases c_32 : v2 = 4
    · replace h := h.2.2.2.2.1 c_32
      refine m_tsIn (k := 4) (off := 63) (tgt := 85) hx hb dX0_told_22 c_32 (by decide) (by decide) (by decide) (by decide) ?_
      refine lv_aload_n hx hb dX0_told_85 rfl (lv_at hl 1 rfl) ?_
      refine lv_aload_n hx hb dX0_told_86 rfl (lv_at hl 0 rfl) ?_
      refine kX0_C0_inAll F G hl.1 ⟨(Nat.le_of_ble_eq_true rfl), (Nat.le_of_ble_eq_true rfl)⟩ ⟨(Nat.le_of_ble_eq_true rfl), (Nat.le_of_ble_eq_true rfl)⟩ (Nat.le_of_ble_eq_true rfl) dX0_told_87 h (fun r_33 S_34 H locs G h => ?_)
      exact c_iret F G dX0_told_90 h
    by_cases c_35 : v2 = 5
    · replace h := h.2.2.2.2.2.1 c_35
      refine m_tsIn (k := 5) (off := 69) (tgt := 91) hx hb dX0_told_22 c_35 (by decide) (by decide) (by decide) (by decide) ?_
      refine lv_aload_n hx hb dX0_told_91 rfl (lv_at hl 0 rfl) ?_
      obtain ⟨κ_38, fs_39, q_40, z_41, h⟩ := h
      refine kvX0_worth F G q_40 z_41 hl.1 ⟨(Nat.le_of_ble_eq_true rfl), (Nat.le_of_ble_eq_true rfl)⟩ ⟨(Nat.le_of_ble_eq_true rfl), (Nat.le_of_ble_eq_true rfl)⟩ (Nat.le_of_ble_eq_true rfl) dX0_told_92 h (fun r_36 S_37 H locs G h => ?_)
      exact c_iret F G dX0_told_95 h
    replace h := h.2.2.2.2.2.2 c_6 c_13 c_20 c_27 c_32 c_35
    refine m_tsD (ks := [0, 1, 2, 3, 4, 5]) (tgt := 96) hx hb dX0_told_22 (tk_cons c_6 (by decide) (tk_cons c_13 (by decide) (tk_cons c_20 (by decide) (tk_cons c_27 (by decide) (tk_cons c_32 (by decide) (tk_cons c_35 (by decide) tk_nil)))))) (by decide) (by decide) ?_
    refine lv_ldc hx hb hown (hts _ q368) dX0_told_96 ?_
    exact c_iret F G dX0_told_98 h
  · replace h := h.2 c_3
    refine lv_ldc hx hb hown (hts _ q368) dX0_told_8 ?_
    exact c_iret F G dX0_told_10 h
/-! StrokesHeard$Ringer.takes -/
def C6_takes (y0 : Nat) (y1 : Nat) (S : CS) (Q : CS → Prop) : Prop := ∃ (κ_4 : Nat) (fs_1 : List Value) (i_6 : Int32), κ_4 < 6 ∧ has S y1 (.inr (6 + κ_4, fs_1)) ∧ fs_1[0]? = some (.int i_6) ∧ (∃ (κ_10 : Nat) (fs_7 : List Value), κ_10 < 6 ∧ has S y0 (.inr (6 + κ_10, fs_7)) ∧ 0 < fs_7.length ∧ (∃ (κ_15 : Nat) (fs_12 : List Value) (i_17 : Int32), κ_15 < 6 ∧ has (cP S y0 (.inr (6 + κ_10, fs_7.set 0 (.int i_6)))) y1 (.inr (6 + κ_15, fs_12)) ∧ fs_12[1]? = some (.int i_17) ∧ (∃ (κ_21 : Nat) (fs_18 : List Value), κ_21 < 6 ∧ has (cP S y0 (.inr (6 + κ_10, fs_7.set 0 (.int i_6)))) y0 (.inr (6 + κ_21, fs_18)) ∧ 1 < fs_18.length ∧ (Q (cP (cP S y0 (.inr (6 + κ_10, fs_7.set 0 (.int i_6)))) y0 (.inr (6 + κ_21, fs_18.set 1 (.int i_17))))))))
abbrev rmX6_takes : Room := { frames := 0, cells := 0, slots := 0, locals := 0 }
set_option maxHeartbeats 4000000 in
set_option maxRecDepth 100000 in
theorem wC6_takes {l : Launch} {D : va_G} {a : Nat → Nat} {d : Nat → ClassId} (sz : Nat) (y0 : Nat) (y1 : Nat) (S : CS) (Q : CS → Prop) (h : C6_takes y0 y1 S Q) : CMv l D a d yX6_takes cX6_takes 2 rmX6_takes 0 0 [.ref y0, .ref y1] sz S Q := by
  refine c_enter (Qc := fun A => va_Qv Q (BC D a d A) A) RX6 (by decide +kernel) rfl (Nat.le_of_ble_eq_true rfl) ?_
  intro p e s m below meth c ls A hmn F hG hl
  have G := hG
  have hl : lv_has ls 2 [(0, .ref y0), (1, .ref y1)] := hl
  obtain ⟨hx, hb, hr, hml, hown, hts, hlocks, hA, hK, hN⟩ := id F
  unfold C6_takes at h
  refine lv_aload_n hx hb dX6_takes_0 rfl (lv_at hl 0 rfl) ?_
  refine lv_aload_n hx hb dX6_takes_1 rfl (lv_at hl 1 rfl) ?_
  obtain ⟨κ_4, fs_1, i_6, q_5, z_2, u_3, h⟩ := h
  refine pgX6_X6_off F G q_5 z_2 u_3 dX6_takes_2 ?_
  obtain ⟨κ_10, fs_7, q_11, z_8, u_9, h⟩ := h
  refine ppX6_X6_off F G q_11 z_8 rfl rfl u_9 dX6_takes_5 (fun H locs G => ?_)
  refine lv_aload_n hx hb dX6_takes_8 rfl (lv_at hl 0 rfl) ?_
  refine lv_aload_n hx hb dX6_takes_9 rfl (lv_at hl 1 rfl) ?_
  obtain ⟨κ_15, fs_12, i_17, q_16, z_13, u_14, h⟩ := h
  refine pgX6_X6_tone F G q_16 z_13 u_14 dX6_takes_10 ?_
  obtain ⟨κ_21, fs_18, q_22, z_19, u_20, h⟩ := h
  refine ppX6_X6_tone F G q_22 z_19 rfl rfl u_20 dX6_takes_13 (fun H locs G => ?_)
  exact c_vret F G dX6_takes_16 h
def CV_takes (κ : Nat) (y0 : Nat) (y1 : Nat) (S : CS) (Q : CS → Prop) : Prop := match κ with
  | 0 => C6_takes y0 y1 S Q
  | 1 => C6_takes y0 y1 S Q
  | 2 => C6_takes y0 y1 S Q
  | 3 => C6_takes y0 y1 S Q
  | 4 => C6_takes y0 y1 S Q
  | _ => C6_takes y0 y1 S Q
set_option maxHeartbeats 4000000 in
set_option maxRecDepth 100000 in
theorem kvX0_takes {p : Program} {l : Launch} {e : Env} {s : State} {m : MethodId} {R : Room} {args : Array Value} {below : List Frame} {meth : Method} {c : Code} {D : va_G} {a : Nat → Nat} {d : Nat → ClassId} {A : Nat → Prop} {Q : State → Prop} {cc : ByteArray} {nL pc cells slots κ : Nat} {fs0 : List Value} {ret : Option FieldType} {ls : Array Slot} {rest : List Value} {y0 : Nat} {y1 : Nat} {S : CS} {H : Heap} {locs : List Loc} {Q1 : CS → Prop} (F : FC p s m meth c args D a d A RX0 cc nL ret) (G : GC D a d A s.heap S H locs) (hκ : κ < 6) (hy : has S y0 (.inr (6 + κ, fs0))) (hsz : ls.size = nL) (hR : 0 + 1 ≤ R.frames ∧ 21 ≤ R.locals) (hc : cells + 0 ≤ R.cells ∧ slots + 0 ≤ R.slots) (hW : (rest.map fun v => v.category).sum ≤ 8) (hd : decode cc pc = .ok (.invokevirtual 328, 3)) (h : CV_takes κ y0 y1 S Q1) (k : ∀ (S1 : CS) (H : Heap) (locs : List Loc), GC D a d A s.heap S1 H locs → Q1 S1 → W p l e R s m args below meth c H locs cells slots Q (F0 m (pc + 3) ls rest)) : W p l e R s m args below meth c H locs cells slots Q (F0 m pc ls (.ref y1 :: .ref y0 :: rest)) := by
  obtain ⟨hx, hb, hr, hml, hown, hts, hlocks, hA, hK, hN⟩ := id F
  obtain rfl | rfl | rfl | rfl | rfl | rfl : κ = 0 ∨ κ = 1 ∨ κ = 2 ∨ κ = 3 ∨ κ = 4 ∨ κ = 5 := by omega
  · exact c_callv F G (va_runU (As := [.ref y1]) (rest := rest) ⟨hx, hb, hml, hown, hts⟩ (wC6_takes H.size y0 y1 S Q1 h) (va_cwO (C := RX6) (owner := RX6) 1 hts (lw_O q790 q793 q791 q792 q791 q91 q799) rfl rfl rfl q799 (by decide +kernel) ⟨Nat.le_trans (Nat.le_of_ble_eq_true rfl) hR.1, Nat.le_trans (Nat.le_of_ble_eq_true rfl) hR.2⟩) ⟨PC_blind, p_recv_X6 F G hy, c_pre F G⟩ rfl rfl hsz rfl (lv_room hW) hd hc) k
  · exact c_callv F G (va_runU (As := [.ref y1]) (rest := rest) ⟨hx, hb, hml, hown, hts⟩ (wC6_takes H.size y0 y1 S Q1 h) (va_cwO (C := RX7) (owner := RX6) 1 hts (lw_O q790 q793 q791 q795 q791 q91 q799) rfl rfl rfl q799 (by decide +kernel) ⟨Nat.le_trans (Nat.le_of_ble_eq_true rfl) hR.1, Nat.le_trans (Nat.le_of_ble_eq_true rfl) hR.2⟩) ⟨PC_blind, p_recv_X7 F G hy, c_pre F G⟩ rfl rfl hsz rfl (lv_room hW) hd hc) k
  · exact c_callv F G (va_runU (As := [.ref y1]) (rest := rest) ⟨hx, hb, hml, hown, hts⟩ (wC6_takes H.size y0 y1 S Q1 h) (va_cwO (C := RX8) (owner := RX6) 1 hts (lw_O q790 q793 q791 q798 q791 q91 q799) rfl rfl rfl q799 (by decide +kernel) ⟨Nat.le_trans (Nat.le_of_ble_eq_true rfl) hR.1, Nat.le_trans (Nat.le_of_ble_eq_true rfl) hR.2⟩) ⟨PC_blind, p_recv_X8 F G hy, c_pre F G⟩ rfl rfl hsz rfl (lv_room hW) hd hc) k
  · exact c_callv F G (va_runU (As := [.ref y1]) (rest := rest) ⟨hx, hb, hml, hown, hts⟩ (wC6_takes H.size y0 y1 S Q1 h) (va_cwO (C := RX9) (owner := RX6) 1 hts (lw_O q790 q793 q791 q797 q791 q91 q799) rfl rfl rfl q799 (by decide +kernel) ⟨Nat.le_trans (Nat.le_of_ble_eq_true rfl) hR.1, Nat.le_trans (Nat.le_of_ble_eq_true rfl) hR.2⟩) ⟨PC_blind, p_recv_X9 F G hy, c_pre F G⟩ rfl rfl hsz rfl (lv_room hW) hd hc) k
  · exact c_callv F G (va_runU (As := [.ref y1]) (rest := rest) ⟨hx, hb, hml, hown, hts⟩ (wC6_takes H.size y0 y1 S Q1 h) (va_cwO (C := RX10) (owner := RX6) 1 hts (lw_O q790 q793 q791 q796 q791 q91 q799) rfl rfl rfl q799 (by decide +kernel) ⟨Nat.le_trans (Nat.le_of_ble_eq_true rfl) hR.1, Nat.le_trans (Nat.le_of_ble_eq_true rfl) hR.2⟩) ⟨PC_blind, p_recv_X10 F G hy, c_pre F G⟩ rfl rfl hsz rfl (lv_room hW) hd hc) k
  · exact c_callv F G (va_runU (As := [.ref y1]) (rest := rest) ⟨hx, hb, hml, hown, hts⟩ (wC6_takes H.size y0 y1 S Q1 h) (va_cwO (C := RX11) (owner := RX6) 1 hts (lw_O q790 q793 q791 q794 q791 q91 q799) rfl rfl rfl q799 (by decide +kernel) ⟨Nat.le_trans (Nat.le_of_ble_eq_true rfl) hR.1, Nat.le_trans (Nat.le_of_ble_eq_true rfl) hR.2⟩) ⟨PC_blind, p_recv_X11 F G hy, c_pre F G⟩ rfl rfl hsz rfl (lv_room hW) hd hc) k
/-! StrokesHeard.turns -/
def C0_turns (v1 : Int32) (v2 : Int32) (S : CS) (Q : Int32 → CS → Prop) : Prop := C0_isClock v1 S (fun r_1 S_2 => (r_1 = 0 → Q (-1000000001) S_2) ∧ (¬ r_1 = 0 → C0_isIn v2 0 5 S_2 (fun r_4 S_5 => (¬ r_4 = 0 → vp_in v1 6 ∧ (∃ y_8 : Nat, (S_5.2.1 5 v1.toNatClampNeg) = some y_8 ∧ (C0_clockOf v2 S_5 (fun y_9 S_10 => vp_in v1 6 ∧ ∃ (κ_14 : Nat) (fs_12 : List Value), κ_14 < 6 ∧ has S_10 y_9 (.inr (6 + κ_14, fs_12)) ∧ (vp_in v1 6 ∧ (∃ y_17 : Nat, ((cR S_10 5 v1 (some y_9)).2.1 5 v1.toNatClampNeg) = some y_17 ∧ (∃ (κ_20 : Nat) (fs_21 : List Value), κ_20 < 6 ∧ has (cR S_10 5 v1 (some y_9)) y_17 (.inr (6 + κ_20, fs_21)) ∧ CV_takes κ_20 y_17 y_8 (cR S_10 5 v1 (some y_9)) (fun S_19 => ∃ (κ_26 : Nat) (fs_27 : List Value), κ_26 < 6 ∧ has S_19 y_8 (.inr (6 + κ_26, fs_27)) ∧ CV_kind κ_26 y_8 S_19 (fun r_24 S_25 => Q r_24 S_25))))))))) ∧ (r_4 = 0 → Q (-1000000001) S_5))))
abbrev rmX0_turns : Room := { frames := 5, cells := 1, slots := 2, locals := 100 }
set_option maxHeartbeats 4000000 in
set_option maxRecDepth 100000 in
theorem wC0_turns {l : Launch} {D : va_G} {a : Nat → Nat} {d : Nat → ClassId} (sz : Nat) (v1 : Int32) (v2 : Int32) (S : CS) (Q : Int32 → CS → Prop) (h : C0_turns v1 v2 S Q) : CMi l D a d yX0_turns cX0_turns 4 .int rmX0_turns 1 2 [.ref (a 0), .int v1, .int v2] sz S Q := by
  refine c_enter (Qc := fun A => va_Qi Q (BC D a d A) A) RX0 (by decide +kernel) rfl (Nat.le_of_ble_eq_true rfl) ?_
  intro p e s m below meth c ls A hmn F hG hl
  have G := hG
  have hl : lv_has ls 4 [(0, .ref (a 0)), (1, .int v1), (2, .int v2)] := hl
  obtain ⟨hx, hb, hr, hml, hown, hts, hlocks, hA, hK, hN⟩ := id F
  unfold C0_turns at h
  refine lv_aload_n hx hb dX0_turns_0 rfl (lv_at hl 0 rfl) ?_
  refine lv_iload_n hx hb dX0_turns_1 rfl (lv_at hl 1 rfl) ?_
  refine kX0_C0_isClock F G hl.1 ⟨(Nat.le_of_ble_eq_true rfl), (Nat.le_of_ble_eq_true rfl)⟩ ⟨(Nat.le_of_ble_eq_true rfl), (Nat.le_of_ble_eq_true rfl)⟩ (Nat.le_of_ble_eq_true rfl) dX0_turns_2 h (fun r_1 S_2 H locs G h => ?_)
  refine lv_if_eq (tgt := 17) hx hb dX0_turns_5 (by decide) (fun c_3 => ?_) (fun c_3 => ?_)
  · replace h := h.1 c_3
    refine lv_ldc hx hb hown (hts _ q368) dX0_turns_17 ?_
    refine W.widen (k := 1) (n := 2) (by decide) (by decide) ?_
    exact c_iret F G dX0_turns_19 h
  · replace h := h.2 c_3
    refine lv_iload_n hx hb dX0_turns_8 rfl (lv_at hl 2 rfl) ?_
    refine lv_iconst (v := 0) hx hb dX0_turns_9 (by decide) ?_
    refine lv_iconst (v := 5) hx hb dX0_turns_10 (by decide) ?_
    refine kX0_C0_isIn F G hl.1 ⟨(Nat.le_of_ble_eq_true rfl), (Nat.le_of_ble_eq_true rfl)⟩ ⟨(Nat.le_of_ble_eq_true rfl), (Nat.le_of_ble_eq_true rfl)⟩ (Nat.le_of_ble_eq_true rfl) dX0_turns_11 h (fun r_4 S_5 H locs G h => ?_)
    refine lv_if_ne (tgt := 20) hx hb dX0_turns_14 (by decide) (fun c_6 => ?_) (fun c_6 => ?_)
    · replace h := h.1 c_6
      refine lv_aload_n hx hb dX0_turns_20 rfl (lv_at hl 0 rfl) ?_
      refine cgX0_0_now F G dX0_turns_21 ?_
      refine cgX0_1_clock F G dX0_turns_24 ?_
      refine lv_iload_n hx hb dX0_turns_27 rfl (lv_at hl 1 rfl) ?_
      obtain ⟨b_7, h⟩ := h
      refine c_aaload F G cR_5 rfl b_7 dX0_turns_28 ?_
      obtain ⟨y_8, hy_8, h⟩ := h
      refine c_nn hy_8 ?_
      refine lv_astore_n (lv' := [(3, .ref y_8), (0, .ref (a 0)), (1, .int v1), (2, .int v2)]) hx hb dX0_turns_29 rfl hl (by decide) rfl (fun ls hl => ?_)
      refine lv_aload_n hx hb dX0_turns_30 rfl (lv_at hl 1 rfl) ?_
      refine cgX0_0_now F G dX0_turns_31 ?_
      refine cgX0_1_clock F G dX0_turns_34 ?_
      refine lv_iload_n hx hb dX0_turns_37 rfl (lv_at hl 2 rfl) ?_
      refine lv_iload_n hx hb dX0_turns_38 rfl (lv_at hl 3 rfl) ?_
      refine kX0_C0_clockOf F G hl.1 ⟨(Nat.le_of_ble_eq_true rfl), (Nat.le_of_ble_eq_true rfl)⟩ ⟨(Nat.le_of_ble_eq_true rfl), (Nat.le_of_ble_eq_true rfl)⟩ (Nat.le_of_ble_eq_true rfl) dX0_turns_39 h (fun y_9 S_10 H locs G h => ?_)
      obtain ⟨b_11, κ_14, fs_12, q_15, z_13, h⟩ := h
      refine c_aastore F G cR_5 rfl (p_any_R F G q_15 z_13) b_11 dX0_turns_42 (fun H locs G => ?_)
      refine lv_aload_n hx hb dX0_turns_43 rfl (lv_at hl 1 rfl) ?_
      refine cgX0_0_now F G dX0_turns_44 ?_
      refine cgX0_1_clock F G dX0_turns_47 ?_
      refine lv_iload_n hx hb dX0_turns_50 rfl (lv_at hl 2 rfl) ?_
      obtain ⟨b_16, h⟩ := h
      refine c_aaload F G cR_5 rfl b_16 dX0_turns_51 ?_
      obtain ⟨y_17, hy_17, h⟩ := h
      refine c_nn hy_17 ?_
      refine lv_aload_n hx hb dX0_turns_52 rfl (lv_at hl 0 rfl) ?_
      obtain ⟨κ_20, fs_21, q_22, z_23, h⟩ := h
      refine kvX0_takes F G q_22 z_23 hl.1 ⟨(Nat.le_of_ble_eq_true rfl), (Nat.le_of_ble_eq_true rfl)⟩ ⟨(Nat.le_of_ble_eq_true rfl), (Nat.le_of_ble_eq_true rfl)⟩ (Nat.le_of_ble_eq_true rfl) dX0_turns_53 h (fun S_19 H locs G h => ?_)
      refine lv_aload_n hx hb dX0_turns_56 rfl (lv_at hl 0 rfl) ?_
      obtain ⟨κ_26, fs_27, q_28, z_29, h⟩ := h
      refine kvX0_kind F G q_28 z_29 hl.1 ⟨(Nat.le_of_ble_eq_true rfl), (Nat.le_of_ble_eq_true rfl)⟩ ⟨(Nat.le_of_ble_eq_true rfl), (Nat.le_of_ble_eq_true rfl)⟩ (Nat.le_of_ble_eq_true rfl) dX0_turns_57 h (fun r_24 S_25 H locs G h => ?_)
      exact c_iret F G dX0_turns_60 h
    · replace h := h.2 c_6
      refine lv_ldc hx hb hown (hts _ q368) dX0_turns_17 ?_
      refine W.widen (k := 1) (n := 2) (by decide) (by decide) ?_
      exact c_iret F G dX0_turns_19 h
/-! StrokesHeard.becomes -/
def C0_becomes_p16 (Q : Int32 → CS → Prop)  (y0 : Nat) (v1 : Int32) (v2 : Int32) (t0 : Int32) (S : CS) : Prop := (¬ v1 = 1 → ∃ (κ_18 : Nat) (fs_15 : List Value), κ_18 < 6 ∧ has S y0 (.inr (6 + κ_18, fs_15)) ∧ 1 < fs_15.length ∧ (Q t0 (cP S y0 (.inr (6 + κ_18, fs_15.set 1 (.int v2)))))) ∧ (v1 = 1 → ∃ (κ_23 : Nat) (fs_20 : List Value), κ_23 < 6 ∧ has S y0 (.inr (6 + κ_23, fs_20)) ∧ 0 < fs_20.length ∧ (Q t0 (cP S y0 (.inr (6 + κ_23, fs_20.set 0 (.int v2))))))
def C0_becomes (y0 : Nat) (v1 : Int32) (v2 : Int32) (S : CS) (Q : Int32 → CS → Prop) : Prop := (¬ v1 = 1 → ∃ (κ_5 : Nat) (fs_2 : List Value) (i_7 : Int32), κ_5 < 6 ∧ has S y0 (.inr (6 + κ_5, fs_2)) ∧ fs_2[1]? = some (.int i_7) ∧ (C0_becomes_p16 Q y0 v1 v2 i_7 S)) ∧ (v1 = 1 → ∃ (κ_11 : Nat) (fs_8 : List Value) (i_13 : Int32), κ_11 < 6 ∧ has S y0 (.inr (6 + κ_11, fs_8)) ∧ fs_8[0]? = some (.int i_13) ∧ (C0_becomes_p16 Q y0 v1 v2 i_13 S))
abbrev rmX0_becomes : Room := { frames := 0, cells := 0, slots := 0, locals := 0 }
set_option maxHeartbeats 4000000 in
set_option maxRecDepth 100000 in
theorem wC0_becomes_p16 {p : Program} {l : Launch} {e : Env} {s : State} {m : MethodId} {args : Array Value} {below : List Frame} {meth : Method} {c : Code} {D : va_G} {a : Nat → Nat} {d : Nat → ClassId} {A : Nat → Prop} {Q : Int32 → CS → Prop}  (F : FC p s m meth c args D a d A RX0 cX0_becomes 4 (some .int)) (y0 : Nat) (v1 : Int32) (v2 : Int32) (t0 : Int32) (S : CS)  {H : Heap} {locs : List Loc} {ls : Array Slot} (G : GC D a d A s.heap S H locs) (hl : lv_has ls 4 [(0, .ref y0), (1, .int v1), (2, .int v2)]) (h : C0_becomes_p16 Q y0 v1 v2 t0 S) : wCi p l e rmX0_becomes s m args below meth c D a d A Q 0 0 H locs 0 0 (F0 m 16 ls [.int t0]) := by
  obtain ⟨hx, hb, hr, hml, hown, hts, hlocks, hA, hK, hN⟩ := id F
  unfold C0_becomes_p16 at h
  refine lv_istore_n (lv' := [(3, .int t0), (0, .ref y0), (1, .int v1), (2, .int v2)]) hx hb dX0_becomes_16 rfl hl (by decide) rfl (fun ls hl => ?_)
  refine lv_iload_n hx hb dX0_becomes_17 rfl (lv_at hl 2 rfl) ?_
  refine lv_iconst (v := 1) hx hb dX0_becomes_18 (by decide) ?_
  refine lv_icmp_ne (tgt := 30) hx hb dX0_becomes_19 (by decide) (fun c_14 => ?_) (fun c_14 => ?_)
  · replace h := h.1 c_14
    refine lv_aload_n hx hb dX0_becomes_30 rfl (lv_at hl 1 rfl) ?_
    refine lv_iload_n hx hb dX0_becomes_31 rfl (lv_at hl 3 rfl) ?_
    obtain ⟨κ_18, fs_15, q_19, z_16, u_17, h⟩ := h
    refine ppX0_X6_tone F G q_19 z_16 rfl rfl u_17 dX0_becomes_32 (fun H locs G => ?_)
    refine lv_iload_n hx hb dX0_becomes_35 rfl (lv_at hl 0 rfl) ?_
    exact c_iret F G dX0_becomes_36 h
  · replace h := h.2 c_14
    refine lv_aload_n hx hb dX0_becomes_22 rfl (lv_at hl 1 rfl) ?_
    refine lv_iload_n hx hb dX0_becomes_23 rfl (lv_at hl 3 rfl) ?_
    obtain ⟨κ_23, fs_20, q_24, z_21, u_22, h⟩ := h
    refine ppX0_X6_off F G q_24 z_21 rfl rfl u_22 dX0_becomes_24 (fun H locs G => ?_)
    refine lv_goto (tgt := 35) hx hb dX0_becomes_27 (by decide) ?_
    refine lv_iload_n hx hb dX0_becomes_35 rfl (lv_at hl 0 rfl) ?_
    exact c_iret F G dX0_becomes_36 h
set_option maxHeartbeats 4000000 in
set_option maxRecDepth 100000 in
theorem wC0_becomes {l : Launch} {D : va_G} {a : Nat → Nat} {d : Nat → ClassId} (sz : Nat) (y0 : Nat) (v1 : Int32) (v2 : Int32) (S : CS) (Q : Int32 → CS → Prop) (h : C0_becomes y0 v1 v2 S Q) : CMi l D a d yX0_becomes cX0_becomes 4 .int rmX0_becomes 0 0 [.ref y0, .int v1, .int v2] sz S Q := by
  refine c_enter (Qc := fun A => va_Qi Q (BC D a d A) A) RX0 (by decide +kernel) rfl (Nat.le_of_ble_eq_true rfl) ?_
  intro p e s m below meth c ls A hmn F hG hl
  have G := hG
  have hl : lv_has ls 4 [(0, .ref y0), (1, .int v1), (2, .int v2)] := hl
  obtain ⟨hx, hb, hr, hml, hown, hts, hlocks, hA, hK, hN⟩ := id F
  unfold C0_becomes at h
  refine lv_iload_n hx hb dX0_becomes_0 rfl (lv_at hl 1 rfl) ?_
  refine lv_iconst (v := 1) hx hb dX0_becomes_1 (by decide) ?_
  refine lv_icmp_ne (tgt := 12) hx hb dX0_becomes_2 (by decide) (fun c_1 => ?_) (fun c_1 => ?_)
  · replace h := h.1 c_1
    refine lv_aload_n hx hb dX0_becomes_12 rfl (lv_at hl 0 rfl) ?_
    obtain ⟨κ_5, fs_2, i_7, q_6, z_3, u_4, h⟩ := h
    refine pgX0_X6_tone F G q_6 z_3 u_4 dX0_becomes_13 ?_
    exact wC0_becomes_p16 F y0 v1 v2 i_7 S  G (lv_sub hl [0, 1, 2] rfl) h
  · replace h := h.2 c_1
    refine lv_aload_n hx hb dX0_becomes_5 rfl (lv_at hl 0 rfl) ?_
    obtain ⟨κ_11, fs_8, i_13, q_12, z_9, u_10, h⟩ := h
    refine pgX0_X6_off F G q_12 z_9 u_10 dX0_becomes_6 ?_
    refine lv_goto (tgt := 16) hx hb dX0_becomes_9 (by decide) ?_
    exact wC0_becomes_p16 F y0 v1 v2 i_13 S  G (lv_sub hl [0, 1, 2] rfl) h
set_option maxHeartbeats 4000000 in
set_option maxRecDepth 100000 in
theorem kX0_C0_becomes {p : Program} {l : Launch} {e : Env} {s : State} {m : MethodId} {R : Room} {args : Array Value} {below : List Frame} {meth : Method} {c : Code} {D : va_G} {a : Nat → Nat} {d : Nat → ClassId} {A : Nat → Prop} {Q : State → Prop} {cc : ByteArray} {nL pc cells slots : Nat} {ret : Option FieldType} {ls : Array Slot} {rest : List Value} {y0 : Nat} {v1 : Int32} {v2 : Int32} {S : CS} {H : Heap} {locs : List Loc} {Q1 : Int32 → CS → Prop} (F : FC p s m meth c args D a d A RX0 cc nL ret) (G : GC D a d A s.heap S H locs) (hsz : ls.size = nL) (hR : rmX0_becomes.frames + 1 ≤ R.frames ∧ 8 + (4 + 11) + rmX0_becomes.locals ≤ R.locals) (hc : cells + 0 ≤ R.cells ∧ slots + 0 ≤ R.slots) (hW : (rest.map fun v => v.category).sum ≤ 8) (hd : decode cc pc = .ok (.invokestatic 332, 3)) (h : C0_becomes y0 v1 v2 S Q1) (k : ∀ (r : Int32) (S1 : CS) (H : Heap) (locs : List Loc), GC D a d A s.heap S1 H locs → Q1 r S1 → W p l e R s m args below meth c H locs cells slots Q (F0 m (pc + 3) ls (.int r :: rest))) : W p l e R s m args below meth c H locs cells slots Q (F0 m pc ls (.int v2 :: .int v1 :: .ref y0 :: rest)) := by
  obtain ⟨hx, hb, hr, hml, hown, hts, hlocks, hA, hK, hN⟩ := id F
  exact c_calli F G (va_runS (As := [.ref y0, .int v1, .int v2]) (rest := rest) ⟨hx, hb, hml, hown, hts⟩ (wC0_becomes H.size y0 v1 v2 S Q1 h) (va_cwS 3 hts (lw_S q804 q805 q82 q806) rfl rfl rfl (by decide +kernel) hR) ⟨PC_blind, c_pre F G⟩ rfl rfl hsz rfl (lv_room hW) hd hc) k
/-! StrokesHeard.set -/
def C0_set (v1 : Int32) (v2 : Int32) (v3 : Int32) (S : CS) (Q : Int32 → CS → Prop) : Prop := C0_isClock v1 S (fun r_1 S_2 => (r_1 = 0 → Q (-1000000001) S_2) ∧ (¬ r_1 = 0 → C0_isIn v2 1 2 S_2 (fun r_4 S_5 => (r_4 = 0 → Q (-1000000001) S_5) ∧ (¬ r_4 = 0 → C0_isOf v2 v3 S_5 (fun r_7 S_8 => (r_7 = 0 → Q (-1000000001) S_8) ∧ (¬ r_7 = 0 → vp_in v1 6 ∧ (∃ y_11 : Nat, (S_8.2.1 5 v1.toNatClampNeg) = some y_11 ∧ (C0_becomes y_11 v2 v3 S_8 (fun r_12 S_13 => Q r_12 S_13)))))))))
abbrev rmX0_set : Room := { frames := 2, cells := 0, slots := 0, locals := 43 }
set_option maxHeartbeats 4000000 in
set_option maxRecDepth 100000 in
theorem wC0_set {l : Launch} {D : va_G} {a : Nat → Nat} {d : Nat → ClassId} (sz : Nat) (v1 : Int32) (v2 : Int32) (v3 : Int32) (S : CS) (Q : Int32 → CS → Prop) (h : C0_set v1 v2 v3 S Q) : CMi l D a d yX0_set cX0_set 4 .int rmX0_set 0 0 [.ref (a 0), .int v1, .int v2, .int v3] sz S Q := by
  refine c_enter (Qc := fun A => va_Qi Q (BC D a d A) A) RX0 (by decide +kernel) rfl (Nat.le_of_ble_eq_true rfl) ?_
  intro p e s m below meth c ls A hmn F hG hl
  have G := hG
  have hl : lv_has ls 4 [(0, .ref (a 0)), (1, .int v1), (2, .int v2), (3, .int v3)] := hl
  obtain ⟨hx, hb, hr, hml, hown, hts, hlocks, hA, hK, hN⟩ := id F
  unfold C0_set at h
  refine lv_aload_n hx hb dX0_set_0 rfl (lv_at hl 0 rfl) ?_
  refine lv_iload_n hx hb dX0_set_1 rfl (lv_at hl 1 rfl) ?_
  refine kX0_C0_isClock F G hl.1 ⟨(Nat.le_of_ble_eq_true rfl), (Nat.le_of_ble_eq_true rfl)⟩ ⟨(Nat.le_of_ble_eq_true rfl), (Nat.le_of_ble_eq_true rfl)⟩ (Nat.le_of_ble_eq_true rfl) dX0_set_2 h (fun r_1 S_2 H locs G h => ?_)
  refine lv_if_eq (tgt := 42) hx hb dX0_set_5 (by decide) (fun c_3 => ?_) (fun c_3 => ?_)
  · replace h := h.1 c_3
    refine lv_ldc hx hb hown (hts _ q368) dX0_set_42 ?_
    exact c_iret F G dX0_set_44 h
  · replace h := h.2 c_3
    refine lv_iload_n hx hb dX0_set_8 rfl (lv_at hl 2 rfl) ?_
    refine lv_iconst (v := 1) hx hb dX0_set_9 (by decide) ?_
    refine lv_iconst (v := 2) hx hb dX0_set_10 (by decide) ?_
    refine kX0_C0_isIn F G hl.1 ⟨(Nat.le_of_ble_eq_true rfl), (Nat.le_of_ble_eq_true rfl)⟩ ⟨(Nat.le_of_ble_eq_true rfl), (Nat.le_of_ble_eq_true rfl)⟩ (Nat.le_of_ble_eq_true rfl) dX0_set_11 h (fun r_4 S_5 H locs G h => ?_)
    refine lv_if_eq (tgt := 42) hx hb dX0_set_14 (by decide) (fun c_6 => ?_) (fun c_6 => ?_)
    · replace h := h.1 c_6
      refine lv_ldc hx hb hown (hts _ q368) dX0_set_42 ?_
      exact c_iret F G dX0_set_44 h
    · replace h := h.2 c_6
      refine lv_iload_n hx hb dX0_set_17 rfl (lv_at hl 2 rfl) ?_
      refine lv_iload_n hx hb dX0_set_18 rfl (lv_at hl 3 rfl) ?_
      refine kX0_C0_isOf F G hl.1 ⟨(Nat.le_of_ble_eq_true rfl), (Nat.le_of_ble_eq_true rfl)⟩ ⟨(Nat.le_of_ble_eq_true rfl), (Nat.le_of_ble_eq_true rfl)⟩ (Nat.le_of_ble_eq_true rfl) dX0_set_19 h (fun r_7 S_8 H locs G h => ?_)
      refine lv_if_eq (tgt := 42) hx hb dX0_set_22 (by decide) (fun c_9 => ?_) (fun c_9 => ?_)
      · replace h := h.1 c_9
        refine lv_ldc hx hb hown (hts _ q368) dX0_set_42 ?_
        exact c_iret F G dX0_set_44 h
      · replace h := h.2 c_9
        refine lv_aload_n hx hb dX0_set_25 rfl (lv_at hl 0 rfl) ?_
        refine cgX0_0_now F G dX0_set_26 ?_
        refine cgX0_1_clock F G dX0_set_29 ?_
        refine lv_iload_n hx hb dX0_set_32 rfl (lv_at hl 1 rfl) ?_
        obtain ⟨b_10, h⟩ := h
        refine c_aaload F G cR_5 rfl b_10 dX0_set_33 ?_
        obtain ⟨y_11, hy_11, h⟩ := h
        refine c_nn hy_11 ?_
        refine lv_iload_n hx hb dX0_set_34 rfl (lv_at hl 2 rfl) ?_
        refine lv_iload_n hx hb dX0_set_35 rfl (lv_at hl 3 rfl) ?_
        refine kX0_C0_becomes F G hl.1 ⟨(Nat.le_of_ble_eq_true rfl), (Nat.le_of_ble_eq_true rfl)⟩ ⟨(Nat.le_of_ble_eq_true rfl), (Nat.le_of_ble_eq_true rfl)⟩ (Nat.le_of_ble_eq_true rfl) dX0_set_36 h (fun r_12 S_13 H locs G h => ?_)
        refine lv_goto (tgt := 44) hx hb dX0_set_39 (by decide) ?_
        exact c_iret F G dX0_set_44 h
/-! StrokesHeard.strokes -/
def C0_strokes (v1 : Int32) (v2 : Int32) (S : CS) (Q : Int32 → CS → Prop) : Prop := C0_isClock v1 S (fun r_1 S_2 => (r_1 = 0 → Q (-1000000001) S_2) ∧ (¬ r_1 = 0 → C0_isIn v2 0 719 S_2 (fun r_4 S_5 => (r_4 = 0 → Q (-1000000001) S_5) ∧ (¬ r_4 = 0 → vp_in v1 6 ∧ (∃ y_8 : Nat, (S_5.2.1 5 v1.toNatClampNeg) = some y_8 ∧ (C0_strokesOf y_8 v2 S_5 (fun r_9 S_10 => Q r_9 S_10)))))))
abbrev rmX0_strokes : Room := { frames := 5, cells := 0, slots := 0, locals := 113 }
set_option maxHeartbeats 4000000 in
set_option maxRecDepth 100000 in
theorem wC0_strokes {l : Launch} {D : va_G} {a : Nat → Nat} {d : Nat → ClassId} (sz : Nat) (v1 : Int32) (v2 : Int32) (S : CS) (Q : Int32 → CS → Prop) (h : C0_strokes v1 v2 S Q) : CMi l D a d yX0_strokes cX0_strokes 3 .int rmX0_strokes 0 0 [.ref (a 0), .int v1, .int v2] sz S Q := by
  refine c_enter (Qc := fun A => va_Qi Q (BC D a d A) A) RX0 (by decide +kernel) rfl (Nat.le_of_ble_eq_true rfl) ?_
  intro p e s m below meth c ls A hmn F hG hl
  have G := hG
  have hl : lv_has ls 3 [(0, .ref (a 0)), (1, .int v1), (2, .int v2)] := hl
  obtain ⟨hx, hb, hr, hml, hown, hts, hlocks, hA, hK, hN⟩ := id F
  unfold C0_strokes at h
  refine lv_aload_n hx hb dX0_strokes_0 rfl (lv_at hl 0 rfl) ?_
  refine lv_iload_n hx hb dX0_strokes_1 rfl (lv_at hl 1 rfl) ?_
  refine kX0_C0_isClock F G hl.1 ⟨(Nat.le_of_ble_eq_true rfl), (Nat.le_of_ble_eq_true rfl)⟩ ⟨(Nat.le_of_ble_eq_true rfl), (Nat.le_of_ble_eq_true rfl)⟩ (Nat.le_of_ble_eq_true rfl) dX0_strokes_2 h (fun r_1 S_2 H locs G h => ?_)
  refine lv_if_eq (tgt := 36) hx hb dX0_strokes_5 (by decide) (fun c_3 => ?_) (fun c_3 => ?_)
  · replace h := h.1 c_3
    refine lv_ldc hx hb hown (hts _ q368) dX0_strokes_36 ?_
    exact c_iret F G dX0_strokes_38 h
  · replace h := h.2 c_3
    refine lv_iload_n hx hb dX0_strokes_8 rfl (lv_at hl 2 rfl) ?_
    refine lv_iconst (v := 0) hx hb dX0_strokes_9 (by decide) ?_
    refine lv_sipush (v := 719) hx hb dX0_strokes_10 (by decide) ?_
    refine kX0_C0_isIn F G hl.1 ⟨(Nat.le_of_ble_eq_true rfl), (Nat.le_of_ble_eq_true rfl)⟩ ⟨(Nat.le_of_ble_eq_true rfl), (Nat.le_of_ble_eq_true rfl)⟩ (Nat.le_of_ble_eq_true rfl) dX0_strokes_13 h (fun r_4 S_5 H locs G h => ?_)
    refine lv_if_eq (tgt := 36) hx hb dX0_strokes_16 (by decide) (fun c_6 => ?_) (fun c_6 => ?_)
    · replace h := h.1 c_6
      refine lv_ldc hx hb hown (hts _ q368) dX0_strokes_36 ?_
      exact c_iret F G dX0_strokes_38 h
    · replace h := h.2 c_6
      refine lv_aload_n hx hb dX0_strokes_19 rfl (lv_at hl 0 rfl) ?_
      refine lv_aload_n hx hb dX0_strokes_20 rfl (lv_at hl 0 rfl) ?_
      refine cgX0_0_now F G dX0_strokes_21 ?_
      refine cgX0_1_clock F G dX0_strokes_24 ?_
      refine lv_iload_n hx hb dX0_strokes_27 rfl (lv_at hl 1 rfl) ?_
      obtain ⟨b_7, h⟩ := h
      refine c_aaload F G cR_5 rfl b_7 dX0_strokes_28 ?_
      obtain ⟨y_8, hy_8, h⟩ := h
      refine c_nn hy_8 ?_
      refine lv_iload_n hx hb dX0_strokes_29 rfl (lv_at hl 2 rfl) ?_
      refine kX0_C0_strokesOf F G hl.1 ⟨(Nat.le_of_ble_eq_true rfl), (Nat.le_of_ble_eq_true rfl)⟩ ⟨(Nat.le_of_ble_eq_true rfl), (Nat.le_of_ble_eq_true rfl)⟩ (Nat.le_of_ble_eq_true rfl) dX0_strokes_30 h (fun r_9 S_10 H locs G h => ?_)
      refine lv_goto (tgt := 38) hx hb dX0_strokes_33 (by decide) ?_
      exact c_iret F G dX0_strokes_38 h
/-! StrokesHeard.totalAt -/
def C0_totalAt_L4 (Q : Int32 → CS → Prop)  (v1 : Int32) : Nat → Int32 → Int32 → CS → Prop
  | 0, _, _, _ => False
  | n + 1, v2, v3, S => ((S.1 1 1) ≤ v3 → Q v2 S) ∧ (¬ (S.1 1 1) ≤ v3 → vp_in v3 6 ∧ (∃ y_3 : Nat, (S.2.1 5 v3.toNatClampNeg) = some y_3 ∧ (C0_strokesOf y_3 v1 S (fun r_4 S_5 => ∀ x_6 : Int32, x_6 = (v2 + r_4) → C0_totalAt_L4 Q v1 n x_6 (v3 + 1) S_5))))
def C0_totalAt (v1 : Int32) (S : CS) (Q : Int32 → CS → Prop) : Prop := ∃ k4, C0_totalAt_L4 Q v1 k4 0 0 S
abbrev rmX0_totalAt : Room := { frames := 5, cells := 0, slots := 0, locals := 113 }
set_option maxHeartbeats 4000000 in
set_option maxRecDepth 100000 in
theorem wC0_totalAt_L4 {p : Program} {l : Launch} {e : Env} {s : State} {m : MethodId} {args : Array Value} {below : List Frame} {meth : Method} {c : Code} {D : va_G} {a : Nat → Nat} {d : Nat → ClassId} {A : Nat → Prop} {Q : Int32 → CS → Prop}  (F : FC p s m meth c args D a d A RX0 cX0_totalAt 4 (some .int)) (v1 : Int32)  :
    ∀ (n : Nat) (v2 : Int32) (v3 : Int32) (S : CS) (H : Heap) (locs : List Loc) (ls : Array Slot), GC D a d A s.heap S H locs → lv_has ls 4 [(0, .ref (a 0)), (1, .int v1), (2, .int v2), (3, .int v3)] → C0_totalAt_L4 Q v1 n v2 v3 S → wCi p l e rmX0_totalAt s m args below meth c D a d A Q 0 0 H locs 0 0 (F0 m 4 ls []) := by
  obtain ⟨hx, hb, hr, hml, hown, hts, hlocks, hA, hK, hN⟩ := id F
  intro n
  induction n with
  | zero => intro v2 v3 S H locs ls G hl h; exact absurd h (fun q => q)
  | succ n ih =>
    intro v2 v3 S H locs ls G hl h
    unfold C0_totalAt_L4 at h
    refine lv_iload_n hx hb dX0_totalAt_4 rfl (lv_at hl 3 rfl) ?_
    refine lv_aload_n hx hb dX0_totalAt_5 rfl (lv_at hl 0 rfl) ?_
    refine cgX0_0_now F G dX0_totalAt_6 ?_
    refine cgX0_1_many F G dX0_totalAt_9 ?_
    refine lv_icmp_ge (tgt := 38) hx hb dX0_totalAt_12 (by decide) (fun c_1 => ?_) (fun c_1 => ?_)
    · replace h := h.1 c_1
      refine lv_iload_n hx hb dX0_totalAt_38 rfl (lv_at hl 2 rfl) ?_
      exact c_iret F G dX0_totalAt_39 h
    · replace h := h.2 c_1
      refine lv_iload_n hx hb dX0_totalAt_15 rfl (lv_at hl 2 rfl) ?_
      refine lv_aload_n hx hb dX0_totalAt_16 rfl (lv_at hl 0 rfl) ?_
      refine lv_aload_n hx hb dX0_totalAt_17 rfl (lv_at hl 0 rfl) ?_
      refine cgX0_0_now F G dX0_totalAt_18 ?_
      refine cgX0_1_clock F G dX0_totalAt_21 ?_
      refine lv_iload_n hx hb dX0_totalAt_24 rfl (lv_at hl 3 rfl) ?_
      obtain ⟨b_2, h⟩ := h
      refine c_aaload F G cR_5 rfl b_2 dX0_totalAt_25 ?_
      obtain ⟨y_3, hy_3, h⟩ := h
      refine c_nn hy_3 ?_
      refine lv_iload_n hx hb dX0_totalAt_26 rfl (lv_at hl 1 rfl) ?_
      refine kX0_C0_strokesOf F G hl.1 ⟨(Nat.le_of_ble_eq_true rfl), (Nat.le_of_ble_eq_true rfl)⟩ ⟨(Nat.le_of_ble_eq_true rfl), (Nat.le_of_ble_eq_true rfl)⟩ (Nat.le_of_ble_eq_true rfl) dX0_totalAt_27 h (fun r_4 S_5 H locs G h => ?_)
      refine lv_iadd hx hb dX0_totalAt_30 ?_
      refine lv_topi (fun x_6 ex_6 => ?_)
      replace h := h x_6 ex_6
      refine lv_istore_n (lv' := [(2, .int x_6), (0, .ref (a 0)), (1, .int v1), (3, .int v3)]) hx hb dX0_totalAt_31 rfl hl (by decide) rfl (fun ls hl => ?_)
      refine lv_iinc (v := (v3 + 1)) (lv' := [(3, .int (v3 + 1)), (2, .int x_6), (0, .ref (a 0)), (1, .int v1)]) hx hb dX0_totalAt_32 hl (k := 3) rfl rfl (by decide) rfl (fun ls hl => ?_)
      refine lv_goto (tgt := 4) hx hb dX0_totalAt_35 (by decide) ?_
      exact ih x_6 (v3 + 1) S_5 _ _ _ G (lv_sub hl [2, 3, 1, 0] rfl) h
set_option maxHeartbeats 4000000 in
set_option maxRecDepth 100000 in
theorem wC0_totalAt {l : Launch} {D : va_G} {a : Nat → Nat} {d : Nat → ClassId} (sz : Nat) (v1 : Int32) (S : CS) (Q : Int32 → CS → Prop) (h : C0_totalAt v1 S Q) : CMi l D a d yX0_totalAt cX0_totalAt 4 .int rmX0_totalAt 0 0 [.ref (a 0), .int v1] sz S Q := by
  refine c_enter (Qc := fun A => va_Qi Q (BC D a d A) A) RX0 (by decide +kernel) rfl (Nat.le_of_ble_eq_true rfl) ?_
  intro p e s m below meth c ls A hmn F hG hl
  have G := hG
  have hl : lv_has ls 4 [(0, .ref (a 0)), (1, .int v1)] := hl
  obtain ⟨hx, hb, hr, hml, hown, hts, hlocks, hA, hK, hN⟩ := id F
  unfold C0_totalAt at h
  refine lv_iconst (v := 0) hx hb dX0_totalAt_0 (by decide) ?_
  refine lv_istore_n (lv' := [(2, .int 0), (0, .ref (a 0)), (1, .int v1)]) hx hb dX0_totalAt_1 rfl hl (by decide) rfl (fun ls hl => ?_)
  refine lv_iconst (v := 0) hx hb dX0_totalAt_2 (by decide) ?_
  refine lv_istore_n (lv' := [(3, .int 0), (2, .int 0), (0, .ref (a 0)), (1, .int v1)]) hx hb dX0_totalAt_3 rfl hl (by decide) rfl (fun ls hl => ?_)
  obtain ⟨k4, h⟩ := h
  exact wC0_totalAt_L4 F v1  k4 0 0 S _ _ _ G (lv_sub hl [2, 3, 1, 0] rfl) h
set_option maxHeartbeats 4000000 in
set_option maxRecDepth 100000 in
theorem kX0_C0_totalAt {p : Program} {l : Launch} {e : Env} {s : State} {m : MethodId} {R : Room} {args : Array Value} {below : List Frame} {meth : Method} {c : Code} {D : va_G} {a : Nat → Nat} {d : Nat → ClassId} {A : Nat → Prop} {Q : State → Prop} {cc : ByteArray} {nL pc cells slots : Nat} {ret : Option FieldType} {ls : Array Slot} {rest : List Value} {v1 : Int32} {S : CS} {H : Heap} {locs : List Loc} {Q1 : Int32 → CS → Prop} (F : FC p s m meth c args D a d A RX0 cc nL ret) (G : GC D a d A s.heap S H locs) (hsz : ls.size = nL) (hR : rmX0_totalAt.frames + 1 ≤ R.frames ∧ 8 + (4 + 11) + rmX0_totalAt.locals ≤ R.locals) (hc : cells + 0 ≤ R.cells ∧ slots + 0 ≤ R.slots) (hW : (rest.map fun v => v.category).sum ≤ 8) (hd : decode cc pc = .ok (.invokevirtual 336, 3)) (h : C0_totalAt v1 S Q1) (k : ∀ (r : Int32) (S1 : CS) (H : Heap) (locs : List Loc), GC D a d A s.heap S1 H locs → Q1 r S1 → W p l e R s m args below meth c H locs cells slots Q (F0 m (pc + 3) ls (.int r :: rest))) : W p l e R s m args below meth c H locs cells slots Q (F0 m pc ls (.int v1 :: .ref (a 0) :: rest)) := by
  obtain ⟨hx, hb, hr, hml, hown, hts, hlocks, hA, hK, hN⟩ := id F
  exact c_calli F G (va_runV (As := [.int v1]) (rest := rest) ⟨hx, hb, hml, hown, hts⟩ (wC0_totalAt H.size v1 S Q1 h) (cwV 1 hts (lw_V q815 q817 qs25 q82 q818) rfl rfl rfl (by decide +kernel) hR) ⟨PC_blind, va_recv hK G.1 (ci := 0) (q0 := 0) rfl rfl, c_pre F G⟩ rfl rfl hsz rfl (lv_room hW) hd hc) k
/-! StrokesHeard.total -/
def C0_total (v1 : Int32) (S : CS) (Q : Int32 → CS → Prop) : Prop := C0_isIn v1 0 719 S (fun r_1 S_2 => (r_1 = 0 → Q (-1000000001) S_2) ∧ (¬ r_1 = 0 → C0_totalAt v1 S_2 (fun r_4 S_5 => Q r_4 S_5)))
abbrev rmX0_total : Room := { frames := 6, cells := 0, slots := 0, locals := 136 }
set_option maxHeartbeats 4000000 in
set_option maxRecDepth 100000 in
theorem wC0_total {l : Launch} {D : va_G} {a : Nat → Nat} {d : Nat → ClassId} (sz : Nat) (v1 : Int32) (S : CS) (Q : Int32 → CS → Prop) (h : C0_total v1 S Q) : CMi l D a d yX0_total cX0_total 2 .int rmX0_total 0 0 [.ref (a 0), .int v1] sz S Q := by
  refine c_enter (Qc := fun A => va_Qi Q (BC D a d A) A) RX0 (by decide +kernel) rfl (Nat.le_of_ble_eq_true rfl) ?_
  intro p e s m below meth c ls A hmn F hG hl
  have G := hG
  have hl : lv_has ls 2 [(0, .ref (a 0)), (1, .int v1)] := hl
  obtain ⟨hx, hb, hr, hml, hown, hts, hlocks, hA, hK, hN⟩ := id F
  unfold C0_total at h
  refine lv_iload_n hx hb dX0_total_0 rfl (lv_at hl 1 rfl) ?_
  refine lv_iconst (v := 0) hx hb dX0_total_1 (by decide) ?_
  refine lv_sipush (v := 719) hx hb dX0_total_2 (by decide) ?_
  refine kX0_C0_isIn F G hl.1 ⟨(Nat.le_of_ble_eq_true rfl), (Nat.le_of_ble_eq_true rfl)⟩ ⟨(Nat.le_of_ble_eq_true rfl), (Nat.le_of_ble_eq_true rfl)⟩ (Nat.le_of_ble_eq_true rfl) dX0_total_5 h (fun r_1 S_2 H locs G h => ?_)
  refine lv_if_eq (tgt := 19) hx hb dX0_total_8 (by decide) (fun c_3 => ?_) (fun c_3 => ?_)
  · replace h := h.1 c_3
    refine lv_ldc hx hb hown (hts _ q368) dX0_total_19 ?_
    exact c_iret F G dX0_total_21 h
  · replace h := h.2 c_3
    refine lv_aload_n hx hb dX0_total_11 rfl (lv_at hl 0 rfl) ?_
    refine lv_iload_n hx hb dX0_total_12 rfl (lv_at hl 1 rfl) ?_
    refine kX0_C0_totalAt F G hl.1 ⟨(Nat.le_of_ble_eq_true rfl), (Nat.le_of_ble_eq_true rfl)⟩ ⟨(Nat.le_of_ble_eq_true rfl), (Nat.le_of_ble_eq_true rfl)⟩ (Nat.le_of_ble_eq_true rfl) dX0_total_13 h (fun r_4 S_5 H locs G h => ?_)
    refine lv_goto (tgt := 21) hx hb dX0_total_16 (by decide) ?_
    exact c_iret F G dX0_total_21 h
/-! StrokesHeard.ear -/
def C0_ear (v1 : Int32) (v2 : Int32) (S : CS) (Q : Int32 → CS → Prop) : Prop := C0_isIn v1 0 1 S (fun r_1 S_2 => (r_1 = 0 → Q (-1000000001) S_2) ∧ (¬ r_1 = 0 → C0_isIn v2 0 100 S_2 (fun r_4 S_5 => (¬ r_4 = 0 → vp_in v1 2 ∧ (∀ x_8 : Int32, x_8 = (S_5.1 9 (v1.toNatClampNeg)) → vp_in v1 2 ∧ (Q x_8 (cA S_5 9 v1 v2)))) ∧ (r_4 = 0 → Q (-1000000001) S_5))))
abbrev rmX0_ear : Room := { frames := 1, cells := 0, slots := 0, locals := 22 }
set_option maxHeartbeats 4000000 in
set_option maxRecDepth 100000 in
theorem wC0_ear {l : Launch} {D : va_G} {a : Nat → Nat} {d : Nat → ClassId} (sz : Nat) (v1 : Int32) (v2 : Int32) (S : CS) (Q : Int32 → CS → Prop) (h : C0_ear v1 v2 S Q) : CMi l D a d yX0_ear cX0_ear 4 .int rmX0_ear 0 0 [.ref (a 0), .int v1, .int v2] sz S Q := by
  refine c_enter (Qc := fun A => va_Qi Q (BC D a d A) A) RX0 (by decide +kernel) rfl (Nat.le_of_ble_eq_true rfl) ?_
  intro p e s m below meth c ls A hmn F hG hl
  have G := hG
  have hl : lv_has ls 4 [(0, .ref (a 0)), (1, .int v1), (2, .int v2)] := hl
  obtain ⟨hx, hb, hr, hml, hown, hts, hlocks, hA, hK, hN⟩ := id F
  unfold C0_ear at h
  refine lv_iload_n hx hb dX0_ear_0 rfl (lv_at hl 1 rfl) ?_
  refine lv_iconst (v := 0) hx hb dX0_ear_1 (by decide) ?_
  refine lv_iconst (v := 1) hx hb dX0_ear_2 (by decide) ?_
  refine kX0_C0_isIn F G hl.1 ⟨(Nat.le_of_ble_eq_true rfl), (Nat.le_of_ble_eq_true rfl)⟩ ⟨(Nat.le_of_ble_eq_true rfl), (Nat.le_of_ble_eq_true rfl)⟩ (Nat.le_of_ble_eq_true rfl) dX0_ear_3 h (fun r_1 S_2 H locs G h => ?_)
  refine lv_if_eq (tgt := 19) hx hb dX0_ear_6 (by decide) (fun c_3 => ?_) (fun c_3 => ?_)
  · replace h := h.1 c_3
    refine lv_ldc hx hb hown (hts _ q368) dX0_ear_19 ?_
    exact c_iret F G dX0_ear_21 h
  · replace h := h.2 c_3
    refine lv_iload_n hx hb dX0_ear_9 rfl (lv_at hl 2 rfl) ?_
    refine lv_iconst (v := 0) hx hb dX0_ear_10 (by decide) ?_
    refine lv_bipush (v := 100) hx hb dX0_ear_11 (by decide) ?_
    refine kX0_C0_isIn F G hl.1 ⟨(Nat.le_of_ble_eq_true rfl), (Nat.le_of_ble_eq_true rfl)⟩ ⟨(Nat.le_of_ble_eq_true rfl), (Nat.le_of_ble_eq_true rfl)⟩ (Nat.le_of_ble_eq_true rfl) dX0_ear_13 h (fun r_4 S_5 H locs G h => ?_)
    refine lv_if_ne (tgt := 22) hx hb dX0_ear_16 (by decide) (fun c_6 => ?_) (fun c_6 => ?_)
    · replace h := h.1 c_6
      refine lv_aload_n hx hb dX0_ear_22 rfl (lv_at hl 0 rfl) ?_
      refine cgX0_0_now F G dX0_ear_23 ?_
      refine cgX0_1_bed F G dX0_ear_26 ?_
      refine lv_iload_n hx hb dX0_ear_29 rfl (lv_at hl 1 rfl) ?_
      obtain ⟨b_7, h⟩ := h
      refine c_iaload F G cI_9 b_7 dX0_ear_30 ?_
      refine lv_topi (fun x_8 ex_8 => ?_)
      replace h := h x_8 ex_8
      refine lv_istore_n (lv' := [(3, .int x_8), (0, .ref (a 0)), (1, .int v1), (2, .int v2)]) hx hb dX0_ear_31 rfl hl (by decide) rfl (fun ls hl => ?_)
      refine lv_aload_n hx hb dX0_ear_32 rfl (lv_at hl 1 rfl) ?_
      refine cgX0_0_now F G dX0_ear_33 ?_
      refine cgX0_1_bed F G dX0_ear_36 ?_
      refine lv_iload_n hx hb dX0_ear_39 rfl (lv_at hl 2 rfl) ?_
      refine lv_iload_n hx hb dX0_ear_40 rfl (lv_at hl 3 rfl) ?_
      obtain ⟨b_9, h⟩ := h
      refine c_iastore F G cI_9 b_9 dX0_ear_41 (fun H locs G => ?_)
      refine lv_iload_n hx hb dX0_ear_42 rfl (lv_at hl 0 rfl) ?_
      exact c_iret F G dX0_ear_43 h
    · replace h := h.2 c_6
      refine lv_ldc hx hb hown (hts _ q368) dX0_ear_19 ?_
      exact c_iret F G dX0_ear_21 h
/-! StrokesHeard$State.draw -/
def C1_draw_1  (S : CS) (Q : Int32 → CS → Prop) : Prop := Q ((((cF S 1 0 (((S.1 1 0) * 1103515245) + 12345)).1 1 0).toUInt32 >>> ((8 : Int32).toUInt32 &&& Int32.toUInt32 31)).toInt32) (cF S 1 0 (((S.1 1 0) * 1103515245) + 12345))
abbrev rmX1_draw_1 : Room := { frames := 0, cells := 0, slots := 0, locals := 0 }
set_option maxHeartbeats 4000000 in
set_option maxRecDepth 100000 in
theorem wC1_draw_1 {l : Launch} {D : va_G} {a : Nat → Nat} {d : Nat → ClassId} (sz : Nat)  (S : CS) (Q : Int32 → CS → Prop) (h : C1_draw_1  S Q) : CMi l D a d yX1_draw cX1_draw 1 .int rmX1_draw_1 0 0 [.ref (a 1)] sz S Q := by
  refine c_enter (Qc := fun A => va_Qi Q (BC D a d A) A) RX1 (by decide +kernel) rfl (Nat.le_of_ble_eq_true rfl) ?_
  intro p e s m below meth c ls A hmn F hG hl
  have G := hG
  have hl : lv_has ls 1 [(0, .ref (a 1))] := hl
  obtain ⟨hx, hb, hr, hml, hown, hts, hlocks, hA, hK, hN⟩ := id F
  unfold C1_draw_1 at h
  refine lv_aload_n hx hb dX1_draw_0 rfl (lv_at hl 0 rfl) ?_
  refine lv_aload_n hx hb dX1_draw_1 rfl (lv_at hl 0 rfl) ?_
  refine cgX1_1_z F G dX1_draw_2 ?_
  refine lv_ldc hx hb hown (hts _ q831) dX1_draw_5 ?_
  refine lv_imul hx hb dX1_draw_7 ?_
  refine lv_sipush (v := 12345) hx hb dX1_draw_8 (by decide) ?_
  refine lv_iadd hx hb dX1_draw_11 ?_
  refine cpX1_1_z F G dX1_draw_12 (fun H locs G => ?_)
  refine lv_aload_n hx hb dX1_draw_15 rfl (lv_at hl 0 rfl) ?_
  refine cgX1_1_z F G dX1_draw_16 ?_
  refine lv_bipush (v := 8) hx hb dX1_draw_19 (by decide) ?_
  refine lv_iushr (v := (((cF S 1 0 (((S.1 1 0) * 1103515245) + 12345)).1 1 0).toUInt32 >>> ((8 : Int32).toUInt32 &&& Int32.toUInt32 31)).toInt32) hx hb dX1_draw_21 rfl ?_
  exact c_iret F G dX1_draw_22 h
set_option maxHeartbeats 4000000 in
set_option maxRecDepth 100000 in
theorem kX0_C1_draw_1 {p : Program} {l : Launch} {e : Env} {s : State} {m : MethodId} {R : Room} {args : Array Value} {below : List Frame} {meth : Method} {c : Code} {D : va_G} {a : Nat → Nat} {d : Nat → ClassId} {A : Nat → Prop} {Q : State → Prop} {cc : ByteArray} {nL pc cells slots : Nat} {ret : Option FieldType} {ls : Array Slot} {rest : List Value}  {S : CS} {H : Heap} {locs : List Loc} {Q1 : Int32 → CS → Prop} (F : FC p s m meth c args D a d A RX0 cc nL ret) (G : GC D a d A s.heap S H locs) (hsz : ls.size = nL) (hR : rmX1_draw_1.frames + 1 ≤ R.frames ∧ 8 + (1 + 11) + rmX1_draw_1.locals ≤ R.locals) (hc : cells + 0 ≤ R.cells ∧ slots + 0 ≤ R.slots) (hW : (rest.map fun v => v.category).sum ≤ 8) (hd : decode cc pc = .ok (.invokevirtual 342, 3)) (h : C1_draw_1  S Q1) (k : ∀ (r : Int32) (S1 : CS) (H : Heap) (locs : List Loc), GC D a d A s.heap S1 H locs → Q1 r S1 → W p l e R s m args below meth c H locs cells slots Q (F0 m (pc + 3) ls (.int r :: rest))) : W p l e R s m args below meth c H locs cells slots Q (F0 m pc ls (.ref (a 1) :: rest)) := by
  obtain ⟨hx, hb, hr, hml, hown, hts, hlocks, hA, hK, hN⟩ := id F
  exact c_calli F G (va_runV (As := []) (rest := rest) ⟨hx, hb, hml, hown, hts⟩ (wC1_draw_1 H.size  S Q1 h) (cwV 0 hts (lw_V q827 q828 q829 q83 q830) rfl rfl rfl (by decide +kernel) hR) ⟨PC_blind, va_recv hK G.1 (ci := 1) (q0 := 1) rfl rfl, c_pre F G⟩ rfl rfl hsz rfl (lv_room hW) hd hc) k
/-! StrokesHeard.deal -/
def C0_deal_L15 (Q : Int32 → CS → Prop)  (v1 : Int32) : Nat → Int32 → CS → Prop
  | 0, _, _ => False
  | n + 1, v2, S => (v1 ≤ v2 → Q v2 S) ∧ (¬ v1 ≤ v2 → (6 ≤ (S.1 1 1) → Q v2 S) ∧ (¬ 6 ≤ (S.1 1 1) → C1_draw_1  S (fun r_6 S_7 => ∀ x_8 : Int32, x_8 = (r_6 - r_6 / 6 * 6) → C1_draw_1  S_7 (fun r_9 S_10 => ∀ x_11 : Int32, x_11 = (r_9 - r_9 / 10 * 10) → C1_draw_1  S_10 (fun r_12 S_13 => C0_comes x_8 x_11 (r_12 - r_12 / 10 * 10) S_13 (fun r_14 S_15 => C0_deal_L15 Q v1 n (v2 + 1) S_15))))))
def C0_deal (v1 : Int32) (S : CS) (Q : Int32 → CS → Prop) : Prop := C0_isIn v1 1 6 S (fun r_1 S_2 => (¬ r_1 = 0 → ∃ k15, k15 ≤ 7 ∧ C0_deal_L15 Q v1 k15 0 S_2) ∧ (r_1 = 0 → Q (-1000000001) S_2))
abbrev rmX0_deal : Room := { frames := 6, cells := 7, slots := 14, locals := 125 }
set_option maxHeartbeats 4000000 in
set_option maxRecDepth 100000 in
theorem wC0_deal_L15 {p : Program} {l : Launch} {e : Env} {s : State} {m : MethodId} {args : Array Value} {below : List Frame} {meth : Method} {c : Code} {D : va_G} {a : Nat → Nat} {d : Nat → ClassId} {A : Nat → Prop} {Q : Int32 → CS → Prop}  (F : FC p s m meth c args D a d A RX0 cX0_deal 5 (some .int)) (v1 : Int32)  :
    ∀ (n : Nat) (v2 : Int32) (S : CS) (H : Heap) (locs : List Loc) (ls : Array Slot) (cells slots : Nat), cells + n * 1 ≤ 7 → slots + n * 2 ≤ 14 → GC D a d A s.heap S H locs → lv_has ls 5 [(0, .ref (a 0)), (1, .int v1), (2, .int v2)] → C0_deal_L15 Q v1 n v2 S → wCi p l e rmX0_deal s m args below meth c D a d A Q 7 14 H locs cells slots (F0 m 15 ls []) := by
  obtain ⟨hx, hb, hr, hml, hown, hts, hlocks, hA, hK, hN⟩ := id F
  intro n
  induction n with
  | zero => intro v2 S H locs ls cells slots hc1 hc2 G hl h; exact absurd h (fun q => q)
  | succ n ih =>
    intro v2 S H locs ls cells slots hc1 hc2 G hl h
    unfold C0_deal_L15 at h
    refine lv_iload_n hx hb dX0_deal_15 rfl (lv_at hl 2 rfl) ?_
    refine lv_iload_n hx hb dX0_deal_16 rfl (lv_at hl 1 rfl) ?_
    refine lv_icmp_ge (tgt := 79) hx hb dX0_deal_17 (by decide) (fun c_4 => ?_) (fun c_4 => ?_)
    · replace h := h.1 c_4
      refine lv_iload_n hx hb dX0_deal_79 rfl (lv_at hl 2 rfl) ?_
      refine W.widen (k := 7) (n := 14) (by omega) (by omega) ?_
      exact c_iret F G dX0_deal_80 h
    · replace h := h.2 c_4
      refine lv_aload_n hx hb dX0_deal_20 rfl (lv_at hl 0 rfl) ?_
      refine cgX0_0_now F G dX0_deal_21 ?_
      refine cgX0_1_many F G dX0_deal_24 ?_
      refine lv_bipush (v := 6) hx hb dX0_deal_27 (by decide) ?_
      refine lv_icmp_ge (tgt := 79) hx hb dX0_deal_29 (by decide) (fun c_5 => ?_) (fun c_5 => ?_)
      · replace h := h.1 c_5
        refine lv_iload_n hx hb dX0_deal_79 rfl (lv_at hl 2 rfl) ?_
        refine W.widen (k := 7) (n := 14) (by omega) (by omega) ?_
        exact c_iret F G dX0_deal_80 h
      · replace h := h.2 c_5
        refine lv_aload_n hx hb dX0_deal_32 rfl (lv_at hl 0 rfl) ?_
        refine cgX0_0_now F G dX0_deal_33 ?_
        refine kX0_C1_draw_1 F G hl.1 ⟨(Nat.le_of_ble_eq_true rfl), (Nat.le_of_ble_eq_true rfl)⟩ ⟨show _ ≤ 7 by omega, show _ ≤ 14 by omega⟩ (Nat.le_of_ble_eq_true rfl) dX0_deal_36 h (fun r_6 S_7 H locs G h => ?_)
        refine lv_bipush (v := 6) hx hb dX0_deal_39 (by decide) ?_
        refine lv_irem hx hb dX0_deal_41 (by decide) ?_
        refine lv_topi (fun x_8 ex_8 => ?_)
        replace h := h x_8 ex_8
        refine lv_istore_n (lv' := [(3, .int x_8), (0, .ref (a 0)), (1, .int v1), (2, .int v2)]) hx hb dX0_deal_42 rfl hl (by decide) rfl (fun ls hl => ?_)
        refine lv_aload_n hx hb dX0_deal_43 rfl (lv_at hl 1 rfl) ?_
        refine cgX0_0_now F G dX0_deal_44 ?_
        refine kX0_C1_draw_1 F G hl.1 ⟨(Nat.le_of_ble_eq_true rfl), (Nat.le_of_ble_eq_true rfl)⟩ ⟨show _ ≤ 7 by omega, show _ ≤ 14 by omega⟩ (Nat.le_of_ble_eq_true rfl) dX0_deal_47 h (fun r_9 S_10 H locs G h => ?_)
        refine lv_bipush (v := 10) hx hb dX0_deal_50 (by decide) ?_
        refine lv_irem hx hb dX0_deal_52 (by decide) ?_
        refine lv_topi (fun x_11 ex_11 => ?_)
        replace h := h x_11 ex_11
        refine lv_istore (lv' := [(4, .int x_11), (3, .int x_8), (0, .ref (a 0)), (1, .int v1), (2, .int v2)]) hx hb dX0_deal_53 hl (by decide) rfl (fun ls hl => ?_)
        refine lv_aload_n hx hb dX0_deal_55 rfl (lv_at hl 2 rfl) ?_
        refine lv_iload_n hx hb dX0_deal_56 rfl (lv_at hl 1 rfl) ?_
        refine lv_iload hx hb dX0_deal_57 (lv_at hl 0 rfl) ?_
        refine lv_aload_n hx hb dX0_deal_59 rfl (lv_at hl 2 rfl) ?_
        refine cgX0_0_now F G dX0_deal_60 ?_
        refine kX0_C1_draw_1 F G hl.1 ⟨(Nat.le_of_ble_eq_true rfl), (Nat.le_of_ble_eq_true rfl)⟩ ⟨show _ ≤ 7 by omega, show _ ≤ 14 by omega⟩ (Nat.le_of_ble_eq_true rfl) dX0_deal_63 h (fun r_12 S_13 H locs G h => ?_)
        refine lv_bipush (v := 10) hx hb dX0_deal_66 (by decide) ?_
        refine lv_irem hx hb dX0_deal_68 (by decide) ?_
        refine kX0_C0_comes F G hl.1 ⟨(Nat.le_of_ble_eq_true rfl), (Nat.le_of_ble_eq_true rfl)⟩ ⟨show _ ≤ 7 by omega, show _ ≤ 14 by omega⟩ (Nat.le_of_ble_eq_true rfl) dX0_deal_69 h (fun r_14 S_15 H locs G h => ?_)
        refine lv_pop hx hb dX0_deal_72 rfl ?_
        refine lv_iinc (v := (v2 + 1)) (lv' := [(2, .int (v2 + 1)), (4, .int x_11), (3, .int x_8), (0, .ref (a 0)), (1, .int v1)]) hx hb dX0_deal_73 hl (k := 4) rfl rfl (by decide) rfl (fun ls hl => ?_)
        refine lv_goto (tgt := 15) hx hb dX0_deal_76 (by decide) ?_
        exact ih (v2 + 1) S_15 _ _ _ (cells + 1) (slots + 2) (by omega) (by omega) G (lv_sub hl [3, 4, 0] rfl) h
set_option maxHeartbeats 4000000 in
set_option maxRecDepth 100000 in
theorem wC0_deal {l : Launch} {D : va_G} {a : Nat → Nat} {d : Nat → ClassId} (sz : Nat) (v1 : Int32) (S : CS) (Q : Int32 → CS → Prop) (h : C0_deal v1 S Q) : CMi l D a d yX0_deal cX0_deal 5 .int rmX0_deal 7 14 [.ref (a 0), .int v1] sz S Q := by
  refine c_enter (Qc := fun A => va_Qi Q (BC D a d A) A) RX0 (by decide +kernel) rfl (Nat.le_of_ble_eq_true rfl) ?_
  intro p e s m below meth c ls A hmn F hG hl
  have G := hG
  have hl : lv_has ls 5 [(0, .ref (a 0)), (1, .int v1)] := hl
  obtain ⟨hx, hb, hr, hml, hown, hts, hlocks, hA, hK, hN⟩ := id F
  unfold C0_deal at h
  refine lv_iload_n hx hb dX0_deal_0 rfl (lv_at hl 1 rfl) ?_
  refine lv_iconst (v := 1) hx hb dX0_deal_1 (by decide) ?_
  refine lv_bipush (v := 6) hx hb dX0_deal_2 (by decide) ?_
  refine kX0_C0_isIn F G hl.1 ⟨(Nat.le_of_ble_eq_true rfl), (Nat.le_of_ble_eq_true rfl)⟩ ⟨show _ ≤ 7 by omega, show _ ≤ 14 by omega⟩ (Nat.le_of_ble_eq_true rfl) dX0_deal_4 h (fun r_1 S_2 H locs G h => ?_)
  refine lv_if_ne (tgt := 13) hx hb dX0_deal_7 (by decide) (fun c_3 => ?_) (fun c_3 => ?_)
  · replace h := h.1 c_3
    refine lv_iconst (v := 0) hx hb dX0_deal_13 (by decide) ?_
    refine lv_istore_n (lv' := [(2, .int 0), (0, .ref (a 0)), (1, .int v1)]) hx hb dX0_deal_14 rfl hl (by decide) rfl (fun ls hl => ?_)
    obtain ⟨k15, hk15, h⟩ := h
    exact wC0_deal_L15 F v1  k15 0 S_2 _ _ _ 0 0 (by omega) (by omega) G (lv_sub hl [1, 2, 0] rfl) h
  · replace h := h.2 c_3
    refine lv_ldc hx hb hown (hts _ q368) dX0_deal_10 ?_
    refine W.widen (k := 7) (n := 14) (by omega) (by omega) ?_
    exact c_iret F G dX0_deal_12 h
/-! StrokesHeard.seed -/
def C0_seed (v1 : Int32) (S : CS) (Q : Int32 → CS → Prop) : Prop := ∀ x_1 : Int32, x_1 = (S.1 1 0) → Q x_1 (cF S 1 0 v1)
abbrev rmX0_seed : Room := { frames := 0, cells := 0, slots := 0, locals := 0 }
set_option maxHeartbeats 4000000 in
set_option maxRecDepth 100000 in
theorem wC0_seed {l : Launch} {D : va_G} {a : Nat → Nat} {d : Nat → ClassId} (sz : Nat) (v1 : Int32) (S : CS) (Q : Int32 → CS → Prop) (h : C0_seed v1 S Q) : CMi l D a d yX0_seed cX0_seed 3 .int rmX0_seed 0 0 [.ref (a 0), .int v1] sz S Q := by
  refine c_enter (Qc := fun A => va_Qi Q (BC D a d A) A) RX0 (by decide +kernel) rfl (Nat.le_of_ble_eq_true rfl) ?_
  intro p e s m below meth c ls A hmn F hG hl
  have G := hG
  have hl : lv_has ls 3 [(0, .ref (a 0)), (1, .int v1)] := hl
  obtain ⟨hx, hb, hr, hml, hown, hts, hlocks, hA, hK, hN⟩ := id F
  unfold C0_seed at h
  refine lv_aload_n hx hb dX0_seed_0 rfl (lv_at hl 0 rfl) ?_
  refine cgX0_0_now F G dX0_seed_1 ?_
  refine cgX0_1_z F G dX0_seed_4 ?_
  refine lv_topi (fun x_1 ex_1 => ?_)
  replace h := h x_1 ex_1
  refine lv_istore_n (lv' := [(2, .int x_1), (0, .ref (a 0)), (1, .int v1)]) hx hb dX0_seed_7 rfl hl (by decide) rfl (fun ls hl => ?_)
  refine lv_aload_n hx hb dX0_seed_8 rfl (lv_at hl 1 rfl) ?_
  refine cgX0_0_now F G dX0_seed_9 ?_
  refine lv_iload_n hx hb dX0_seed_12 rfl (lv_at hl 2 rfl) ?_
  refine cpX0_1_z F G dX0_seed_13 (fun H locs G => ?_)
  refine lv_iload_n hx hb dX0_seed_16 rfl (lv_at hl 0 rfl) ?_
  exact c_iret F G dX0_seed_17 h
set_option maxHeartbeats 4000000 in
set_option maxRecDepth 100000 in
theorem kX1_CJ3_min {p : Program} {l : Launch} {e : Env} {s : State} {m : MethodId} {R : Room} {args : Array Value} {below : List Frame} {meth : Method} {c : Code} {D : va_G} {a : Nat → Nat} {d : Nat → ClassId} {A : Nat → Prop} {Q : State → Prop} {cc : ByteArray} {nL pc cells slots : Nat} {ret : Option FieldType} {ls : Array Slot} {rest : List Value} {v0 : Int32} {v1 : Int32} {S : CS} {H : Heap} {locs : List Loc} {Q1 : Int32 → CS → Prop} (F : FC p s m meth c args D a d A RX1 cc nL ret) (G : GC D a d A s.heap S H locs) (hsz : ls.size = nL) (hR : rmJ3_min.frames + 1 ≤ R.frames ∧ 8 + (2 + 11) + rmJ3_min.locals ≤ R.locals) (hc : cells + 0 ≤ R.cells ∧ slots + 0 ≤ R.slots) (hW : (rest.map fun v => v.category).sum ≤ 8) (hd : decode cc pc = .ok (.invokestatic 78, 3)) (h : CJ3_min v0 v1 S Q1) (k : ∀ (r : Int32) (S1 : CS) (H : Heap) (locs : List Loc), GC D a d A s.heap S1 H locs → Q1 r S1 → W p l e R s m args below meth c H locs cells slots Q (F0 m (pc + 3) ls (.int r :: rest))) : W p l e R s m args below meth c H locs cells slots Q (F0 m pc ls (.int v1 :: .int v0 :: rest)) := by
  obtain ⟨hx, hb, hr, hml, hown, hts, hlocks, hA, hK, hN⟩ := id F
  exact c_calli F G (va_runS (As := [.int v0, .int v1]) (rest := rest) ⟨hx, hb, hml, hown, hts⟩ (wCJ3_min H.size v0 v1 S Q1 h) (va_cwS 2 hts (lw_S q855 q678 q97 q679) rfl rfl rfl (by decide +kernel) hR) ⟨PC_blind, c_pre F G⟩ rfl rfl hsz rfl (lv_room hW) hd hc) k
/-! StrokesHeard$State.notes -/
def C1_notes_1 (v1 : Int32) (S : CS) (Q : CS → Prop) : Prop := ¬ (0 : Int32) < 0 ∧ ¬ (1 : Int32) < 0 ∧ ¬ (11 : Int32) < 0 ∧ (0 : Int32).toNatClampNeg + (11 : Int32).toNatClampNeg ≤ 12 ∧ (1 : Int32).toNatClampNeg + (11 : Int32).toNatClampNeg ≤ 12 ∧ (CJ3_min 12 (((cA (u2 S.1 13 (va_cpy (S.1 13) (S.1 13) ((0 : Int32).toNatClampNeg) ((1 : Int32).toNatClampNeg) ((11 : Int32).toNatClampNeg)), S.2) 13 0 v1).1 1 9) + 1) (cA (u2 S.1 13 (va_cpy (S.1 13) (S.1 13) ((0 : Int32).toNatClampNeg) ((1 : Int32).toNatClampNeg) ((11 : Int32).toNatClampNeg)), S.2) 13 0 v1) (fun r_6 S_7 => Q (cF S_7 1 9 r_6)))
abbrev rmX1_notes_1 : Room := { frames := 1, cells := 0, slots := 0, locals := 40 }
set_option maxHeartbeats 4000000 in
set_option maxRecDepth 100000 in
theorem wC1_notes_1 {l : Launch} {D : va_G} {a : Nat → Nat} {d : Nat → ClassId} (sz : Nat) (v1 : Int32) (S : CS) (Q : CS → Prop) (h : C1_notes_1 v1 S Q) : CMv l D a d yX1_notes cX1_notes 2 rmX1_notes_1 0 0 [.ref (a 1), .int v1] sz S Q := by
  refine c_enter (Qc := fun A => va_Qv Q (BC D a d A) A) RX1 (by decide +kernel) rfl (Nat.le_of_ble_eq_true rfl) ?_
  intro p e s m below meth c ls A hmn F hG hl
  have G := hG
  have hl : lv_has ls 2 [(0, .ref (a 1)), (1, .int v1)] := hl
  obtain ⟨hx, hb, hr, hml, hown, hts, hlocks, hA, hK, hN⟩ := id F
  unfold C1_notes_1 at h
  refine lv_aload_n hx hb dX1_notes_0 rfl (lv_at hl 0 rfl) ?_
  refine cgX1_1_note F G dX1_notes_1 ?_
  refine lv_iconst (v := 0) hx hb dX1_notes_4 (by decide) ?_
  refine lv_aload_n hx hb dX1_notes_5 rfl (lv_at hl 0 rfl) ?_
  refine cgX1_1_note F G dX1_notes_6 ?_
  refine lv_iconst (v := 1) hx hb dX1_notes_9 (by decide) ?_
  refine lv_bipush (v := 11) hx hb dX1_notes_10 (by decide) ?_
  obtain ⟨b_1, b_2, b_3, b_4, b_5, h⟩ := h
  refine c_copy_i_X1 F G cI_13 cI_13 hl.1 b_1 b_2 b_3 b_4 b_5 (Nat.le_of_ble_eq_true rfl) (by decide) dX1_notes_12 (fun H locs G => ?_)
  refine lv_aload_n hx hb dX1_notes_15 rfl (lv_at hl 0 rfl) ?_
  refine cgX1_1_note F G dX1_notes_16 ?_
  refine lv_iconst (v := 0) hx hb dX1_notes_19 (by decide) ?_
  refine lv_iload_n hx hb dX1_notes_20 rfl (lv_at hl 1 rfl) ?_
  refine c_iastore F G cI_13 (by unfold vp_in; decide) dX1_notes_21 (fun H locs G => ?_)
  refine lv_aload_n hx hb dX1_notes_22 rfl (lv_at hl 0 rfl) ?_
  refine lv_bipush (v := 12) hx hb dX1_notes_23 (by decide) ?_
  refine lv_aload_n hx hb dX1_notes_25 rfl (lv_at hl 0 rfl) ?_
  refine cgX1_1_notes F G dX1_notes_26 ?_
  refine lv_iconst (v := 1) hx hb dX1_notes_29 (by decide) ?_
  refine lv_iadd hx hb dX1_notes_30 ?_
  refine kX1_CJ3_min F G hl.1 ⟨(Nat.le_of_ble_eq_true rfl), (Nat.le_of_ble_eq_true rfl)⟩ ⟨(Nat.le_of_ble_eq_true rfl), (Nat.le_of_ble_eq_true rfl)⟩ (Nat.le_of_ble_eq_true rfl) dX1_notes_31 h (fun r_6 S_7 H locs G h => ?_)
  refine cpX1_1_notes F G dX1_notes_34 (fun H locs G => ?_)
  exact c_vret F G dX1_notes_37 h
set_option maxHeartbeats 4000000 in
set_option maxRecDepth 100000 in
theorem kX0_C1_notes_1 {p : Program} {l : Launch} {e : Env} {s : State} {m : MethodId} {R : Room} {args : Array Value} {below : List Frame} {meth : Method} {c : Code} {D : va_G} {a : Nat → Nat} {d : Nat → ClassId} {A : Nat → Prop} {Q : State → Prop} {cc : ByteArray} {nL pc cells slots : Nat} {ret : Option FieldType} {ls : Array Slot} {rest : List Value} {v1 : Int32} {S : CS} {H : Heap} {locs : List Loc} {Q1 : CS → Prop} (F : FC p s m meth c args D a d A RX0 cc nL ret) (G : GC D a d A s.heap S H locs) (hsz : ls.size = nL) (hR : rmX1_notes_1.frames + 1 ≤ R.frames ∧ 8 + (2 + 11) + rmX1_notes_1.locals ≤ R.locals) (hc : cells + 0 ≤ R.cells ∧ slots + 0 ≤ R.slots) (hW : (rest.map fun v => v.category).sum ≤ 8) (hd : decode cc pc = .ok (.invokevirtual 357, 3)) (h : C1_notes_1 v1 S Q1) (k : ∀ (S1 : CS) (H : Heap) (locs : List Loc), GC D a d A s.heap S1 H locs → Q1 S1 → W p l e R s m args below meth c H locs cells slots Q (F0 m (pc + 3) ls rest)) : W p l e R s m args below meth c H locs cells slots Q (F0 m pc ls (.int v1 :: .ref (a 1) :: rest)) := by
  obtain ⟨hx, hb, hr, hml, hown, hts, hlocks, hA, hK, hN⟩ := id F
  exact c_callv F G (va_runV (As := [.int v1]) (rest := rest) ⟨hx, hb, hml, hown, hts⟩ (wC1_notes_1 H.size v1 S Q1 h) (cwV 1 hts (lw_V q848 q849 q850 q83 q851) rfl rfl rfl (by decide +kernel) hR) ⟨PC_blind, va_recv hK G.1 (ci := 1) (q0 := 1) rfl rfl, c_pre F G⟩ rfl rfl hsz rfl (lv_room hW) hd hc) k
/-! StrokesHeard.aMinute -/
def C0_aMinute_p164 (Q : CS → Prop)  (v1 : Int32) (S : CS) : Prop := C1_notes_1 v1 S (fun S_12 => Q (cF S_12 1 7 ((S_12.1 1 7) + 1)))
def C0_aMinute_p97 (Q : CS → Prop) (K4 : Int32 → Int32 → CS → Prop) (K33 : Int32 → Int32 → CS → Prop) (v1 : Int32) (v2 : Int32) (v3 : Int32) (t0 : Int32) (t1 : Int32) (S : CS) : Prop := K33 v1 (v3 + (-1)) (cF S 1 5 (t1 + t0))
def C0_aMinute_p77 (Q : CS → Prop) (K4 : Int32 → Int32 → CS → Prop) (K33 : Int32 → Int32 → CS → Prop) (v2 : Int32) (v3 : Int32) (v4 : Int32) (t0 : Int32) (t1 : Int32) (S : CS) : Prop := ∀ x_18 : Int32, x_18 = (t1 + t0) → (v4 = 0 → C0_aMinute_p97 Q K4 K33 x_18 v2 v3 1 (S.1 1 5) S) ∧ (¬ v4 = 0 → C0_aMinute_p97 Q K4 K33 x_18 v2 v3 0 (S.1 1 5) S)
def C0_aMinute_p64 (Q : CS → Prop) (K4 : Int32 → Int32 → CS → Prop) (K33 : Int32 → Int32 → CS → Prop) (v1 : Int32) (v2 : Int32) (v3 : Int32) (t0 : Int32) (S : CS) : Prop := (t0 = 0 → C0_aMinute_p77 Q K4 K33 v2 v3 t0 0 v1 S) ∧ (¬ t0 = 0 → C0_aMinute_p77 Q K4 K33 v2 v3 t0 1 v1 S)
def C0_aMinute_L33 (Q : CS → Prop) (K4 : Int32 → Int32 → CS → Prop) (v2 : Int32) : Nat → Int32 → Int32 → CS → Prop
  | 0, _, _, _ => False
  | n + 1, v1, v3, S => (v3 ≤ 0 → K4 v1 (v2 + 1) S) ∧ (¬ v3 ≤ 0 → C1_draw_1  S (fun r_14 S_15 => ((S_15.1 9 0) ≤ (r_14 - r_14 / 100 * 100) → C0_aMinute_p64 Q K4 (fun v1_ v3_ S_ => C0_aMinute_L33 Q K4 v2 n v1_ v3_ S_) v1 v2 v3 0 S_15) ∧ (¬ (S_15.1 9 0) ≤ (r_14 - r_14 / 100 * 100) → C0_aMinute_p64 Q K4 (fun v1_ v3_ S_ => C0_aMinute_L33 Q K4 v2 n v1_ v3_ S_) v1 v2 v3 1 S_15)))
def C0_aMinute_L4 (Q : CS → Prop)   : Nat → Int32 → Int32 → CS → Prop
  | 0, _, _, _ => False
  | n + 1, v1, v2, S => ((S.1 1 1) ≤ v2 → C1_draw_1  (cF S 1 4 ((S.1 1 4) + v1)) (fun r_2 S_3 => ((S_3.1 9 1) ≤ (r_2 - r_2 / 100 * 100) → C0_aMinute_p164 Q v1 S_3) ∧ (¬ (S_3.1 9 1) ≤ (r_2 - r_2 / 100 * 100) → C0_aMinute_p164 Q (v1 + 1) (cF S_3 1 6 ((S_3.1 1 6) + 1))))) ∧ (¬ (S.1 1 1) ≤ v2 → vp_in v2 6 ∧ (∃ y_6 : Nat, (S.2.1 5 v2.toNatClampNeg) = some y_6 ∧ (C0_timeNow  S (fun r_7 S_8 => C0_strokesOf y_6 r_7 S_8 (fun r_9 S_10 => ∃ k33, C0_aMinute_L33 Q (fun v1_ v2_ S_ => C0_aMinute_L4 Q n v1_ v2_ S_) v2 k33 v1 r_9 S_10)))))
def C0_aMinute  (S : CS) (Q : CS → Prop) : Prop := ∃ k4, C0_aMinute_L4 Q k4 0 0 S
abbrev rmX0_aMinute : Room := { frames := 5, cells := 0, slots := 0, locals := 113 }
set_option maxHeartbeats 4000000 in
set_option maxRecDepth 100000 in
theorem wC0_aMinute_p164 {p : Program} {l : Launch} {e : Env} {s : State} {m : MethodId} {args : Array Value} {below : List Frame} {meth : Method} {c : Code} {D : va_G} {a : Nat → Nat} {d : Nat → ClassId} {A : Nat → Prop} {Q : CS → Prop}  (F : FC p s m meth c args D a d A RX0 cX0_aMinute 5 none) (v1 : Int32) (S : CS)  {H : Heap} {locs : List Loc} {ls : Array Slot} (G : GC D a d A s.heap S H locs) (hl : lv_has ls 5 [(0, .ref (a 0)), (1, .int v1)]) (h : C0_aMinute_p164 Q v1 S) : wCv p l e rmX0_aMinute s m args below meth c D a d A Q 0 0 H locs 0 0 (F0 m 164 ls []) := by
  obtain ⟨hx, hb, hr, hml, hown, hts, hlocks, hA, hK, hN⟩ := id F
  unfold C0_aMinute_p164 at h
  refine lv_aload_n hx hb dX0_aMinute_164 rfl (lv_at hl 0 rfl) ?_
  refine cgX0_0_now F G dX0_aMinute_165 ?_
  refine lv_iload_n hx hb dX0_aMinute_168 rfl (lv_at hl 1 rfl) ?_
  refine kX0_C1_notes_1 F G hl.1 ⟨(Nat.le_of_ble_eq_true rfl), (Nat.le_of_ble_eq_true rfl)⟩ ⟨(Nat.le_of_ble_eq_true rfl), (Nat.le_of_ble_eq_true rfl)⟩ (Nat.le_of_ble_eq_true rfl) dX0_aMinute_169 h (fun S_12 H locs G h => ?_)
  refine lv_aload_n hx hb dX0_aMinute_172 rfl (lv_at hl 0 rfl) ?_
  refine cgX0_0_now F G dX0_aMinute_173 ?_
  refine lv_dup hx hb dX0_aMinute_176 rfl ?_
  refine cgX0_1_minute F G dX0_aMinute_177 ?_
  refine lv_iconst (v := 1) hx hb dX0_aMinute_180 (by decide) ?_
  refine lv_iadd hx hb dX0_aMinute_181 ?_
  refine cpX0_1_minute F G dX0_aMinute_182 (fun H locs G => ?_)
  exact c_vret F G dX0_aMinute_185 h
set_option maxHeartbeats 4000000 in
set_option maxRecDepth 100000 in
theorem wC0_aMinute_p97 {p : Program} {l : Launch} {e : Env} {s : State} {m : MethodId} {args : Array Value} {below : List Frame} {meth : Method} {c : Code} {D : va_G} {a : Nat → Nat} {d : Nat → ClassId} {A : Nat → Prop} {Q : CS → Prop} {K4 : Int32 → Int32 → CS → Prop} {K33 : Int32 → Int32 → CS → Prop} (F : FC p s m meth c args D a d A RX0 cX0_aMinute 5 none) (v1 : Int32) (v2 : Int32) (v3 : Int32) (t0 : Int32) (t1 : Int32) (S : CS) (hK4 : ∀ (v1 : Int32) (v2 : Int32) (S : CS) (H : Heap) (locs : List Loc) (ls : Array Slot), GC D a d A s.heap S H locs → lv_has ls 5 [(0, .ref (a 0)), (1, .int v1), (2, .int v2)] → K4 v1 v2 S → wCv p l e rmX0_aMinute s m args below meth c D a d A Q 0 0 H locs 0 0 (F0 m 4 ls [])) (hK33 : ∀ (v1 : Int32) (v3 : Int32) (S : CS) (H : Heap) (locs : List Loc) (ls : Array Slot), GC D a d A s.heap S H locs → lv_has ls 5 [(0, .ref (a 0)), (1, .int v1), (2, .int v2), (3, .int v3)] → K33 v1 v3 S → wCv p l e rmX0_aMinute s m args below meth c D a d A Q 0 0 H locs 0 0 (F0 m 33 ls [])) {H : Heap} {locs : List Loc} {ls : Array Slot} (G : GC D a d A s.heap S H locs) (hl : lv_has ls 5 [(0, .ref (a 0)), (1, .int v1), (2, .int v2), (3, .int v3)]) (h : C0_aMinute_p97 Q K4 K33 v1 v2 v3 t0 t1 S) : wCv p l e rmX0_aMinute s m args below meth c D a d A Q 0 0 H locs 0 0 (F0 m 97 ls [.int t0, .int t1, .ref (a 1)]) := by
  obtain ⟨hx, hb, hr, hml, hown, hts, hlocks, hA, hK, hN⟩ := id F
  unfold C0_aMinute_p97 at h
  refine lv_iadd hx hb dX0_aMinute_97 ?_
  refine cpX0_1_missed F G dX0_aMinute_98 (fun H locs G => ?_)
  refine lv_iinc (v := (v3 + (-1))) (lv' := [(3, .int (v3 + (-1))), (0, .ref (a 0)), (1, .int v1), (2, .int v2)]) hx hb dX0_aMinute_101 hl (k := 3) rfl rfl (by decide) rfl (fun ls hl => ?_)
  refine lv_goto (tgt := 33) hx hb dX0_aMinute_104 (by decide) ?_
  exact hK33 v1 (v3 + (-1)) (cF S 1 5 (t1 + t0)) _ _ _ G (lv_sub hl [1, 2, 3, 0] rfl) h
set_option maxHeartbeats 4000000 in
set_option maxRecDepth 100000 in
theorem wC0_aMinute_p77 {p : Program} {l : Launch} {e : Env} {s : State} {m : MethodId} {args : Array Value} {below : List Frame} {meth : Method} {c : Code} {D : va_G} {a : Nat → Nat} {d : Nat → ClassId} {A : Nat → Prop} {Q : CS → Prop} {K4 : Int32 → Int32 → CS → Prop} {K33 : Int32 → Int32 → CS → Prop} (F : FC p s m meth c args D a d A RX0 cX0_aMinute 5 none) (v2 : Int32) (v3 : Int32) (v4 : Int32) (t0 : Int32) (t1 : Int32) (S : CS) (hK4 : ∀ (v1 : Int32) (v2 : Int32) (S : CS) (H : Heap) (locs : List Loc) (ls : Array Slot), GC D a d A s.heap S H locs → lv_has ls 5 [(0, .ref (a 0)), (1, .int v1), (2, .int v2)] → K4 v1 v2 S → wCv p l e rmX0_aMinute s m args below meth c D a d A Q 0 0 H locs 0 0 (F0 m 4 ls [])) (hK33 : ∀ (v1 : Int32) (v3 : Int32) (S : CS) (H : Heap) (locs : List Loc) (ls : Array Slot), GC D a d A s.heap S H locs → lv_has ls 5 [(0, .ref (a 0)), (1, .int v1), (2, .int v2), (3, .int v3)] → K33 v1 v3 S → wCv p l e rmX0_aMinute s m args below meth c D a d A Q 0 0 H locs 0 0 (F0 m 33 ls [])) {H : Heap} {locs : List Loc} {ls : Array Slot} (G : GC D a d A s.heap S H locs) (hl : lv_has ls 5 [(0, .ref (a 0)), (2, .int v2), (3, .int v3), (4, .int v4)]) (h : C0_aMinute_p77 Q K4 K33 v2 v3 v4 t0 t1 S) : wCv p l e rmX0_aMinute s m args below meth c D a d A Q 0 0 H locs 0 0 (F0 m 77 ls [.int t0, .int t1]) := by
  obtain ⟨hx, hb, hr, hml, hown, hts, hlocks, hA, hK, hN⟩ := id F
  unfold C0_aMinute_p77 at h
  refine lv_iadd hx hb dX0_aMinute_77 ?_
  refine lv_topi (fun x_18 ex_18 => ?_)
  replace h := h x_18 ex_18
  refine lv_istore_n (lv' := [(1, .int x_18), (0, .ref (a 0)), (2, .int v2), (3, .int v3), (4, .int v4)]) hx hb dX0_aMinute_78 rfl hl (by decide) rfl (fun ls hl => ?_)
  refine lv_aload_n hx hb dX0_aMinute_79 rfl (lv_at hl 1 rfl) ?_
  refine cgX0_0_now F G dX0_aMinute_80 ?_
  refine lv_dup hx hb dX0_aMinute_83 rfl ?_
  refine cgX0_1_missed F G dX0_aMinute_84 ?_
  refine lv_iload hx hb dX0_aMinute_87 (lv_at hl 4 rfl) ?_
  refine lv_if_eq (tgt := 96) hx hb dX0_aMinute_89 (by decide) (fun c_19 => ?_) (fun c_19 => ?_)
  · replace h := h.1 c_19
    refine lv_iconst (v := 1) hx hb dX0_aMinute_96 (by decide) ?_
    exact wC0_aMinute_p97 F x_18 v2 v3 1 (S.1 1 5) S hK4 hK33 G (lv_sub hl [1, 0, 2, 3] rfl) h
  · replace h := h.2 c_19
    refine lv_iconst (v := 0) hx hb dX0_aMinute_92 (by decide) ?_
    refine lv_goto (tgt := 97) hx hb dX0_aMinute_93 (by decide) ?_
    exact wC0_aMinute_p97 F x_18 v2 v3 0 (S.1 1 5) S hK4 hK33 G (lv_sub hl [1, 0, 2, 3] rfl) h
set_option maxHeartbeats 4000000 in
set_option maxRecDepth 100000 in
theorem wC0_aMinute_p64 {p : Program} {l : Launch} {e : Env} {s : State} {m : MethodId} {args : Array Value} {below : List Frame} {meth : Method} {c : Code} {D : va_G} {a : Nat → Nat} {d : Nat → ClassId} {A : Nat → Prop} {Q : CS → Prop} {K4 : Int32 → Int32 → CS → Prop} {K33 : Int32 → Int32 → CS → Prop} (F : FC p s m meth c args D a d A RX0 cX0_aMinute 5 none) (v1 : Int32) (v2 : Int32) (v3 : Int32) (t0 : Int32) (S : CS) (hK4 : ∀ (v1 : Int32) (v2 : Int32) (S : CS) (H : Heap) (locs : List Loc) (ls : Array Slot), GC D a d A s.heap S H locs → lv_has ls 5 [(0, .ref (a 0)), (1, .int v1), (2, .int v2)] → K4 v1 v2 S → wCv p l e rmX0_aMinute s m args below meth c D a d A Q 0 0 H locs 0 0 (F0 m 4 ls [])) (hK33 : ∀ (v1 : Int32) (v3 : Int32) (S : CS) (H : Heap) (locs : List Loc) (ls : Array Slot), GC D a d A s.heap S H locs → lv_has ls 5 [(0, .ref (a 0)), (1, .int v1), (2, .int v2), (3, .int v3)] → K33 v1 v3 S → wCv p l e rmX0_aMinute s m args below meth c D a d A Q 0 0 H locs 0 0 (F0 m 33 ls [])) {H : Heap} {locs : List Loc} {ls : Array Slot} (G : GC D a d A s.heap S H locs) (hl : lv_has ls 5 [(0, .ref (a 0)), (1, .int v1), (2, .int v2), (3, .int v3)]) (h : C0_aMinute_p64 Q K4 K33 v1 v2 v3 t0 S) : wCv p l e rmX0_aMinute s m args below meth c D a d A Q 0 0 H locs 0 0 (F0 m 64 ls [.int t0]) := by
  obtain ⟨hx, hb, hr, hml, hown, hts, hlocks, hA, hK, hN⟩ := id F
  unfold C0_aMinute_p64 at h
  refine lv_istore (lv' := [(4, .int t0), (0, .ref (a 0)), (1, .int v1), (2, .int v2), (3, .int v3)]) hx hb dX0_aMinute_64 hl (by decide) rfl (fun ls hl => ?_)
  refine lv_iload_n hx hb dX0_aMinute_66 rfl (lv_at hl 2 rfl) ?_
  refine lv_iload hx hb dX0_aMinute_67 (lv_at hl 0 rfl) ?_
  refine lv_if_eq (tgt := 76) hx hb dX0_aMinute_69 (by decide) (fun c_17 => ?_) (fun c_17 => ?_)
  · replace h := h.1 c_17
    refine lv_iconst (v := 0) hx hb dX0_aMinute_76 (by decide) ?_
    exact wC0_aMinute_p77 F v2 v3 t0 0 v1 S hK4 hK33 G (lv_sub hl [1, 3, 4, 0] rfl) h
  · replace h := h.2 c_17
    refine lv_iconst (v := 1) hx hb dX0_aMinute_72 (by decide) ?_
    refine lv_goto (tgt := 77) hx hb dX0_aMinute_73 (by decide) ?_
    exact wC0_aMinute_p77 F v2 v3 t0 1 v1 S hK4 hK33 G (lv_sub hl [1, 3, 4, 0] rfl) h
set_option maxHeartbeats 4000000 in
set_option maxRecDepth 100000 in
theorem wC0_aMinute_L33 {p : Program} {l : Launch} {e : Env} {s : State} {m : MethodId} {args : Array Value} {below : List Frame} {meth : Method} {c : Code} {D : va_G} {a : Nat → Nat} {d : Nat → ClassId} {A : Nat → Prop} {Q : CS → Prop} {K4 : Int32 → Int32 → CS → Prop} (F : FC p s m meth c args D a d A RX0 cX0_aMinute 5 none) (v2 : Int32) (hK4 : ∀ (v1 : Int32) (v2 : Int32) (S : CS) (H : Heap) (locs : List Loc) (ls : Array Slot), GC D a d A s.heap S H locs → lv_has ls 5 [(0, .ref (a 0)), (1, .int v1), (2, .int v2)] → K4 v1 v2 S → wCv p l e rmX0_aMinute s m args below meth c D a d A Q 0 0 H locs 0 0 (F0 m 4 ls [])) :
    ∀ (n : Nat) (v1 : Int32) (v3 : Int32) (S : CS) (H : Heap) (locs : List Loc) (ls : Array Slot), GC D a d A s.heap S H locs → lv_has ls 5 [(0, .ref (a 0)), (1, .int v1), (2, .int v2), (3, .int v3)] → C0_aMinute_L33 Q K4 v2 n v1 v3 S → wCv p l e rmX0_aMinute s m args below meth c D a d A Q 0 0 H locs 0 0 (F0 m 33 ls []) := by
  obtain ⟨hx, hb, hr, hml, hown, hts, hlocks, hA, hK, hN⟩ := id F
  intro n
  induction n with
  | zero => intro v1 v3 S H locs ls G hl h; exact absurd h (fun q => q)
  | succ n ih =>
    intro v1 v3 S H locs ls G hl h
    unfold C0_aMinute_L33 at h
    refine lv_iload_n hx hb dX0_aMinute_33 rfl (lv_at hl 3 rfl) ?_
    refine lv_if_le (tgt := 107) hx hb dX0_aMinute_34 (by decide) (fun c_13 => ?_) (fun c_13 => ?_)
    · replace h := h.1 c_13
      refine lv_iinc (v := (v2 + 1)) (lv' := [(2, .int (v2 + 1)), (0, .ref (a 0)), (1, .int v1), (3, .int v3)]) hx hb dX0_aMinute_107 hl (k := 2) rfl rfl (by decide) rfl (fun ls hl => ?_)
      refine lv_goto (tgt := 4) hx hb dX0_aMinute_110 (by decide) ?_
      exact hK4 v1 (v2 + 1) S _ _ _ G (lv_sub hl [1, 2, 0] rfl) h
    · replace h := h.2 c_13
      refine lv_aload_n hx hb dX0_aMinute_37 rfl (lv_at hl 0 rfl) ?_
      refine cgX0_0_now F G dX0_aMinute_38 ?_
      refine kX0_C1_draw_1 F G hl.1 ⟨(Nat.le_of_ble_eq_true rfl), (Nat.le_of_ble_eq_true rfl)⟩ ⟨(Nat.le_of_ble_eq_true rfl), (Nat.le_of_ble_eq_true rfl)⟩ (Nat.le_of_ble_eq_true rfl) dX0_aMinute_41 h (fun r_14 S_15 H locs G h => ?_)
      refine lv_bipush (v := 100) hx hb dX0_aMinute_44 (by decide) ?_
      refine lv_irem hx hb dX0_aMinute_46 (by decide) ?_
      refine lv_aload_n hx hb dX0_aMinute_47 rfl (lv_at hl 0 rfl) ?_
      refine cgX0_0_now F G dX0_aMinute_48 ?_
      refine cgX0_1_bed F G dX0_aMinute_51 ?_
      refine lv_iconst (v := 0) hx hb dX0_aMinute_54 (by decide) ?_
      refine c_iaload F G cI_9 (by unfold vp_in; decide) dX0_aMinute_55 ?_
      refine lv_icmp_ge (tgt := 63) hx hb dX0_aMinute_56 (by decide) (fun c_16 => ?_) (fun c_16 => ?_)
      · replace h := h.1 c_16
        refine lv_iconst (v := 0) hx hb dX0_aMinute_63 (by decide) ?_
        exact wC0_aMinute_p64 F v1 v2 v3 0 S_15 hK4 ih G (lv_sub hl [0, 1, 2, 3] rfl) h
      · replace h := h.2 c_16
        refine lv_iconst (v := 1) hx hb dX0_aMinute_59 (by decide) ?_
        refine lv_goto (tgt := 64) hx hb dX0_aMinute_60 (by decide) ?_
        exact wC0_aMinute_p64 F v1 v2 v3 1 S_15 hK4 ih G (lv_sub hl [0, 1, 2, 3] rfl) h
set_option maxHeartbeats 4000000 in
set_option maxRecDepth 100000 in
theorem wC0_aMinute_L4 {p : Program} {l : Launch} {e : Env} {s : State} {m : MethodId} {args : Array Value} {below : List Frame} {meth : Method} {c : Code} {D : va_G} {a : Nat → Nat} {d : Nat → ClassId} {A : Nat → Prop} {Q : CS → Prop}  (F : FC p s m meth c args D a d A RX0 cX0_aMinute 5 none)   :
    ∀ (n : Nat) (v1 : Int32) (v2 : Int32) (S : CS) (H : Heap) (locs : List Loc) (ls : Array Slot), GC D a d A s.heap S H locs → lv_has ls 5 [(0, .ref (a 0)), (1, .int v1), (2, .int v2)] → C0_aMinute_L4 Q n v1 v2 S → wCv p l e rmX0_aMinute s m args below meth c D a d A Q 0 0 H locs 0 0 (F0 m 4 ls []) := by
  obtain ⟨hx, hb, hr, hml, hown, hts, hlocks, hA, hK, hN⟩ := id F
  intro n
  induction n with
  | zero => intro v1 v2 S H locs ls G hl h; exact absurd h (fun q => q)
  | succ n ih =>
    intro v1 v2 S H locs ls G hl h
    unfold C0_aMinute_L4 at h
    refine lv_iload_n hx hb dX0_aMinute_4 rfl (lv_at hl 2 rfl) ?_
    refine lv_aload_n hx hb dX0_aMinute_5 rfl (lv_at hl 0 rfl) ?_
    refine cgX0_0_now F G dX0_aMinute_6 ?_
    refine cgX0_1_many F G dX0_aMinute_9 ?_
    refine lv_icmp_ge (tgt := 113) hx hb dX0_aMinute_12 (by decide) (fun c_1 => ?_) (fun c_1 => ?_)
    · replace h := h.1 c_1
      refine lv_aload_n hx hb dX0_aMinute_113 rfl (lv_at hl 0 rfl) ?_
      refine cgX0_0_now F G dX0_aMinute_114 ?_
      refine lv_dup hx hb dX0_aMinute_117 rfl ?_
      refine cgX0_1_heard F G dX0_aMinute_118 ?_
      refine lv_iload_n hx hb dX0_aMinute_121 rfl (lv_at hl 1 rfl) ?_
      refine lv_iadd hx hb dX0_aMinute_122 ?_
      refine cpX0_1_heard F G dX0_aMinute_123 (fun H locs G => ?_)
      refine lv_aload_n hx hb dX0_aMinute_126 rfl (lv_at hl 0 rfl) ?_
      refine cgX0_0_now F G dX0_aMinute_127 ?_
      refine kX0_C1_draw_1 F G hl.1 ⟨(Nat.le_of_ble_eq_true rfl), (Nat.le_of_ble_eq_true rfl)⟩ ⟨(Nat.le_of_ble_eq_true rfl), (Nat.le_of_ble_eq_true rfl)⟩ (Nat.le_of_ble_eq_true rfl) dX0_aMinute_130 h (fun r_2 S_3 H locs G h => ?_)
      refine lv_bipush (v := 100) hx hb dX0_aMinute_133 (by decide) ?_
      refine lv_irem hx hb dX0_aMinute_135 (by decide) ?_
      refine lv_aload_n hx hb dX0_aMinute_136 rfl (lv_at hl 0 rfl) ?_
      refine cgX0_0_now F G dX0_aMinute_137 ?_
      refine cgX0_1_bed F G dX0_aMinute_140 ?_
      refine lv_iconst (v := 1) hx hb dX0_aMinute_143 (by decide) ?_
      refine c_iaload F G cI_9 (by unfold vp_in; decide) dX0_aMinute_144 ?_
      refine lv_icmp_ge (tgt := 164) hx hb dX0_aMinute_145 (by decide) (fun c_4 => ?_) (fun c_4 => ?_)
      · replace h := h.1 c_4
        exact wC0_aMinute_p164 F v1 S_3  G (lv_sub hl [0, 1] rfl) h
      · replace h := h.2 c_4
        refine lv_aload_n hx hb dX0_aMinute_148 rfl (lv_at hl 0 rfl) ?_
        refine cgX0_0_now F G dX0_aMinute_149 ?_
        refine lv_dup hx hb dX0_aMinute_152 rfl ?_
        refine cgX0_1_mistaken F G dX0_aMinute_153 ?_
        refine lv_iconst (v := 1) hx hb dX0_aMinute_156 (by decide) ?_
        refine lv_iadd hx hb dX0_aMinute_157 ?_
        refine cpX0_1_mistaken F G dX0_aMinute_158 (fun H locs G => ?_)
        refine lv_iinc (v := (v1 + 1)) (lv' := [(1, .int (v1 + 1)), (0, .ref (a 0)), (2, .int v2)]) hx hb dX0_aMinute_161 hl (k := 1) rfl rfl (by decide) rfl (fun ls hl => ?_)
        exact wC0_aMinute_p164 F (v1 + 1) (cF S_3 1 6 ((S_3.1 1 6) + 1))  G (lv_sub hl [1, 0] rfl) h
    · replace h := h.2 c_1
      refine lv_aload_n hx hb dX0_aMinute_15 rfl (lv_at hl 0 rfl) ?_
      refine lv_aload_n hx hb dX0_aMinute_16 rfl (lv_at hl 0 rfl) ?_
      refine cgX0_0_now F G dX0_aMinute_17 ?_
      refine cgX0_1_clock F G dX0_aMinute_20 ?_
      refine lv_iload_n hx hb dX0_aMinute_23 rfl (lv_at hl 2 rfl) ?_
      obtain ⟨b_5, h⟩ := h
      refine c_aaload F G cR_5 rfl b_5 dX0_aMinute_24 ?_
      obtain ⟨y_6, hy_6, h⟩ := h
      refine c_nn hy_6 ?_
      refine lv_aload_n hx hb dX0_aMinute_25 rfl (lv_at hl 0 rfl) ?_
      refine kX0_C0_timeNow F G hl.1 ⟨(Nat.le_of_ble_eq_true rfl), (Nat.le_of_ble_eq_true rfl)⟩ ⟨(Nat.le_of_ble_eq_true rfl), (Nat.le_of_ble_eq_true rfl)⟩ (Nat.le_of_ble_eq_true rfl) dX0_aMinute_26 h (fun r_7 S_8 H locs G h => ?_)
      refine kX0_C0_strokesOf F G hl.1 ⟨(Nat.le_of_ble_eq_true rfl), (Nat.le_of_ble_eq_true rfl)⟩ ⟨(Nat.le_of_ble_eq_true rfl), (Nat.le_of_ble_eq_true rfl)⟩ (Nat.le_of_ble_eq_true rfl) dX0_aMinute_29 h (fun r_9 S_10 H locs G h => ?_)
      refine lv_istore_n (lv' := [(3, .int r_9), (0, .ref (a 0)), (1, .int v1), (2, .int v2)]) hx hb dX0_aMinute_32 rfl hl (by decide) rfl (fun ls hl => ?_)
      obtain ⟨k33, h⟩ := h
      exact wC0_aMinute_L33 F v2 ih k33 v1 r_9 S_10 _ _ _ G (lv_sub hl [1, 2, 3, 0] rfl) h
set_option maxHeartbeats 4000000 in
set_option maxRecDepth 100000 in
theorem wC0_aMinute {l : Launch} {D : va_G} {a : Nat → Nat} {d : Nat → ClassId} (sz : Nat)  (S : CS) (Q : CS → Prop) (h : C0_aMinute  S Q) : CMv l D a d yX0_aMinute cX0_aMinute 5 rmX0_aMinute 0 0 [.ref (a 0)] sz S Q := by
  refine c_enter (Qc := fun A => va_Qv Q (BC D a d A) A) RX0 (by decide +kernel) rfl (Nat.le_of_ble_eq_true rfl) ?_
  intro p e s m below meth c ls A hmn F hG hl
  have G := hG
  have hl : lv_has ls 5 [(0, .ref (a 0))] := hl
  obtain ⟨hx, hb, hr, hml, hown, hts, hlocks, hA, hK, hN⟩ := id F
  unfold C0_aMinute at h
  refine lv_iconst (v := 0) hx hb dX0_aMinute_0 (by decide) ?_
  refine lv_istore_n (lv' := [(1, .int 0), (0, .ref (a 0))]) hx hb dX0_aMinute_1 rfl hl (by decide) rfl (fun ls hl => ?_)
  refine lv_iconst (v := 0) hx hb dX0_aMinute_2 (by decide) ?_
  refine lv_istore_n (lv' := [(2, .int 0), (1, .int 0), (0, .ref (a 0))]) hx hb dX0_aMinute_3 rfl hl (by decide) rfl (fun ls hl => ?_)
  obtain ⟨k4, h⟩ := h
  exact wC0_aMinute_L4 F   k4 0 0 S _ _ _ G (lv_sub hl [2, 1, 0] rfl) h
set_option maxHeartbeats 4000000 in
set_option maxRecDepth 100000 in
theorem kX0_C0_aMinute {p : Program} {l : Launch} {e : Env} {s : State} {m : MethodId} {R : Room} {args : Array Value} {below : List Frame} {meth : Method} {c : Code} {D : va_G} {a : Nat → Nat} {d : Nat → ClassId} {A : Nat → Prop} {Q : State → Prop} {cc : ByteArray} {nL pc cells slots : Nat} {ret : Option FieldType} {ls : Array Slot} {rest : List Value}  {S : CS} {H : Heap} {locs : List Loc} {Q1 : CS → Prop} (F : FC p s m meth c args D a d A RX0 cc nL ret) (G : GC D a d A s.heap S H locs) (hsz : ls.size = nL) (hR : rmX0_aMinute.frames + 1 ≤ R.frames ∧ 8 + (5 + 11) + rmX0_aMinute.locals ≤ R.locals) (hc : cells + 0 ≤ R.cells ∧ slots + 0 ≤ R.slots) (hW : (rest.map fun v => v.category).sum ≤ 8) (hd : decode cc pc = .ok (.invokevirtual 360, 3)) (h : C0_aMinute  S Q1) (k : ∀ (S1 : CS) (H : Heap) (locs : List Loc), GC D a d A s.heap S1 H locs → Q1 S1 → W p l e R s m args below meth c H locs cells slots Q (F0 m (pc + 3) ls rest)) : W p l e R s m args below meth c H locs cells slots Q (F0 m pc ls (.ref (a 0) :: rest)) := by
  obtain ⟨hx, hb, hr, hml, hown, hts, hlocks, hA, hK, hN⟩ := id F
  exact c_callv F G (va_runV (As := []) (rest := rest) ⟨hx, hb, hml, hown, hts⟩ (wC0_aMinute H.size  S Q1 h) (cwV 0 hts (lw_V q844 q846 qs27 q82 q847) rfl rfl rfl (by decide +kernel) hR) ⟨PC_blind, va_recv hK G.1 (ci := 0) (q0 := 0) rfl rfl, c_pre F G⟩ rfl rfl hsz rfl (lv_room hW) hd hc) k
/-! StrokesHeard.goesOn -/
def C0_goesOn_L2 (Q : CS → Prop)  (v1 : Int32) : Nat → Int32 → CS → Prop
  | 0, _, _ => False
  | n + 1, v2, S => (v1 ≤ v2 → Q S) ∧ (¬ v1 ≤ v2 → C0_aMinute  S (fun S_3 => C0_goesOn_L2 Q v1 n (v2 + 1) S_3))
def C0_goesOn (v1 : Int32) (S : CS) (Q : CS → Prop) : Prop := ∃ k2, C0_goesOn_L2 Q v1 k2 0 S
abbrev rmX0_goesOn : Room := { frames := 6, cells := 0, slots := 0, locals := 137 }
set_option maxHeartbeats 4000000 in
set_option maxRecDepth 100000 in
theorem wC0_goesOn_L2 {p : Program} {l : Launch} {e : Env} {s : State} {m : MethodId} {args : Array Value} {below : List Frame} {meth : Method} {c : Code} {D : va_G} {a : Nat → Nat} {d : Nat → ClassId} {A : Nat → Prop} {Q : CS → Prop}  (F : FC p s m meth c args D a d A RX0 cX0_goesOn 3 none) (v1 : Int32)  :
    ∀ (n : Nat) (v2 : Int32) (S : CS) (H : Heap) (locs : List Loc) (ls : Array Slot), GC D a d A s.heap S H locs → lv_has ls 3 [(0, .ref (a 0)), (1, .int v1), (2, .int v2)] → C0_goesOn_L2 Q v1 n v2 S → wCv p l e rmX0_goesOn s m args below meth c D a d A Q 0 0 H locs 0 0 (F0 m 2 ls []) := by
  obtain ⟨hx, hb, hr, hml, hown, hts, hlocks, hA, hK, hN⟩ := id F
  intro n
  induction n with
  | zero => intro v2 S H locs ls G hl h; exact absurd h (fun q => q)
  | succ n ih =>
    intro v2 S H locs ls G hl h
    unfold C0_goesOn_L2 at h
    refine lv_iload_n hx hb dX0_goesOn_2 rfl (lv_at hl 2 rfl) ?_
    refine lv_iload_n hx hb dX0_goesOn_3 rfl (lv_at hl 1 rfl) ?_
    refine lv_icmp_ge (tgt := 17) hx hb dX0_goesOn_4 (by decide) (fun c_1 => ?_) (fun c_1 => ?_)
    · replace h := h.1 c_1
      exact c_vret F G dX0_goesOn_17 h
    · replace h := h.2 c_1
      refine lv_aload_n hx hb dX0_goesOn_7 rfl (lv_at hl 0 rfl) ?_
      refine kX0_C0_aMinute F G hl.1 ⟨(Nat.le_of_ble_eq_true rfl), (Nat.le_of_ble_eq_true rfl)⟩ ⟨(Nat.le_of_ble_eq_true rfl), (Nat.le_of_ble_eq_true rfl)⟩ (Nat.le_of_ble_eq_true rfl) dX0_goesOn_8 h (fun S_3 H locs G h => ?_)
      refine lv_iinc (v := (v2 + 1)) (lv' := [(2, .int (v2 + 1)), (0, .ref (a 0)), (1, .int v1)]) hx hb dX0_goesOn_11 hl (k := 2) rfl rfl (by decide) rfl (fun ls hl => ?_)
      refine lv_goto (tgt := 2) hx hb dX0_goesOn_14 (by decide) ?_
      exact ih (v2 + 1) S_3 _ _ _ G (lv_sub hl [1, 2, 0] rfl) h
set_option maxHeartbeats 4000000 in
set_option maxRecDepth 100000 in
theorem wC0_goesOn {l : Launch} {D : va_G} {a : Nat → Nat} {d : Nat → ClassId} (sz : Nat) (v1 : Int32) (S : CS) (Q : CS → Prop) (h : C0_goesOn v1 S Q) : CMv l D a d yX0_goesOn cX0_goesOn 3 rmX0_goesOn 0 0 [.ref (a 0), .int v1] sz S Q := by
  refine c_enter (Qc := fun A => va_Qv Q (BC D a d A) A) RX0 (by decide +kernel) rfl (Nat.le_of_ble_eq_true rfl) ?_
  intro p e s m below meth c ls A hmn F hG hl
  have G := hG
  have hl : lv_has ls 3 [(0, .ref (a 0)), (1, .int v1)] := hl
  obtain ⟨hx, hb, hr, hml, hown, hts, hlocks, hA, hK, hN⟩ := id F
  unfold C0_goesOn at h
  refine lv_iconst (v := 0) hx hb dX0_goesOn_0 (by decide) ?_
  refine lv_istore_n (lv' := [(2, .int 0), (0, .ref (a 0)), (1, .int v1)]) hx hb dX0_goesOn_1 rfl hl (by decide) rfl (fun ls hl => ?_)
  obtain ⟨k2, h⟩ := h
  exact wC0_goesOn_L2 F v1  k2 0 S _ _ _ G (lv_sub hl [1, 2, 0] rfl) h
set_option maxHeartbeats 4000000 in
set_option maxRecDepth 100000 in
theorem kX0_C0_goesOn {p : Program} {l : Launch} {e : Env} {s : State} {m : MethodId} {R : Room} {args : Array Value} {below : List Frame} {meth : Method} {c : Code} {D : va_G} {a : Nat → Nat} {d : Nat → ClassId} {A : Nat → Prop} {Q : State → Prop} {cc : ByteArray} {nL pc cells slots : Nat} {ret : Option FieldType} {ls : Array Slot} {rest : List Value} {v1 : Int32} {S : CS} {H : Heap} {locs : List Loc} {Q1 : CS → Prop} (F : FC p s m meth c args D a d A RX0 cc nL ret) (G : GC D a d A s.heap S H locs) (hsz : ls.size = nL) (hR : rmX0_goesOn.frames + 1 ≤ R.frames ∧ 8 + (3 + 11) + rmX0_goesOn.locals ≤ R.locals) (hc : cells + 0 ≤ R.cells ∧ slots + 0 ≤ R.slots) (hW : (rest.map fun v => v.category).sum ≤ 8) (hd : decode cc pc = .ok (.invokevirtual 363, 3)) (h : C0_goesOn v1 S Q1) (k : ∀ (S1 : CS) (H : Heap) (locs : List Loc), GC D a d A s.heap S1 H locs → Q1 S1 → W p l e R s m args below meth c H locs cells slots Q (F0 m (pc + 3) ls rest)) : W p l e R s m args below meth c H locs cells slots Q (F0 m pc ls (.int v1 :: .ref (a 0) :: rest)) := by
  obtain ⟨hx, hb, hr, hml, hown, hts, hlocks, hA, hK, hN⟩ := id F
  exact c_callv F G (va_runV (As := [.int v1]) (rest := rest) ⟨hx, hb, hml, hown, hts⟩ (wC0_goesOn H.size v1 S Q1 h) (cwV 1 hts (lw_V q840 q842 qs26 q82 q843) rfl rfl rfl (by decide +kernel) hR) ⟨PC_blind, va_recv hK G.1 (ci := 0) (q0 := 0) rfl rfl, c_pre F G⟩ rfl rfl hsz rfl (lv_room hW) hd hc) k
/-! StrokesHeard.minutes -/
def C0_minutes (v1 : Int32) (S : CS) (Q : Int32 → CS → Prop) : Prop := C0_isIn v1 1 100 S (fun r_1 S_2 => (¬ r_1 = 0 → ∀ x_4 : Int32, x_4 = (S_2.1 1 4) → CJ3_min v1 (9999 - (S_2.1 1 7)) S_2 (fun r_5 S_6 => C0_goesOn r_5 S_6 (fun S_8 => Q ((S_8.1 1 4) - x_4) S_8))) ∧ (r_1 = 0 → Q (-1000000001) S_2))
abbrev rmX0_minutes : Room := { frames := 7, cells := 0, slots := 0, locals := 159 }
set_option maxHeartbeats 4000000 in
set_option maxRecDepth 100000 in
theorem wC0_minutes {l : Launch} {D : va_G} {a : Nat → Nat} {d : Nat → ClassId} (sz : Nat) (v1 : Int32) (S : CS) (Q : Int32 → CS → Prop) (h : C0_minutes v1 S Q) : CMi l D a d yX0_minutes cX0_minutes 3 .int rmX0_minutes 0 0 [.ref (a 0), .int v1] sz S Q := by
  refine c_enter (Qc := fun A => va_Qi Q (BC D a d A) A) RX0 (by decide +kernel) rfl (Nat.le_of_ble_eq_true rfl) ?_
  intro p e s m below meth c ls A hmn F hG hl
  have G := hG
  have hl : lv_has ls 3 [(0, .ref (a 0)), (1, .int v1)] := hl
  obtain ⟨hx, hb, hr, hml, hown, hts, hlocks, hA, hK, hN⟩ := id F
  unfold C0_minutes at h
  refine lv_iload_n hx hb dX0_minutes_0 rfl (lv_at hl 1 rfl) ?_
  refine lv_iconst (v := 1) hx hb dX0_minutes_1 (by decide) ?_
  refine lv_bipush (v := 100) hx hb dX0_minutes_2 (by decide) ?_
  refine kX0_C0_isIn F G hl.1 ⟨(Nat.le_of_ble_eq_true rfl), (Nat.le_of_ble_eq_true rfl)⟩ ⟨(Nat.le_of_ble_eq_true rfl), (Nat.le_of_ble_eq_true rfl)⟩ (Nat.le_of_ble_eq_true rfl) dX0_minutes_4 h (fun r_1 S_2 H locs G h => ?_)
  refine lv_if_ne (tgt := 13) hx hb dX0_minutes_7 (by decide) (fun c_3 => ?_) (fun c_3 => ?_)
  · replace h := h.1 c_3
    refine lv_aload_n hx hb dX0_minutes_13 rfl (lv_at hl 0 rfl) ?_
    refine cgX0_0_now F G dX0_minutes_14 ?_
    refine cgX0_1_heard F G dX0_minutes_17 ?_
    refine lv_topi (fun x_4 ex_4 => ?_)
    replace h := h x_4 ex_4
    refine lv_istore_n (lv' := [(2, .int x_4), (0, .ref (a 0)), (1, .int v1)]) hx hb dX0_minutes_20 rfl hl (by decide) rfl (fun ls hl => ?_)
    refine lv_aload_n hx hb dX0_minutes_21 rfl (lv_at hl 1 rfl) ?_
    refine lv_iload_n hx hb dX0_minutes_22 rfl (lv_at hl 2 rfl) ?_
    refine lv_sipush (v := 9999) hx hb dX0_minutes_23 (by decide) ?_
    refine lv_aload_n hx hb dX0_minutes_26 rfl (lv_at hl 1 rfl) ?_
    refine cgX0_0_now F G dX0_minutes_27 ?_
    refine cgX0_1_minute F G dX0_minutes_30 ?_
    refine lv_isub hx hb dX0_minutes_33 ?_
    refine kX0_CJ3_min F G hl.1 ⟨(Nat.le_of_ble_eq_true rfl), (Nat.le_of_ble_eq_true rfl)⟩ ⟨(Nat.le_of_ble_eq_true rfl), (Nat.le_of_ble_eq_true rfl)⟩ (Nat.le_of_ble_eq_true rfl) dX0_minutes_34 h (fun r_5 S_6 H locs G h => ?_)
    refine kX0_C0_goesOn F G hl.1 ⟨(Nat.le_of_ble_eq_true rfl), (Nat.le_of_ble_eq_true rfl)⟩ ⟨(Nat.le_of_ble_eq_true rfl), (Nat.le_of_ble_eq_true rfl)⟩ (Nat.le_of_ble_eq_true rfl) dX0_minutes_37 h (fun S_8 H locs G h => ?_)
    refine lv_aload_n hx hb dX0_minutes_40 rfl (lv_at hl 1 rfl) ?_
    refine cgX0_0_now F G dX0_minutes_41 ?_
    refine cgX0_1_heard F G dX0_minutes_44 ?_
    refine lv_iload_n hx hb dX0_minutes_47 rfl (lv_at hl 0 rfl) ?_
    refine lv_isub hx hb dX0_minutes_48 ?_
    exact c_iret F G dX0_minutes_49 h
  · replace h := h.2 c_3
    refine lv_ldc hx hb hown (hts _ q368) dX0_minutes_10 ?_
    exact c_iret F G dX0_minutes_12 h
/-! StrokesHeard.bed -/
def C0_bed (v1 : Int32) (S : CS) (Q : Int32 → CS → Prop) : Prop := (v1 = 0 → Q (S.1 1 4) S) ∧ (v1 = 1 → Q (S.1 1 5) S) ∧ (v1 = 2 → Q (S.1 1 6) S) ∧ (v1 = 3 → Q (S.1 1 9) S) ∧ (¬ v1 = 0 → ¬ v1 = 1 → ¬ v1 = 2 → ¬ v1 = 3 → Q (-1000000001) S)
abbrev rmX0_bed : Room := { frames := 0, cells := 0, slots := 0, locals := 0 }
set_option maxHeartbeats 4000000 in
set_option maxRecDepth 100000 in
theorem wC0_bed {l : Launch} {D : va_G} {a : Nat → Nat} {d : Nat → ClassId} (sz : Nat) (v1 : Int32) (S : CS) (Q : Int32 → CS → Prop) (h : C0_bed v1 S Q) : CMi l D a d yX0_bed cX0_bed 2 .int rmX0_bed 0 0 [.ref (a 0), .int v1] sz S Q := by
  refine c_enter (Qc := fun A => va_Qi Q (BC D a d A) A) RX0 (by decide +kernel) rfl (Nat.le_of_ble_eq_true rfl) ?_
  intro p e s m below meth c ls A hmn F hG hl
  have G := hG
  have hl : lv_has ls 2 [(0, .ref (a 0)), (1, .int v1)] := hl
  obtain ⟨hx, hb, hr, hml, hown, hts, hlocks, hA, hK, hN⟩ := id F
  unfold C0_bed at h
  refine lv_iload_n hx hb dX0_bed_0 rfl (lv_at hl 1 rfl) ?_
  by_cases c_1 : v1 = 0
  · replace h := h.1 c_1
    refine m_tsIn (k := 0) (off := 31) (tgt := 32) hx hb dX0_bed_1 c_1 (by decide) (by decide) (by decide) (by decide) ?_
    refine lv_aload_n hx hb dX0_bed_32 rfl (lv_at hl 0 rfl) ?_
    refine cgX0_0_now F G dX0_bed_33 ?_
    refine cgX0_1_heard F G dX0_bed_36 ?_
    exact c_iret F G dX0_bed_39 h
  by_cases c_2 : v1 = 1
  · replace h := h.2.1 c_2
    refine m_tsIn (k := 1) (off := 39) (tgt := 40) hx hb dX0_bed_1 c_2 (by decide) (by decide) (by decide) (by decide) ?_
    refine lv_aload_n hx hb dX0_bed_40 rfl (lv_at hl 0 rfl) ?_
    refine cgX0_0_now F G dX0_bed_41 ?_
    refine cgX0_1_missed F G dX0_bed_44 ?_
    exact c_iret F G dX0_bed_47 h
  by_cases c_3 : v1 = 2
  · replace h := h.2.2.1 c_3
    refine m_tsIn (k := 2) (off := 47) (tgt := 48) hx hb dX0_bed_1 c_3 (by decide) (by decide) (by decide) (by decide) ?_
    refine lv_aload_n hx hb dX0_bed_48 rfl (lv_at hl 0 rfl) ?_
    refine cgX0_0_now F G dX0_bed_49 ?_
    refine cgX0_1_mistaken F G dX0_bed_52 ?_
    exact c_iret F G dX0_bed_55 h
  by_cases c_4 : v1 = 3
  · replace h := h.2.2.2.1 c_4
    refine m_tsIn (k := 3) (off := 55) (tgt := 56) hx hb dX0_bed_1 c_4 (by decide) (by decide) (by decide) (by decide) ?_
    refine lv_aload_n hx hb dX0_bed_56 rfl (lv_at hl 0 rfl) ?_
    refine cgX0_0_now F G dX0_bed_57 ?_
    refine cgX0_1_notes F G dX0_bed_60 ?_
    exact c_iret F G dX0_bed_63 h
  replace h := h.2.2.2.2 c_1 c_2 c_3 c_4
  refine m_tsD (ks := [0, 1, 2, 3]) (tgt := 64) hx hb dX0_bed_1 (tk_cons c_1 (by decide) (tk_cons c_2 (by decide) (tk_cons c_3 (by decide) (tk_cons c_4 (by decide) tk_nil)))) (by decide) (by decide) ?_
  refine lv_ldc hx hb hown (hts _ q368) dX0_bed_64 ?_
  exact c_iret F G dX0_bed_66 h
/-! StrokesHeard.note -/
def C0_note (v1 : Int32) (S : CS) (Q : Int32 → CS → Prop) : Prop := C0_isIn v1 0 11 S (fun r_1 S_2 => (¬ r_1 = 0 → ((S_2.1 1 9) ≤ v1 → Q (-1000000005) S_2) ∧ (¬ (S_2.1 1 9) ≤ v1 → vp_in v1 12 ∧ (Q (S_2.1 13 (v1.toNatClampNeg)) S_2))) ∧ (r_1 = 0 → Q (-1000000001) S_2))
abbrev rmX0_note : Room := { frames := 1, cells := 0, slots := 0, locals := 22 }
set_option maxHeartbeats 4000000 in
set_option maxRecDepth 100000 in
theorem wC0_note {l : Launch} {D : va_G} {a : Nat → Nat} {d : Nat → ClassId} (sz : Nat) (v1 : Int32) (S : CS) (Q : Int32 → CS → Prop) (h : C0_note v1 S Q) : CMi l D a d yX0_note cX0_note 2 .int rmX0_note 0 0 [.ref (a 0), .int v1] sz S Q := by
  refine c_enter (Qc := fun A => va_Qi Q (BC D a d A) A) RX0 (by decide +kernel) rfl (Nat.le_of_ble_eq_true rfl) ?_
  intro p e s m below meth c ls A hmn F hG hl
  have G := hG
  have hl : lv_has ls 2 [(0, .ref (a 0)), (1, .int v1)] := hl
  obtain ⟨hx, hb, hr, hml, hown, hts, hlocks, hA, hK, hN⟩ := id F
  unfold C0_note at h
  refine lv_iload_n hx hb dX0_note_0 rfl (lv_at hl 1 rfl) ?_
  refine lv_iconst (v := 0) hx hb dX0_note_1 (by decide) ?_
  refine lv_bipush (v := 11) hx hb dX0_note_2 (by decide) ?_
  refine kX0_C0_isIn F G hl.1 ⟨(Nat.le_of_ble_eq_true rfl), (Nat.le_of_ble_eq_true rfl)⟩ ⟨(Nat.le_of_ble_eq_true rfl), (Nat.le_of_ble_eq_true rfl)⟩ (Nat.le_of_ble_eq_true rfl) dX0_note_4 h (fun r_1 S_2 H locs G h => ?_)
  refine lv_if_ne (tgt := 13) hx hb dX0_note_7 (by decide) (fun c_3 => ?_) (fun c_3 => ?_)
  · replace h := h.1 c_3
    refine lv_iload_n hx hb dX0_note_13 rfl (lv_at hl 1 rfl) ?_
    refine lv_aload_n hx hb dX0_note_14 rfl (lv_at hl 0 rfl) ?_
    refine cgX0_0_now F G dX0_note_15 ?_
    refine cgX0_1_notes F G dX0_note_18 ?_
    refine lv_icmp_ge (tgt := 36) hx hb dX0_note_21 (by decide) (fun c_4 => ?_) (fun c_4 => ?_)
    · replace h := h.1 c_4
      refine lv_ldc hx hb hown (hts _ q547) dX0_note_36 ?_
      exact c_iret F G dX0_note_38 h
    · replace h := h.2 c_4
      refine lv_aload_n hx hb dX0_note_24 rfl (lv_at hl 0 rfl) ?_
      refine cgX0_0_now F G dX0_note_25 ?_
      refine cgX0_1_note F G dX0_note_28 ?_
      refine lv_iload_n hx hb dX0_note_31 rfl (lv_at hl 1 rfl) ?_
      obtain ⟨b_5, h⟩ := h
      refine c_iaload F G cI_13 b_5 dX0_note_32 ?_
      refine lv_goto (tgt := 38) hx hb dX0_note_33 (by decide) ?_
      exact c_iret F G dX0_note_38 h
  · replace h := h.2 c_3
    refine lv_ldc hx hb hown (hts _ q368) dX0_note_10 ?_
    exact c_iret F G dX0_note_12 h
/-! StrokesHeard.addsUp -/
def C0_addsUp_L2 (Q : CS → Prop)  (v1 : Int32) (y2 : Nat) : Nat → Int32 → CS → Prop
  | 0, _, _ => False
  | n + 1, v3, S => (720 ≤ v3 → Q S) ∧ (¬ 720 ≤ v3 → vp_in v3 720 ∧ (C0_strokesOf y2 v3 S (fun r_3 S_4 => vp_in v3 720 ∧ (C0_addsUp_L2 Q v1 y2 n (v3 + 1) (cA S_4 24 v3 ((S.1 24 (v3.toNatClampNeg)) + (v1 * r_3)))))))
def C0_addsUp (v1 : Int32) (y2 : Nat) (S : CS) (Q : CS → Prop) : Prop := ∃ k2, C0_addsUp_L2 Q v1 y2 k2 0 S
abbrev rmX0_addsUp : Room := { frames := 5, cells := 0, slots := 0, locals := 113 }
set_option maxHeartbeats 4000000 in
set_option maxRecDepth 100000 in
theorem wC0_addsUp_L2 {p : Program} {l : Launch} {e : Env} {s : State} {m : MethodId} {args : Array Value} {below : List Frame} {meth : Method} {c : Code} {D : va_G} {a : Nat → Nat} {d : Nat → ClassId} {A : Nat → Prop} {Q : CS → Prop}  (F : FC p s m meth c args D a d A RX0 cX0_addsUp 4 none) (v1 : Int32) (y2 : Nat)  :
    ∀ (n : Nat) (v3 : Int32) (S : CS) (H : Heap) (locs : List Loc) (ls : Array Slot), GC D a d A s.heap S H locs → lv_has ls 4 [(0, .ref (a 0)), (1, .int v1), (2, .ref y2), (3, .int v3)] → C0_addsUp_L2 Q v1 y2 n v3 S → wCv p l e rmX0_addsUp s m args below meth c D a d A Q 0 0 H locs 0 0 (F0 m 2 ls []) := by
  obtain ⟨hx, hb, hr, hml, hown, hts, hlocks, hA, hK, hN⟩ := id F
  intro n
  induction n with
  | zero => intro v3 S H locs ls G hl h; exact absurd h (fun q => q)
  | succ n ih =>
    intro v3 S H locs ls G hl h
    unfold C0_addsUp_L2 at h
    refine lv_iload_n hx hb dX0_addsUp_2 rfl (lv_at hl 3 rfl) ?_
    refine lv_sipush (v := 720) hx hb dX0_addsUp_3 (by decide) ?_
    refine lv_icmp_ge (tgt := 32) hx hb dX0_addsUp_6 (by decide) (fun c_1 => ?_) (fun c_1 => ?_)
    · replace h := h.1 c_1
      exact c_vret F G dX0_addsUp_32 h
    · replace h := h.2 c_1
      refine lv_aload_n hx hb dX0_addsUp_9 rfl (lv_at hl 0 rfl) ?_
      refine cgX0_0_totals F G dX0_addsUp_10 ?_
      refine lv_iload_n hx hb dX0_addsUp_13 rfl (lv_at hl 3 rfl) ?_
      refine lv_dup2_11 hx hb dX0_addsUp_14 rfl rfl ?_
      obtain ⟨b_2, h⟩ := h
      refine c_iaload F G cI_24 b_2 dX0_addsUp_15 ?_
      refine lv_iload_n hx hb dX0_addsUp_16 rfl (lv_at hl 1 rfl) ?_
      refine lv_aload_n hx hb dX0_addsUp_17 rfl (lv_at hl 0 rfl) ?_
      refine lv_aload_n hx hb dX0_addsUp_18 rfl (lv_at hl 2 rfl) ?_
      refine lv_iload_n hx hb dX0_addsUp_19 rfl (lv_at hl 3 rfl) ?_
      refine kX0_C0_strokesOf F G hl.1 ⟨(Nat.le_of_ble_eq_true rfl), (Nat.le_of_ble_eq_true rfl)⟩ ⟨(Nat.le_of_ble_eq_true rfl), (Nat.le_of_ble_eq_true rfl)⟩ (Nat.le_of_ble_eq_true rfl) dX0_addsUp_20 h (fun r_3 S_4 H locs G h => ?_)
      refine lv_imul hx hb dX0_addsUp_23 ?_
      refine lv_iadd hx hb dX0_addsUp_24 ?_
      obtain ⟨b_5, h⟩ := h
      refine c_iastore F G cI_24 b_5 dX0_addsUp_25 (fun H locs G => ?_)
      refine lv_iinc (v := (v3 + 1)) (lv' := [(3, .int (v3 + 1)), (0, .ref (a 0)), (1, .int v1), (2, .ref y2)]) hx hb dX0_addsUp_26 hl (k := 3) rfl rfl (by decide) rfl (fun ls hl => ?_)
      refine lv_goto (tgt := 2) hx hb dX0_addsUp_29 (by decide) ?_
      exact ih (v3 + 1) (cA S_4 24 v3 ((S.1 24 (v3.toNatClampNeg)) + (v1 * r_3))) _ _ _ G (lv_sub hl [1, 2, 3, 0] rfl) h
set_option maxHeartbeats 4000000 in
set_option maxRecDepth 100000 in
theorem wC0_addsUp {l : Launch} {D : va_G} {a : Nat → Nat} {d : Nat → ClassId} (sz : Nat) (v1 : Int32) (y2 : Nat) (S : CS) (Q : CS → Prop) (h : C0_addsUp v1 y2 S Q) : CMv l D a d yX0_addsUp cX0_addsUp 4 rmX0_addsUp 0 0 [.ref (a 0), .int v1, .ref y2] sz S Q := by
  refine c_enter (Qc := fun A => va_Qv Q (BC D a d A) A) RX0 (by decide +kernel) rfl (Nat.le_of_ble_eq_true rfl) ?_
  intro p e s m below meth c ls A hmn F hG hl
  have G := hG
  have hl : lv_has ls 4 [(0, .ref (a 0)), (1, .int v1), (2, .ref y2)] := hl
  obtain ⟨hx, hb, hr, hml, hown, hts, hlocks, hA, hK, hN⟩ := id F
  unfold C0_addsUp at h
  refine lv_iconst (v := 0) hx hb dX0_addsUp_0 (by decide) ?_
  refine lv_istore_n (lv' := [(3, .int 0), (0, .ref (a 0)), (1, .int v1), (2, .ref y2)]) hx hb dX0_addsUp_1 rfl hl (by decide) rfl (fun ls hl => ?_)
  obtain ⟨k2, h⟩ := h
  exact wC0_addsUp_L2 F v1 y2  k2 0 S _ _ _ G (lv_sub hl [1, 2, 3, 0] rfl) h
set_option maxHeartbeats 4000000 in
set_option maxRecDepth 100000 in
theorem kX0_C0_addsUp {p : Program} {l : Launch} {e : Env} {s : State} {m : MethodId} {R : Room} {args : Array Value} {below : List Frame} {meth : Method} {c : Code} {D : va_G} {a : Nat → Nat} {d : Nat → ClassId} {A : Nat → Prop} {Q : State → Prop} {cc : ByteArray} {nL pc cells slots : Nat} {ret : Option FieldType} {ls : Array Slot} {rest : List Value} {v1 : Int32} {y2 : Nat} {S : CS} {H : Heap} {locs : List Loc} {Q1 : CS → Prop} (F : FC p s m meth c args D a d A RX0 cc nL ret) (G : GC D a d A s.heap S H locs) (hsz : ls.size = nL) (hR : rmX0_addsUp.frames + 1 ≤ R.frames ∧ 8 + (4 + 11) + rmX0_addsUp.locals ≤ R.locals) (hc : cells + 0 ≤ R.cells ∧ slots + 0 ≤ R.slots) (hW : (rest.map fun v => v.category).sum ≤ 8) (hd : decode cc pc = .ok (.invokevirtual 371, 3)) (h : C0_addsUp v1 y2 S Q1) (k : ∀ (S1 : CS) (H : Heap) (locs : List Loc), GC D a d A s.heap S1 H locs → Q1 S1 → W p l e R s m args below meth c H locs cells slots Q (F0 m (pc + 3) ls rest)) : W p l e R s m args below meth c H locs cells slots Q (F0 m pc ls (.ref y2 :: .int v1 :: .ref (a 0) :: rest)) := by
  obtain ⟨hx, hb, hr, hml, hown, hts, hlocks, hA, hK, hN⟩ := id F
  exact c_callv F G (va_runV (As := [.int v1, .ref y2]) (rest := rest) ⟨hx, hb, hml, hown, hts⟩ (wC0_addsUp H.size v1 y2 S Q1 h) (cwV 2 hts (lw_V q872 q874 qs29 q82 q875) rfl rfl rfl (by decide +kernel) hR) ⟨PC_blind, va_recv hK G.1 (ci := 0) (q0 := 0) rfl rfl, c_pre F G⟩ rfl rfl hsz rfl (lv_room hW) hd hc) k
/-! StrokesHeard.addsUpAll -/
def C0_addsUpAll_L24 (Q : CS → Prop)   : Nat → Int32 → CS → Prop
  | 0, _, _ => False
  | n + 1, v1, S => ((S.1 1 1) ≤ v1 → Q S) ∧ (¬ (S.1 1 1) ≤ v1 → vp_in v1 6 ∧ (∃ y_5 : Nat, (S.2.1 5 v1.toNatClampNeg) = some y_5 ∧ (C0_addsUp 1 y_5 S (fun S_7 => C0_addsUpAll_L24 Q n (v1 + 1) S_7))))
def C0_addsUpAll_L2 (Q : CS → Prop)   : Nat → Int32 → CS → Prop
  | 0, _, _ => False
  | n + 1, v1, S => (720 ≤ v1 → ∃ k24, C0_addsUpAll_L24 Q k24 0 S) ∧ (¬ 720 ≤ v1 → vp_in v1 720 ∧ (C0_addsUpAll_L2 Q n (v1 + 1) (cA S 24 v1 0)))
def C0_addsUpAll  (S : CS) (Q : CS → Prop) : Prop := ∃ k2, C0_addsUpAll_L2 Q k2 0 S
abbrev rmX0_addsUpAll : Room := { frames := 6, cells := 0, slots := 0, locals := 136 }
set_option maxHeartbeats 4000000 in
set_option maxRecDepth 100000 in
theorem wC0_addsUpAll_L24 {p : Program} {l : Launch} {e : Env} {s : State} {m : MethodId} {args : Array Value} {below : List Frame} {meth : Method} {c : Code} {D : va_G} {a : Nat → Nat} {d : Nat → ClassId} {A : Nat → Prop} {Q : CS → Prop}  (F : FC p s m meth c args D a d A RX0 cX0_addsUpAll 2 none)   :
    ∀ (n : Nat) (v1 : Int32) (S : CS) (H : Heap) (locs : List Loc) (ls : Array Slot), GC D a d A s.heap S H locs → lv_has ls 2 [(0, .ref (a 0)), (1, .int v1)] → C0_addsUpAll_L24 Q n v1 S → wCv p l e rmX0_addsUpAll s m args below meth c D a d A Q 0 0 H locs 0 0 (F0 m 24 ls []) := by
  obtain ⟨hx, hb, hr, hml, hown, hts, hlocks, hA, hK, hN⟩ := id F
  intro n
  induction n with
  | zero => intro v1 S H locs ls G hl h; exact absurd h (fun q => q)
  | succ n ih =>
    intro v1 S H locs ls G hl h
    unfold C0_addsUpAll_L24 at h
    refine lv_iload_n hx hb dX0_addsUpAll_24 rfl (lv_at hl 1 rfl) ?_
    refine lv_aload_n hx hb dX0_addsUpAll_25 rfl (lv_at hl 0 rfl) ?_
    refine cgX0_0_now F G dX0_addsUpAll_26 ?_
    refine cgX0_1_many F G dX0_addsUpAll_29 ?_
    refine lv_icmp_ge (tgt := 55) hx hb dX0_addsUpAll_32 (by decide) (fun c_3 => ?_) (fun c_3 => ?_)
    · replace h := h.1 c_3
      exact c_vret F G dX0_addsUpAll_55 h
    · replace h := h.2 c_3
      refine lv_aload_n hx hb dX0_addsUpAll_35 rfl (lv_at hl 0 rfl) ?_
      refine lv_iconst (v := 1) hx hb dX0_addsUpAll_36 (by decide) ?_
      refine lv_aload_n hx hb dX0_addsUpAll_37 rfl (lv_at hl 0 rfl) ?_
      refine cgX0_0_now F G dX0_addsUpAll_38 ?_
      refine cgX0_1_clock F G dX0_addsUpAll_41 ?_
      refine lv_iload_n hx hb dX0_addsUpAll_44 rfl (lv_at hl 1 rfl) ?_
      obtain ⟨b_4, h⟩ := h
      refine c_aaload F G cR_5 rfl b_4 dX0_addsUpAll_45 ?_
      obtain ⟨y_5, hy_5, h⟩ := h
      refine c_nn hy_5 ?_
      refine kX0_C0_addsUp F G hl.1 ⟨(Nat.le_of_ble_eq_true rfl), (Nat.le_of_ble_eq_true rfl)⟩ ⟨(Nat.le_of_ble_eq_true rfl), (Nat.le_of_ble_eq_true rfl)⟩ (Nat.le_of_ble_eq_true rfl) dX0_addsUpAll_46 h (fun S_7 H locs G h => ?_)
      refine lv_iinc (v := (v1 + 1)) (lv' := [(1, .int (v1 + 1)), (0, .ref (a 0))]) hx hb dX0_addsUpAll_49 hl (k := 1) rfl rfl (by decide) rfl (fun ls hl => ?_)
      refine lv_goto (tgt := 24) hx hb dX0_addsUpAll_52 (by decide) ?_
      exact ih (v1 + 1) S_7 _ _ _ G (lv_sub hl [1, 0] rfl) h
set_option maxHeartbeats 4000000 in
set_option maxRecDepth 100000 in
theorem wC0_addsUpAll_L2 {p : Program} {l : Launch} {e : Env} {s : State} {m : MethodId} {args : Array Value} {below : List Frame} {meth : Method} {c : Code} {D : va_G} {a : Nat → Nat} {d : Nat → ClassId} {A : Nat → Prop} {Q : CS → Prop}  (F : FC p s m meth c args D a d A RX0 cX0_addsUpAll 2 none)   :
    ∀ (n : Nat) (v1 : Int32) (S : CS) (H : Heap) (locs : List Loc) (ls : Array Slot), GC D a d A s.heap S H locs → lv_has ls 2 [(0, .ref (a 0)), (1, .int v1)] → C0_addsUpAll_L2 Q n v1 S → wCv p l e rmX0_addsUpAll s m args below meth c D a d A Q 0 0 H locs 0 0 (F0 m 2 ls []) := by
  obtain ⟨hx, hb, hr, hml, hown, hts, hlocks, hA, hK, hN⟩ := id F
  intro n
  induction n with
  | zero => intro v1 S H locs ls G hl h; exact absurd h (fun q => q)
  | succ n ih =>
    intro v1 S H locs ls G hl h
    unfold C0_addsUpAll_L2 at h
    refine lv_iload_n hx hb dX0_addsUpAll_2 rfl (lv_at hl 1 rfl) ?_
    refine lv_sipush (v := 720) hx hb dX0_addsUpAll_3 (by decide) ?_
    refine lv_icmp_ge (tgt := 22) hx hb dX0_addsUpAll_6 (by decide) (fun c_1 => ?_) (fun c_1 => ?_)
    · replace h := h.1 c_1
      refine lv_iconst (v := 0) hx hb dX0_addsUpAll_22 (by decide) ?_
      refine lv_istore_n (lv' := [(1, .int 0), (0, .ref (a 0))]) hx hb dX0_addsUpAll_23 rfl hl (by decide) rfl (fun ls hl => ?_)
      obtain ⟨k24, h⟩ := h
      exact wC0_addsUpAll_L24 F   k24 0 S _ _ _ G (lv_sub hl [1, 0] rfl) h
    · replace h := h.2 c_1
      refine lv_aload_n hx hb dX0_addsUpAll_9 rfl (lv_at hl 0 rfl) ?_
      refine cgX0_0_totals F G dX0_addsUpAll_10 ?_
      refine lv_iload_n hx hb dX0_addsUpAll_13 rfl (lv_at hl 1 rfl) ?_
      refine lv_iconst (v := 0) hx hb dX0_addsUpAll_14 (by decide) ?_
      obtain ⟨b_2, h⟩ := h
      refine c_iastore F G cI_24 b_2 dX0_addsUpAll_15 (fun H locs G => ?_)
      refine lv_iinc (v := (v1 + 1)) (lv' := [(1, .int (v1 + 1)), (0, .ref (a 0))]) hx hb dX0_addsUpAll_16 hl (k := 1) rfl rfl (by decide) rfl (fun ls hl => ?_)
      refine lv_goto (tgt := 2) hx hb dX0_addsUpAll_19 (by decide) ?_
      exact ih (v1 + 1) (cA S 24 v1 0) _ _ _ G (lv_sub hl [1, 0] rfl) h
set_option maxHeartbeats 4000000 in
set_option maxRecDepth 100000 in
theorem wC0_addsUpAll {l : Launch} {D : va_G} {a : Nat → Nat} {d : Nat → ClassId} (sz : Nat)  (S : CS) (Q : CS → Prop) (h : C0_addsUpAll  S Q) : CMv l D a d yX0_addsUpAll cX0_addsUpAll 2 rmX0_addsUpAll 0 0 [.ref (a 0)] sz S Q := by
  refine c_enter (Qc := fun A => va_Qv Q (BC D a d A) A) RX0 (by decide +kernel) rfl (Nat.le_of_ble_eq_true rfl) ?_
  intro p e s m below meth c ls A hmn F hG hl
  have G := hG
  have hl : lv_has ls 2 [(0, .ref (a 0))] := hl
  obtain ⟨hx, hb, hr, hml, hown, hts, hlocks, hA, hK, hN⟩ := id F
  unfold C0_addsUpAll at h
  refine lv_iconst (v := 0) hx hb dX0_addsUpAll_0 (by decide) ?_
  refine lv_istore_n (lv' := [(1, .int 0), (0, .ref (a 0))]) hx hb dX0_addsUpAll_1 rfl hl (by decide) rfl (fun ls hl => ?_)
  obtain ⟨k2, h⟩ := h
  exact wC0_addsUpAll_L2 F   k2 0 S _ _ _ G (lv_sub hl [1, 0] rfl) h
set_option maxHeartbeats 4000000 in
set_option maxRecDepth 100000 in
theorem kX0_C0_addsUpAll {p : Program} {l : Launch} {e : Env} {s : State} {m : MethodId} {R : Room} {args : Array Value} {below : List Frame} {meth : Method} {c : Code} {D : va_G} {a : Nat → Nat} {d : Nat → ClassId} {A : Nat → Prop} {Q : State → Prop} {cc : ByteArray} {nL pc cells slots : Nat} {ret : Option FieldType} {ls : Array Slot} {rest : List Value}  {S : CS} {H : Heap} {locs : List Loc} {Q1 : CS → Prop} (F : FC p s m meth c args D a d A RX0 cc nL ret) (G : GC D a d A s.heap S H locs) (hsz : ls.size = nL) (hR : rmX0_addsUpAll.frames + 1 ≤ R.frames ∧ 8 + (2 + 11) + rmX0_addsUpAll.locals ≤ R.locals) (hc : cells + 0 ≤ R.cells ∧ slots + 0 ≤ R.slots) (hW : (rest.map fun v => v.category).sum ≤ 8) (hd : decode cc pc = .ok (.invokevirtual 387, 3)) (h : C0_addsUpAll  S Q1) (k : ∀ (S1 : CS) (H : Heap) (locs : List Loc), GC D a d A s.heap S1 H locs → Q1 S1 → W p l e R s m args below meth c H locs cells slots Q (F0 m (pc + 3) ls rest)) : W p l e R s m args below meth c H locs cells slots Q (F0 m pc ls (.ref (a 0) :: rest)) := by
  obtain ⟨hx, hb, hr, hml, hown, hts, hlocks, hA, hK, hN⟩ := id F
  exact c_callv F G (va_runV (As := []) (rest := rest) ⟨hx, hb, hml, hown, hts⟩ (wC0_addsUpAll H.size  S Q1 h) (cwV 0 hts (lw_V q868 q870 qs28 q82 q871) rfl rfl rfl (by decide +kernel) hR) ⟨PC_blind, va_recv hK G.1 (ci := 0) (q0 := 0) rfl rfl, c_pre F G⟩ rfl rfl hsz rfl (lv_room hW) hd hc) k
/-! StrokesHeard.isFit -/
def C0_isFit_p93 (Q : Int32 → CS → Prop) (K20 : Int32 → CS → Prop) (v1 : Int32) (v2 : Int32) (v3 : Int32) (S : CS) : Prop := K20 (v3 + 1) S
def C0_isFit_L20 (Q : Int32 → CS → Prop)  (v1 : Int32) (v2 : Int32) : Nat → Int32 → CS → Prop
  | 0, _, _ => False
  | n + 1, v3, S => ((S.1 1 9) ≤ v3 → Q 1 S) ∧ (¬ (S.1 1 9) ≤ v3 → CJ3_floorMod (v1 - v3) 720 S (fun r_3 S_4 => vp_in r_3 720 ∧ (∀ x_6 : Int32, x_6 = (S_4.1 24 (r_3.toNatClampNeg)) → vp_in v3 12 ∧ (((x_6 + v2) < (S_4.1 13 (v3.toNatClampNeg)) → Q 0 S_4) ∧ (¬ (x_6 + v2) < (S_4.1 13 (v3.toNatClampNeg)) → (¬ (S_4.1 9 0) = 100 → C0_isFit_p93 Q (fun v3_ S_ => C0_isFit_L20 Q v1 v2 n v3_ S_) v1 v2 v3 S_4) ∧ ((S_4.1 9 0) = 100 → vp_in v3 12 ∧ ((x_6 ≤ (S_4.1 13 (v3.toNatClampNeg)) → C0_isFit_p93 Q (fun v3_ S_ => C0_isFit_L20 Q v1 v2 n v3_ S_) v1 v2 v3 S_4) ∧ (¬ x_6 ≤ (S_4.1 13 (v3.toNatClampNeg)) → Q 0 S_4))))))))
def C0_isFit_p17 (Q : Int32 → CS → Prop)  (v1 : Int32) (t0 : Int32) (S : CS) : Prop := ∃ k20, C0_isFit_L20 Q v1 t0 k20 0 S
def C0_isFit (v1 : Int32) (S : CS) (Q : Int32 → CS → Prop) : Prop := ((S.1 9 1) ≤ 0 → C0_isFit_p17 Q v1 0 S) ∧ (¬ (S.1 9 1) ≤ 0 → C0_isFit_p17 Q v1 1 S)
abbrev rmX0_isFit : Room := { frames := 1, cells := 0, slots := 0, locals := 22 }
set_option maxHeartbeats 4000000 in
set_option maxRecDepth 100000 in
theorem wC0_isFit_p93 {p : Program} {l : Launch} {e : Env} {s : State} {m : MethodId} {args : Array Value} {below : List Frame} {meth : Method} {c : Code} {D : va_G} {a : Nat → Nat} {d : Nat → ClassId} {A : Nat → Prop} {Q : Int32 → CS → Prop} {K20 : Int32 → CS → Prop} (F : FC p s m meth c args D a d A RX0 cX0_isFit 5 (some .boolean)) (v1 : Int32) (v2 : Int32) (v3 : Int32) (S : CS) (hK20 : ∀ (v3 : Int32) (S : CS) (H : Heap) (locs : List Loc) (ls : Array Slot), GC D a d A s.heap S H locs → lv_has ls 5 [(0, .ref (a 0)), (1, .int v1), (2, .int v2), (3, .int v3)] → K20 v3 S → wCi p l e rmX0_isFit s m args below meth c D a d A Q 0 0 H locs 0 0 (F0 m 20 ls [])) {H : Heap} {locs : List Loc} {ls : Array Slot} (G : GC D a d A s.heap S H locs) (hl : lv_has ls 5 [(0, .ref (a 0)), (1, .int v1), (2, .int v2), (3, .int v3)]) (h : C0_isFit_p93 Q K20 v1 v2 v3 S) : wCi p l e rmX0_isFit s m args below meth c D a d A Q 0 0 H locs 0 0 (F0 m 93 ls []) := by
  obtain ⟨hx, hb, hr, hml, hown, hts, hlocks, hA, hK, hN⟩ := id F
  unfold C0_isFit_p93 at h
  refine lv_iinc (v := (v3 + 1)) (lv' := [(3, .int (v3 + 1)), (0, .ref (a 0)), (1, .int v1), (2, .int v2)]) hx hb dX0_isFit_93 hl (k := 3) rfl rfl (by decide) rfl (fun ls hl => ?_)
  refine lv_goto (tgt := 20) hx hb dX0_isFit_96 (by decide) ?_
  exact hK20 (v3 + 1) S _ _ _ G (lv_sub hl [1, 2, 3, 0] rfl) h
set_option maxHeartbeats 4000000 in
set_option maxRecDepth 100000 in
theorem wC0_isFit_L20 {p : Program} {l : Launch} {e : Env} {s : State} {m : MethodId} {args : Array Value} {below : List Frame} {meth : Method} {c : Code} {D : va_G} {a : Nat → Nat} {d : Nat → ClassId} {A : Nat → Prop} {Q : Int32 → CS → Prop}  (F : FC p s m meth c args D a d A RX0 cX0_isFit 5 (some .boolean)) (v1 : Int32) (v2 : Int32)  :
    ∀ (n : Nat) (v3 : Int32) (S : CS) (H : Heap) (locs : List Loc) (ls : Array Slot), GC D a d A s.heap S H locs → lv_has ls 5 [(0, .ref (a 0)), (1, .int v1), (2, .int v2), (3, .int v3)] → C0_isFit_L20 Q v1 v2 n v3 S → wCi p l e rmX0_isFit s m args below meth c D a d A Q 0 0 H locs 0 0 (F0 m 20 ls []) := by
  obtain ⟨hx, hb, hr, hml, hown, hts, hlocks, hA, hK, hN⟩ := id F
  intro n
  induction n with
  | zero => intro v3 S H locs ls G hl h; exact absurd h (fun q => q)
  | succ n ih =>
    intro v3 S H locs ls G hl h
    unfold C0_isFit_L20 at h
    refine lv_iload_n hx hb dX0_isFit_20 rfl (lv_at hl 3 rfl) ?_
    refine lv_aload_n hx hb dX0_isFit_21 rfl (lv_at hl 0 rfl) ?_
    refine cgX0_0_now F G dX0_isFit_22 ?_
    refine cgX0_1_notes F G dX0_isFit_25 ?_
    refine lv_icmp_ge (tgt := 99) hx hb dX0_isFit_28 (by decide) (fun c_2 => ?_) (fun c_2 => ?_)
    · replace h := h.1 c_2
      refine lv_iconst (v := 1) hx hb dX0_isFit_99 (by decide) ?_
      exact c_zret rfl F G dX0_isFit_100 h
    · replace h := h.2 c_2
      refine lv_aload_n hx hb dX0_isFit_31 rfl (lv_at hl 0 rfl) ?_
      refine cgX0_0_totals F G dX0_isFit_32 ?_
      refine lv_iload_n hx hb dX0_isFit_35 rfl (lv_at hl 1 rfl) ?_
      refine lv_iload_n hx hb dX0_isFit_36 rfl (lv_at hl 3 rfl) ?_
      refine lv_isub hx hb dX0_isFit_37 ?_
      refine lv_sipush (v := 720) hx hb dX0_isFit_38 (by decide) ?_
      refine kX0_CJ3_floorMod F G hl.1 ⟨(Nat.le_of_ble_eq_true rfl), (Nat.le_of_ble_eq_true rfl)⟩ ⟨(Nat.le_of_ble_eq_true rfl), (Nat.le_of_ble_eq_true rfl)⟩ (Nat.le_of_ble_eq_true rfl) dX0_isFit_41 h (fun r_3 S_4 H locs G h => ?_)
      obtain ⟨b_5, h⟩ := h
      refine c_iaload F G cI_24 b_5 dX0_isFit_44 ?_
      refine lv_topi (fun x_6 ex_6 => ?_)
      replace h := h x_6 ex_6
      refine lv_istore (lv' := [(4, .int x_6), (0, .ref (a 0)), (1, .int v1), (2, .int v2), (3, .int v3)]) hx hb dX0_isFit_45 hl (by decide) rfl (fun ls hl => ?_)
      refine lv_aload_n hx hb dX0_isFit_47 rfl (lv_at hl 1 rfl) ?_
      refine cgX0_0_now F G dX0_isFit_48 ?_
      refine cgX0_1_note F G dX0_isFit_51 ?_
      refine lv_iload_n hx hb dX0_isFit_54 rfl (lv_at hl 4 rfl) ?_
      obtain ⟨b_7, h⟩ := h
      refine c_iaload F G cI_13 b_7 dX0_isFit_55 ?_
      refine lv_iload hx hb dX0_isFit_56 (lv_at hl 0 rfl) ?_
      refine lv_iload_n hx hb dX0_isFit_58 rfl (lv_at hl 3 rfl) ?_
      refine lv_iadd hx hb dX0_isFit_59 ?_
      refine lv_icmp_gt (tgt := 91) hx hb dX0_isFit_60 (by decide) (fun c_8 => ?_) (fun c_8 => ?_)
      · replace h := h.1 c_8
        refine lv_iconst (v := 0) hx hb dX0_isFit_91 (by decide) ?_
        exact c_zret rfl F G dX0_isFit_92 h
      · replace h := h.2 c_8
        refine lv_aload_n hx hb dX0_isFit_63 rfl (lv_at hl 1 rfl) ?_
        refine cgX0_0_now F G dX0_isFit_64 ?_
        refine cgX0_1_bed F G dX0_isFit_67 ?_
        refine lv_iconst (v := 0) hx hb dX0_isFit_70 (by decide) ?_
        refine c_iaload F G cI_9 (by unfold vp_in; decide) dX0_isFit_71 ?_
        refine lv_bipush (v := 100) hx hb dX0_isFit_72 (by decide) ?_
        refine lv_icmp_ne (tgt := 93) hx hb dX0_isFit_74 (by decide) (fun c_9 => ?_) (fun c_9 => ?_)
        · replace h := h.1 c_9
          exact wC0_isFit_p93 F v1 v2 v3 S_4 ih G (lv_sub hl [1, 2, 3, 4] rfl) h
        · replace h := h.2 c_9
          refine lv_aload_n hx hb dX0_isFit_77 rfl (lv_at hl 1 rfl) ?_
          refine cgX0_0_now F G dX0_isFit_78 ?_
          refine cgX0_1_note F G dX0_isFit_81 ?_
          refine lv_iload_n hx hb dX0_isFit_84 rfl (lv_at hl 4 rfl) ?_
          obtain ⟨b_10, h⟩ := h
          refine c_iaload F G cI_13 b_10 dX0_isFit_85 ?_
          refine lv_iload hx hb dX0_isFit_86 (lv_at hl 0 rfl) ?_
          refine lv_icmp_ge (tgt := 93) hx hb dX0_isFit_88 (by decide) (fun c_11 => ?_) (fun c_11 => ?_)
          · replace h := h.1 c_11
            exact wC0_isFit_p93 F v1 v2 v3 S_4 ih G (lv_sub hl [1, 2, 3, 4] rfl) h
          · replace h := h.2 c_11
            refine lv_iconst (v := 0) hx hb dX0_isFit_91 (by decide) ?_
            exact c_zret rfl F G dX0_isFit_92 h
set_option maxHeartbeats 4000000 in
set_option maxRecDepth 100000 in
theorem wC0_isFit_p17 {p : Program} {l : Launch} {e : Env} {s : State} {m : MethodId} {args : Array Value} {below : List Frame} {meth : Method} {c : Code} {D : va_G} {a : Nat → Nat} {d : Nat → ClassId} {A : Nat → Prop} {Q : Int32 → CS → Prop}  (F : FC p s m meth c args D a d A RX0 cX0_isFit 5 (some .boolean)) (v1 : Int32) (t0 : Int32) (S : CS)  {H : Heap} {locs : List Loc} {ls : Array Slot} (G : GC D a d A s.heap S H locs) (hl : lv_has ls 5 [(0, .ref (a 0)), (1, .int v1)]) (h : C0_isFit_p17 Q v1 t0 S) : wCi p l e rmX0_isFit s m args below meth c D a d A Q 0 0 H locs 0 0 (F0 m 17 ls [.int t0]) := by
  obtain ⟨hx, hb, hr, hml, hown, hts, hlocks, hA, hK, hN⟩ := id F
  unfold C0_isFit_p17 at h
  refine lv_istore_n (lv' := [(2, .int t0), (0, .ref (a 0)), (1, .int v1)]) hx hb dX0_isFit_17 rfl hl (by decide) rfl (fun ls hl => ?_)
  refine lv_iconst (v := 0) hx hb dX0_isFit_18 (by decide) ?_
  refine lv_istore_n (lv' := [(3, .int 0), (2, .int t0), (0, .ref (a 0)), (1, .int v1)]) hx hb dX0_isFit_19 rfl hl (by decide) rfl (fun ls hl => ?_)
  obtain ⟨k20, h⟩ := h
  exact wC0_isFit_L20 F v1 t0  k20 0 S _ _ _ G (lv_sub hl [2, 3, 1, 0] rfl) h
set_option maxHeartbeats 4000000 in
set_option maxRecDepth 100000 in
theorem wC0_isFit {l : Launch} {D : va_G} {a : Nat → Nat} {d : Nat → ClassId} (sz : Nat) (v1 : Int32) (S : CS) (Q : Int32 → CS → Prop) (h : C0_isFit v1 S Q) : CMi l D a d yX0_isFit cX0_isFit 5 .boolean rmX0_isFit 0 0 [.ref (a 0), .int v1] sz S Q := by
  refine c_enter (Qc := fun A => va_Qi Q (BC D a d A) A) RX0 (by decide +kernel) rfl (Nat.le_of_ble_eq_true rfl) ?_
  intro p e s m below meth c ls A hmn F hG hl
  have G := hG
  have hl : lv_has ls 5 [(0, .ref (a 0)), (1, .int v1)] := hl
  obtain ⟨hx, hb, hr, hml, hown, hts, hlocks, hA, hK, hN⟩ := id F
  unfold C0_isFit at h
  refine lv_aload_n hx hb dX0_isFit_0 rfl (lv_at hl 0 rfl) ?_
  refine cgX0_0_now F G dX0_isFit_1 ?_
  refine cgX0_1_bed F G dX0_isFit_4 ?_
  refine lv_iconst (v := 1) hx hb dX0_isFit_7 (by decide) ?_
  refine c_iaload F G cI_9 (by unfold vp_in; decide) dX0_isFit_8 ?_
  refine lv_if_le (tgt := 16) hx hb dX0_isFit_9 (by decide) (fun c_1 => ?_) (fun c_1 => ?_)
  · replace h := h.1 c_1
    refine lv_iconst (v := 0) hx hb dX0_isFit_16 (by decide) ?_
    exact wC0_isFit_p17 F v1 0 S  G (lv_sub hl [0, 1] rfl) h
  · replace h := h.2 c_1
    refine lv_iconst (v := 1) hx hb dX0_isFit_12 (by decide) ?_
    refine lv_goto (tgt := 17) hx hb dX0_isFit_13 (by decide) ?_
    exact wC0_isFit_p17 F v1 1 S  G (lv_sub hl [0, 1] rfl) h
set_option maxHeartbeats 4000000 in
set_option maxRecDepth 100000 in
theorem kX0_C0_isFit {p : Program} {l : Launch} {e : Env} {s : State} {m : MethodId} {R : Room} {args : Array Value} {below : List Frame} {meth : Method} {c : Code} {D : va_G} {a : Nat → Nat} {d : Nat → ClassId} {A : Nat → Prop} {Q : State → Prop} {cc : ByteArray} {nL pc cells slots : Nat} {ret : Option FieldType} {ls : Array Slot} {rest : List Value} {v1 : Int32} {S : CS} {H : Heap} {locs : List Loc} {Q1 : Int32 → CS → Prop} (F : FC p s m meth c args D a d A RX0 cc nL ret) (G : GC D a d A s.heap S H locs) (hsz : ls.size = nL) (hR : rmX0_isFit.frames + 1 ≤ R.frames ∧ 8 + (5 + 11) + rmX0_isFit.locals ≤ R.locals) (hc : cells + 0 ≤ R.cells ∧ slots + 0 ≤ R.slots) (hW : (rest.map fun v => v.category).sum ≤ 8) (hd : decode cc pc = .ok (.invokevirtual 384, 3)) (h : C0_isFit v1 S Q1) (k : ∀ (r : Int32) (S1 : CS) (H : Heap) (locs : List Loc), GC D a d A s.heap S1 H locs → Q1 r S1 → W p l e R s m args below meth c H locs cells slots Q (F0 m (pc + 3) ls (.int r :: rest))) : W p l e R s m args below meth c H locs cells slots Q (F0 m pc ls (.int v1 :: .ref (a 0) :: rest)) := by
  obtain ⟨hx, hb, hr, hml, hown, hts, hlocks, hA, hK, hN⟩ := id F
  exact c_calli F G (va_runV (As := [.int v1]) (rest := rest) ⟨hx, hb, hml, hown, hts⟩ (wC0_isFit H.size v1 S Q1 h) (cwV 1 hts (lw_V q876 q878 qs30 q82 q879) rfl rfl rfl (by decide +kernel) hR) ⟨PC_blind, va_recv hK G.1 (ci := 0) (q0 := 0) rfl rfl, c_pre F G⟩ rfl rfl hsz rfl (lv_room hW) hd hc) k
/-! StrokesHeard.fits -/
def C0_fits (v1 : Int32) (S : CS) (Q : Int32 → CS → Prop) : Prop := C0_isIn v1 0 719 S (fun r_1 S_2 => (¬ r_1 = 0 → C0_addsUpAll  S_2 (fun S_5 => C0_isFit v1 S_5 (fun r_6 S_7 => (r_6 = 0 → Q 0 S_7) ∧ (¬ r_6 = 0 → Q 1 S_7)))) ∧ (r_1 = 0 → Q (-1000000001) S_2))
abbrev rmX0_fits : Room := { frames := 7, cells := 0, slots := 0, locals := 157 }
set_option maxHeartbeats 4000000 in
set_option maxRecDepth 100000 in
theorem wC0_fits {l : Launch} {D : va_G} {a : Nat → Nat} {d : Nat → ClassId} (sz : Nat) (v1 : Int32) (S : CS) (Q : Int32 → CS → Prop) (h : C0_fits v1 S Q) : CMi l D a d yX0_fits cX0_fits 2 .int rmX0_fits 0 0 [.ref (a 0), .int v1] sz S Q := by
  refine c_enter (Qc := fun A => va_Qi Q (BC D a d A) A) RX0 (by decide +kernel) rfl (Nat.le_of_ble_eq_true rfl) ?_
  intro p e s m below meth c ls A hmn F hG hl
  have G := hG
  have hl : lv_has ls 2 [(0, .ref (a 0)), (1, .int v1)] := hl
  obtain ⟨hx, hb, hr, hml, hown, hts, hlocks, hA, hK, hN⟩ := id F
  unfold C0_fits at h
  refine lv_iload_n hx hb dX0_fits_0 rfl (lv_at hl 1 rfl) ?_
  refine lv_iconst (v := 0) hx hb dX0_fits_1 (by decide) ?_
  refine lv_sipush (v := 719) hx hb dX0_fits_2 (by decide) ?_
  refine kX0_C0_isIn F G hl.1 ⟨(Nat.le_of_ble_eq_true rfl), (Nat.le_of_ble_eq_true rfl)⟩ ⟨(Nat.le_of_ble_eq_true rfl), (Nat.le_of_ble_eq_true rfl)⟩ (Nat.le_of_ble_eq_true rfl) dX0_fits_5 h (fun r_1 S_2 H locs G h => ?_)
  refine lv_if_ne (tgt := 14) hx hb dX0_fits_8 (by decide) (fun c_3 => ?_) (fun c_3 => ?_)
  · replace h := h.1 c_3
    refine lv_aload_n hx hb dX0_fits_14 rfl (lv_at hl 0 rfl) ?_
    refine kX0_C0_addsUpAll F G hl.1 ⟨(Nat.le_of_ble_eq_true rfl), (Nat.le_of_ble_eq_true rfl)⟩ ⟨(Nat.le_of_ble_eq_true rfl), (Nat.le_of_ble_eq_true rfl)⟩ (Nat.le_of_ble_eq_true rfl) dX0_fits_15 h (fun S_5 H locs G h => ?_)
    refine lv_aload_n hx hb dX0_fits_18 rfl (lv_at hl 0 rfl) ?_
    refine lv_iload_n hx hb dX0_fits_19 rfl (lv_at hl 1 rfl) ?_
    refine kX0_C0_isFit F G hl.1 ⟨(Nat.le_of_ble_eq_true rfl), (Nat.le_of_ble_eq_true rfl)⟩ ⟨(Nat.le_of_ble_eq_true rfl), (Nat.le_of_ble_eq_true rfl)⟩ (Nat.le_of_ble_eq_true rfl) dX0_fits_20 h (fun r_6 S_7 H locs G h => ?_)
    refine lv_if_eq (tgt := 30) hx hb dX0_fits_23 (by decide) (fun c_8 => ?_) (fun c_8 => ?_)
    · replace h := h.1 c_8
      refine lv_iconst (v := 0) hx hb dX0_fits_30 (by decide) ?_
      exact c_iret F G dX0_fits_31 h
    · replace h := h.2 c_8
      refine lv_iconst (v := 1) hx hb dX0_fits_26 (by decide) ?_
      refine lv_goto (tgt := 31) hx hb dX0_fits_27 (by decide) ?_
      exact c_iret F G dX0_fits_31 h
  · replace h := h.2 c_3
    refine lv_ldc hx hb hown (hts _ q368) dX0_fits_11 ?_
    exact c_iret F G dX0_fits_13 h
/-! StrokesHeard.holds -/
def C0_holds_p61 (Q : Int32 → CS → Prop) (K19 : Int32 → CS → Prop) (v1 : Int32) (S : CS) : Prop := K19 (v1 + (-1)) S
def C0_holds_L19 (Q : Int32 → CS → Prop)   : Nat → Int32 → CS → Prop
  | 0, _, _ => False
  | n + 1, v1, S => (v1 < 0 → Q (S.1 0 18) S) ∧ (¬ v1 < 0 → C0_isFit v1 S (fun r_2 S_3 => (r_2 = 0 → C0_holds_p61 Q (fun v1_ S_ => C0_holds_L19 Q n v1_ S_) v1 S_3) ∧ (¬ r_2 = 0 → C0_holds_p61 Q (fun v1_ S_ => C0_holds_L19 Q n v1_ S_) v1 (cF (cF (cF S_3 0 18 ((S_3.1 0 18) + 1)) 0 19 (((cF S_3 0 18 ((S_3.1 0 18) + 1)).1 0 19) ||| (1 <<< ((v1 / 60) &&& 31)))) 0 20 v1))))
def C0_holds  (S : CS) (Q : Int32 → CS → Prop) : Prop := ∃ k19, C0_holds_L19 Q k19 719 (cF (cF (cF S 0 18 0) 0 19 0) 0 20 (-1))
abbrev rmX0_holds : Room := { frames := 2, cells := 0, slots := 0, locals := 46 }
set_option maxHeartbeats 4000000 in
set_option maxRecDepth 100000 in
theorem wC0_holds_p61 {p : Program} {l : Launch} {e : Env} {s : State} {m : MethodId} {args : Array Value} {below : List Frame} {meth : Method} {c : Code} {D : va_G} {a : Nat → Nat} {d : Nat → ClassId} {A : Nat → Prop} {Q : Int32 → CS → Prop} {K19 : Int32 → CS → Prop} (F : FC p s m meth c args D a d A RX0 cX0_holds 2 (some .int)) (v1 : Int32) (S : CS) (hK19 : ∀ (v1 : Int32) (S : CS) (H : Heap) (locs : List Loc) (ls : Array Slot), GC D a d A s.heap S H locs → lv_has ls 2 [(0, .ref (a 0)), (1, .int v1)] → K19 v1 S → wCi p l e rmX0_holds s m args below meth c D a d A Q 0 0 H locs 0 0 (F0 m 19 ls [])) {H : Heap} {locs : List Loc} {ls : Array Slot} (G : GC D a d A s.heap S H locs) (hl : lv_has ls 2 [(0, .ref (a 0)), (1, .int v1)]) (h : C0_holds_p61 Q K19 v1 S) : wCi p l e rmX0_holds s m args below meth c D a d A Q 0 0 H locs 0 0 (F0 m 61 ls []) := by
  obtain ⟨hx, hb, hr, hml, hown, hts, hlocks, hA, hK, hN⟩ := id F
  unfold C0_holds_p61 at h
  refine lv_iinc (v := (v1 + (-1))) (lv' := [(1, .int (v1 + (-1))), (0, .ref (a 0))]) hx hb dX0_holds_61 hl (k := 1) rfl rfl (by decide) rfl (fun ls hl => ?_)
  refine lv_goto (tgt := 19) hx hb dX0_holds_64 (by decide) ?_
  exact hK19 (v1 + (-1)) S _ _ _ G (lv_sub hl [1, 0] rfl) h
set_option maxHeartbeats 4000000 in
set_option maxRecDepth 100000 in
theorem wC0_holds_L19 {p : Program} {l : Launch} {e : Env} {s : State} {m : MethodId} {args : Array Value} {below : List Frame} {meth : Method} {c : Code} {D : va_G} {a : Nat → Nat} {d : Nat → ClassId} {A : Nat → Prop} {Q : Int32 → CS → Prop}  (F : FC p s m meth c args D a d A RX0 cX0_holds 2 (some .int))   :
    ∀ (n : Nat) (v1 : Int32) (S : CS) (H : Heap) (locs : List Loc) (ls : Array Slot), GC D a d A s.heap S H locs → lv_has ls 2 [(0, .ref (a 0)), (1, .int v1)] → C0_holds_L19 Q n v1 S → wCi p l e rmX0_holds s m args below meth c D a d A Q 0 0 H locs 0 0 (F0 m 19 ls []) := by
  obtain ⟨hx, hb, hr, hml, hown, hts, hlocks, hA, hK, hN⟩ := id F
  intro n
  induction n with
  | zero => intro v1 S H locs ls G hl h; exact absurd h (fun q => q)
  | succ n ih =>
    intro v1 S H locs ls G hl h
    unfold C0_holds_L19 at h
    refine lv_iload_n hx hb dX0_holds_19 rfl (lv_at hl 1 rfl) ?_
    refine lv_if_lt (tgt := 67) hx hb dX0_holds_20 (by decide) (fun c_1 => ?_) (fun c_1 => ?_)
    · replace h := h.1 c_1
      refine lv_aload_n hx hb dX0_holds_67 rfl (lv_at hl 0 rfl) ?_
      refine cgX0_0_fitting F G dX0_holds_68 ?_
      exact c_iret F G dX0_holds_71 h
    · replace h := h.2 c_1
      refine lv_aload_n hx hb dX0_holds_23 rfl (lv_at hl 0 rfl) ?_
      refine lv_iload_n hx hb dX0_holds_24 rfl (lv_at hl 1 rfl) ?_
      refine kX0_C0_isFit F G hl.1 ⟨(Nat.le_of_ble_eq_true rfl), (Nat.le_of_ble_eq_true rfl)⟩ ⟨(Nat.le_of_ble_eq_true rfl), (Nat.le_of_ble_eq_true rfl)⟩ (Nat.le_of_ble_eq_true rfl) dX0_holds_25 h (fun r_2 S_3 H locs G h => ?_)
      refine lv_if_eq (tgt := 61) hx hb dX0_holds_28 (by decide) (fun c_4 => ?_) (fun c_4 => ?_)
      · replace h := h.1 c_4
        exact wC0_holds_p61 F v1 S_3 ih G (lv_sub hl [0, 1] rfl) h
      · replace h := h.2 c_4
        refine lv_aload_n hx hb dX0_holds_31 rfl (lv_at hl 0 rfl) ?_
        refine lv_dup hx hb dX0_holds_32 rfl ?_
        refine cgX0_0_fitting F G dX0_holds_33 ?_
        refine lv_iconst (v := 1) hx hb dX0_holds_36 (by decide) ?_
        refine lv_iadd hx hb dX0_holds_37 ?_
        refine cpX0_0_fitting F G dX0_holds_38 (fun H locs G => ?_)
        refine lv_aload_n hx hb dX0_holds_41 rfl (lv_at hl 0 rfl) ?_
        refine lv_dup hx hb dX0_holds_42 rfl ?_
        refine cgX0_0_hours F G dX0_holds_43 ?_
        refine lv_iconst (v := 1) hx hb dX0_holds_46 (by decide) ?_
        refine lv_iload_n hx hb dX0_holds_47 rfl (lv_at hl 1 rfl) ?_
        refine lv_bipush (v := 60) hx hb dX0_holds_48 (by decide) ?_
        refine lv_idiv hx hb dX0_holds_50 (by decide) ?_
        refine lv_ishl hx hb dX0_holds_51 ?_
        refine lv_ior hx hb dX0_holds_52 ?_
        refine cpX0_0_hours F G dX0_holds_53 (fun H locs G => ?_)
        refine lv_aload_n hx hb dX0_holds_56 rfl (lv_at hl 0 rfl) ?_
        refine lv_iload_n hx hb dX0_holds_57 rfl (lv_at hl 1 rfl) ?_
        refine cpX0_0_firstFit F G dX0_holds_58 (fun H locs G => ?_)
        exact wC0_holds_p61 F v1 (cF (cF (cF S_3 0 18 ((S_3.1 0 18) + 1)) 0 19 (((cF S_3 0 18 ((S_3.1 0 18) + 1)).1 0 19) ||| (1 <<< ((v1 / 60) &&& 31)))) 0 20 v1) ih G (lv_sub hl [0, 1] rfl) h
set_option maxHeartbeats 4000000 in
set_option maxRecDepth 100000 in
theorem wC0_holds {l : Launch} {D : va_G} {a : Nat → Nat} {d : Nat → ClassId} (sz : Nat)  (S : CS) (Q : Int32 → CS → Prop) (h : C0_holds  S Q) : CMi l D a d yX0_holds cX0_holds 2 .int rmX0_holds 0 0 [.ref (a 0)] sz S Q := by
  refine c_enter (Qc := fun A => va_Qi Q (BC D a d A) A) RX0 (by decide +kernel) rfl (Nat.le_of_ble_eq_true rfl) ?_
  intro p e s m below meth c ls A hmn F hG hl
  have G := hG
  have hl : lv_has ls 2 [(0, .ref (a 0))] := hl
  obtain ⟨hx, hb, hr, hml, hown, hts, hlocks, hA, hK, hN⟩ := id F
  unfold C0_holds at h
  refine lv_aload_n hx hb dX0_holds_0 rfl (lv_at hl 0 rfl) ?_
  refine lv_iconst (v := 0) hx hb dX0_holds_1 (by decide) ?_
  refine cpX0_0_fitting F G dX0_holds_2 (fun H locs G => ?_)
  refine lv_aload_n hx hb dX0_holds_5 rfl (lv_at hl 0 rfl) ?_
  refine lv_iconst (v := 0) hx hb dX0_holds_6 (by decide) ?_
  refine cpX0_0_hours F G dX0_holds_7 (fun H locs G => ?_)
  refine lv_aload_n hx hb dX0_holds_10 rfl (lv_at hl 0 rfl) ?_
  refine lv_iconst (v := (-1)) hx hb dX0_holds_11 (by decide) ?_
  refine cpX0_0_firstFit F G dX0_holds_12 (fun H locs G => ?_)
  refine lv_sipush (v := 719) hx hb dX0_holds_15 (by decide) ?_
  refine lv_istore_n (lv' := [(1, .int 719), (0, .ref (a 0))]) hx hb dX0_holds_18 rfl hl (by decide) rfl (fun ls hl => ?_)
  obtain ⟨k19, h⟩ := h
  exact wC0_holds_L19 F   k19 719 (cF (cF (cF S 0 18 0) 0 19 0) 0 20 (-1)) _ _ _ G (lv_sub hl [1, 0] rfl) h
set_option maxHeartbeats 4000000 in
set_option maxRecDepth 100000 in
theorem kX0_C0_holds {p : Program} {l : Launch} {e : Env} {s : State} {m : MethodId} {R : Room} {args : Array Value} {below : List Frame} {meth : Method} {c : Code} {D : va_G} {a : Nat → Nat} {d : Nat → ClassId} {A : Nat → Prop} {Q : State → Prop} {cc : ByteArray} {nL pc cells slots : Nat} {ret : Option FieldType} {ls : Array Slot} {rest : List Value}  {S : CS} {H : Heap} {locs : List Loc} {Q1 : Int32 → CS → Prop} (F : FC p s m meth c args D a d A RX0 cc nL ret) (G : GC D a d A s.heap S H locs) (hsz : ls.size = nL) (hR : rmX0_holds.frames + 1 ≤ R.frames ∧ 8 + (2 + 11) + rmX0_holds.locals ≤ R.locals) (hc : cells + 0 ≤ R.cells ∧ slots + 0 ≤ R.slots) (hW : (rest.map fun v => v.category).sum ≤ 8) (hd : decode cc pc = .ok (.invokevirtual 390, 3)) (h : C0_holds  S Q1) (k : ∀ (r : Int32) (S1 : CS) (H : Heap) (locs : List Loc), GC D a d A s.heap S1 H locs → Q1 r S1 → W p l e R s m args below meth c H locs cells slots Q (F0 m (pc + 3) ls (.int r :: rest))) : W p l e R s m args below meth c H locs cells slots Q (F0 m pc ls (.ref (a 0) :: rest)) := by
  obtain ⟨hx, hb, hr, hml, hown, hts, hlocks, hA, hK, hN⟩ := id F
  exact c_calli F G (va_runV (As := []) (rest := rest) ⟨hx, hb, hml, hown, hts⟩ (wC0_holds H.size  S Q1 h) (cwV 0 hts (lw_V q888 q890 qs32 q82 q891) rfl rfl rfl (by decide +kernel) hR) ⟨PC_blind, va_recv hK G.1 (ci := 0) (q0 := 0) rfl rfl, c_pre F G⟩ rfl rfl hsz rfl (lv_room hW) hd hc) k
/-! java/lang/Integer.bitCount -/
def CJ6_bitCount (v0 : Int32) (S : CS) (Q : Int32 → CS → Prop) : Prop := ∀ x_1 : Int32, x_1 = (v0 - ((v0.toUInt32 >>> ((1 : Int32).toUInt32 &&& Int32.toUInt32 31)).toInt32 &&& 1431655765)) → ∀ x_2 : Int32, x_2 = ((x_1 &&& 858993459) + ((x_1.toUInt32 >>> ((2 : Int32).toUInt32 &&& Int32.toUInt32 31)).toInt32 &&& 858993459)) → ∀ x_3 : Int32, x_3 = ((x_2 + (x_2.toUInt32 >>> ((4 : Int32).toUInt32 &&& Int32.toUInt32 31)).toInt32) &&& 252645135) → ∀ x_4 : Int32, x_4 = (x_3 + (x_3.toUInt32 >>> ((8 : Int32).toUInt32 &&& Int32.toUInt32 31)).toInt32) → ∀ x_5 : Int32, x_5 = (x_4 + (x_4.toUInt32 >>> ((16 : Int32).toUInt32 &&& Int32.toUInt32 31)).toInt32) → Q (x_5 &&& 63) S
abbrev rmJ6_bitCount : Room := { frames := 0, cells := 0, slots := 0, locals := 0 }
set_option maxHeartbeats 4000000 in
set_option maxRecDepth 100000 in
theorem wCJ6_bitCount {l : Launch} {D : va_G} {a : Nat → Nat} {d : Nat → ClassId} (sz : Nat) (v0 : Int32) (S : CS) (Q : Int32 → CS → Prop) (h : CJ6_bitCount v0 S Q) : CMi l D a d yJ6_bitCount cJ6_bitCount 1 .int rmJ6_bitCount 0 0 [.int v0] sz S Q := by
  refine c_enterF (Qc := fun A => va_Qi Q (BC D a d A) A) RJ6 (by decide +kernel) rfl (Nat.le_of_ble_eq_true rfl) ?_
  intro p e s m below meth c ls A hmn F hG hl
  have G := hG
  have hl : lv_has ls 1 [(0, .int v0)] := hl
  obtain ⟨hx, hb, hr, hml, hown, hts, hlocks, hA, hK, hN⟩ := id F
  unfold CJ6_bitCount at h
  refine lv_iload_n hx hb dJ6_bitCount_0 rfl (lv_at hl 0 rfl) ?_
  refine lv_iload_n hx hb dJ6_bitCount_1 rfl (lv_at hl 0 rfl) ?_
  refine lv_iconst (v := 1) hx hb dJ6_bitCount_2 (by decide) ?_
  refine lv_iushr (v := (v0.toUInt32 >>> ((1 : Int32).toUInt32 &&& Int32.toUInt32 31)).toInt32) hx hb dJ6_bitCount_3 rfl ?_
  refine lv_ldcw hx hb hown (hts _ q895) dJ6_bitCount_4 ?_
  refine lv_iand hx hb dJ6_bitCount_7 ?_
  refine lv_isub hx hb dJ6_bitCount_8 ?_
  refine lv_topi (fun x_1 ex_1 => ?_)
  replace h := h x_1 ex_1
  refine lv_istore_n (lv' := [(0, .int x_1)]) hx hb dJ6_bitCount_9 rfl hl (by decide) rfl (fun ls hl => ?_)
  refine lv_iload_n hx hb dJ6_bitCount_10 rfl (lv_at hl 0 rfl) ?_
  refine lv_ldcw hx hb hown (hts _ q896) dJ6_bitCount_11 ?_
  refine lv_iand hx hb dJ6_bitCount_14 ?_
  refine lv_iload_n hx hb dJ6_bitCount_15 rfl (lv_at hl 0 rfl) ?_
  refine lv_iconst (v := 2) hx hb dJ6_bitCount_16 (by decide) ?_
  refine lv_iushr (v := (x_1.toUInt32 >>> ((2 : Int32).toUInt32 &&& Int32.toUInt32 31)).toInt32) hx hb dJ6_bitCount_17 rfl ?_
  refine lv_ldcw hx hb hown (hts _ q896) dJ6_bitCount_18 ?_
  refine lv_iand hx hb dJ6_bitCount_21 ?_
  refine lv_iadd hx hb dJ6_bitCount_22 ?_
  refine lv_topi (fun x_2 ex_2 => ?_)
  replace h := h x_2 ex_2
  refine lv_istore_n (lv' := [(0, .int x_2)]) hx hb dJ6_bitCount_23 rfl hl (by decide) rfl (fun ls hl => ?_)
  refine lv_iload_n hx hb dJ6_bitCount_24 rfl (lv_at hl 0 rfl) ?_
  refine lv_iload_n hx hb dJ6_bitCount_25 rfl (lv_at hl 0 rfl) ?_
  refine lv_iconst (v := 4) hx hb dJ6_bitCount_26 (by decide) ?_
  refine lv_iushr (v := (x_2.toUInt32 >>> ((4 : Int32).toUInt32 &&& Int32.toUInt32 31)).toInt32) hx hb dJ6_bitCount_27 rfl ?_
  refine lv_iadd hx hb dJ6_bitCount_28 ?_
  refine lv_ldcw hx hb hown (hts _ q897) dJ6_bitCount_29 ?_
  refine lv_iand hx hb dJ6_bitCount_32 ?_
  refine lv_topi (fun x_3 ex_3 => ?_)
  replace h := h x_3 ex_3
  refine lv_istore_n (lv' := [(0, .int x_3)]) hx hb dJ6_bitCount_33 rfl hl (by decide) rfl (fun ls hl => ?_)
  refine lv_iload_n hx hb dJ6_bitCount_34 rfl (lv_at hl 0 rfl) ?_
  refine lv_iload_n hx hb dJ6_bitCount_35 rfl (lv_at hl 0 rfl) ?_
  refine lv_bipush (v := 8) hx hb dJ6_bitCount_36 (by decide) ?_
  refine lv_iushr (v := (x_3.toUInt32 >>> ((8 : Int32).toUInt32 &&& Int32.toUInt32 31)).toInt32) hx hb dJ6_bitCount_38 rfl ?_
  refine lv_iadd hx hb dJ6_bitCount_39 ?_
  refine lv_topi (fun x_4 ex_4 => ?_)
  replace h := h x_4 ex_4
  refine lv_istore_n (lv' := [(0, .int x_4)]) hx hb dJ6_bitCount_40 rfl hl (by decide) rfl (fun ls hl => ?_)
  refine lv_iload_n hx hb dJ6_bitCount_41 rfl (lv_at hl 0 rfl) ?_
  refine lv_iload_n hx hb dJ6_bitCount_42 rfl (lv_at hl 0 rfl) ?_
  refine lv_bipush (v := 16) hx hb dJ6_bitCount_43 (by decide) ?_
  refine lv_iushr (v := (x_4.toUInt32 >>> ((16 : Int32).toUInt32 &&& Int32.toUInt32 31)).toInt32) hx hb dJ6_bitCount_45 rfl ?_
  refine lv_iadd hx hb dJ6_bitCount_46 ?_
  refine lv_topi (fun x_5 ex_5 => ?_)
  replace h := h x_5 ex_5
  refine lv_istore_n (lv' := [(0, .int x_5)]) hx hb dJ6_bitCount_47 rfl hl (by decide) rfl (fun ls hl => ?_)
  refine lv_iload_n hx hb dJ6_bitCount_48 rfl (lv_at hl 0 rfl) ?_
  refine lv_bipush (v := 63) hx hb dJ6_bitCount_49 (by decide) ?_
  refine lv_iand hx hb dJ6_bitCount_51 ?_
  exact c_iret F G dJ6_bitCount_52 h
set_option maxHeartbeats 4000000 in
set_option maxRecDepth 100000 in
theorem kX0_CJ6_bitCount {p : Program} {l : Launch} {e : Env} {s : State} {m : MethodId} {R : Room} {args : Array Value} {below : List Frame} {meth : Method} {c : Code} {D : va_G} {a : Nat → Nat} {d : Nat → ClassId} {A : Nat → Prop} {Q : State → Prop} {cc : ByteArray} {nL pc cells slots : Nat} {ret : Option FieldType} {ls : Array Slot} {rest : List Value} {v0 : Int32} {S : CS} {H : Heap} {locs : List Loc} {Q1 : Int32 → CS → Prop} (F : FC p s m meth c args D a d A RX0 cc nL ret) (G : GC D a d A s.heap S H locs) (hsz : ls.size = nL) (hR : rmJ6_bitCount.frames + 1 ≤ R.frames ∧ 8 + (1 + 11) + rmJ6_bitCount.locals ≤ R.locals) (hc : cells + 0 ≤ R.cells ∧ slots + 0 ≤ R.slots) (hW : (rest.map fun v => v.category).sum ≤ 8) (hd : decode cc pc = .ok (.invokestatic 393, 3)) (h : CJ6_bitCount v0 S Q1) (k : ∀ (r : Int32) (S1 : CS) (H : Heap) (locs : List Loc), GC D a d A s.heap S1 H locs → Q1 r S1 → W p l e R s m args below meth c H locs cells slots Q (F0 m (pc + 3) ls (.int r :: rest))) : W p l e R s m args below meth c H locs cells slots Q (F0 m pc ls (.int v0 :: rest)) := by
  obtain ⟨hx, hb, hr, hml, hown, hts, hlocks, hA, hK, hN⟩ := id F
  exact c_calli F G (va_runS (As := [.int v0]) (rest := rest) ⟨hx, hb, hml, hown, hts⟩ (wCJ6_bitCount H.size v0 S Q1 h) (va_cwS 1 hts (lw_S q892 q893 q101 q894) rfl rfl rfl (by decide +kernel) hR) ⟨PC_blind, c_pre F G⟩ rfl rfl hsz rfl (lv_room hW) hd hc) k
/-! StrokesHeard.isSure -/
def C0_isSure  (S : CS) (Q : Int32 → CS → Prop) : Prop := C0_addsUpAll  S (fun S_2 => C0_holds  S_2 (fun r_3 S_4 => (r_3 ≤ 0 → Q 0 S_4) ∧ (¬ r_3 ≤ 0 → CJ6_bitCount (S_4.1 0 19) S_4 (fun r_6 S_7 => (¬ r_6 = 1 → Q 0 S_7) ∧ (r_6 = 1 → Q 1 S_7)))))
abbrev rmX0_isSure : Room := { frames := 7, cells := 0, slots := 0, locals := 157 }
set_option maxHeartbeats 4000000 in
set_option maxRecDepth 100000 in
theorem wC0_isSure {l : Launch} {D : va_G} {a : Nat → Nat} {d : Nat → ClassId} (sz : Nat)  (S : CS) (Q : Int32 → CS → Prop) (h : C0_isSure  S Q) : CMi l D a d yX0_isSure cX0_isSure 1 .boolean rmX0_isSure 0 0 [.ref (a 0)] sz S Q := by
  refine c_enter (Qc := fun A => va_Qi Q (BC D a d A) A) RX0 (by decide +kernel) rfl (Nat.le_of_ble_eq_true rfl) ?_
  intro p e s m below meth c ls A hmn F hG hl
  have G := hG
  have hl : lv_has ls 1 [(0, .ref (a 0))] := hl
  obtain ⟨hx, hb, hr, hml, hown, hts, hlocks, hA, hK, hN⟩ := id F
  unfold C0_isSure at h
  refine lv_aload_n hx hb dX0_isSure_0 rfl (lv_at hl 0 rfl) ?_
  refine kX0_C0_addsUpAll F G hl.1 ⟨(Nat.le_of_ble_eq_true rfl), (Nat.le_of_ble_eq_true rfl)⟩ ⟨(Nat.le_of_ble_eq_true rfl), (Nat.le_of_ble_eq_true rfl)⟩ (Nat.le_of_ble_eq_true rfl) dX0_isSure_1 h (fun S_2 H locs G h => ?_)
  refine lv_aload_n hx hb dX0_isSure_4 rfl (lv_at hl 0 rfl) ?_
  refine kX0_C0_holds F G hl.1 ⟨(Nat.le_of_ble_eq_true rfl), (Nat.le_of_ble_eq_true rfl)⟩ ⟨(Nat.le_of_ble_eq_true rfl), (Nat.le_of_ble_eq_true rfl)⟩ (Nat.le_of_ble_eq_true rfl) dX0_isSure_5 h (fun r_3 S_4 H locs G h => ?_)
  refine lv_if_le (tgt := 26) hx hb dX0_isSure_8 (by decide) (fun c_5 => ?_) (fun c_5 => ?_)
  · replace h := h.1 c_5
    refine lv_iconst (v := 0) hx hb dX0_isSure_26 (by decide) ?_
    exact c_zret rfl F G dX0_isSure_27 h
  · replace h := h.2 c_5
    refine lv_aload_n hx hb dX0_isSure_11 rfl (lv_at hl 0 rfl) ?_
    refine cgX0_0_hours F G dX0_isSure_12 ?_
    refine kX0_CJ6_bitCount F G hl.1 ⟨(Nat.le_of_ble_eq_true rfl), (Nat.le_of_ble_eq_true rfl)⟩ ⟨(Nat.le_of_ble_eq_true rfl), (Nat.le_of_ble_eq_true rfl)⟩ (Nat.le_of_ble_eq_true rfl) dX0_isSure_15 h (fun r_6 S_7 H locs G h => ?_)
    refine lv_iconst (v := 1) hx hb dX0_isSure_18 (by decide) ?_
    refine lv_icmp_ne (tgt := 26) hx hb dX0_isSure_19 (by decide) (fun c_8 => ?_) (fun c_8 => ?_)
    · replace h := h.1 c_8
      refine lv_iconst (v := 0) hx hb dX0_isSure_26 (by decide) ?_
      exact c_zret rfl F G dX0_isSure_27 h
    · replace h := h.2 c_8
      refine lv_iconst (v := 1) hx hb dX0_isSure_22 (by decide) ?_
      refine lv_goto (tgt := 27) hx hb dX0_isSure_23 (by decide) ?_
      exact c_zret rfl F G dX0_isSure_27 h
set_option maxHeartbeats 4000000 in
set_option maxRecDepth 100000 in
theorem kX0_C0_isSure {p : Program} {l : Launch} {e : Env} {s : State} {m : MethodId} {R : Room} {args : Array Value} {below : List Frame} {meth : Method} {c : Code} {D : va_G} {a : Nat → Nat} {d : Nat → ClassId} {A : Nat → Prop} {Q : State → Prop} {cc : ByteArray} {nL pc cells slots : Nat} {ret : Option FieldType} {ls : Array Slot} {rest : List Value}  {S : CS} {H : Heap} {locs : List Loc} {Q1 : Int32 → CS → Prop} (F : FC p s m meth c args D a d A RX0 cc nL ret) (G : GC D a d A s.heap S H locs) (hsz : ls.size = nL) (hR : rmX0_isSure.frames + 1 ≤ R.frames ∧ 8 + (1 + 11) + rmX0_isSure.locals ≤ R.locals) (hc : cells + 0 ≤ R.cells ∧ slots + 0 ≤ R.slots) (hW : (rest.map fun v => v.category).sum ≤ 8) (hd : decode cc pc = .ok (.invokevirtual 398, 3)) (h : C0_isSure  S Q1) (k : ∀ (r : Int32) (S1 : CS) (H : Heap) (locs : List Loc), GC D a d A s.heap S1 H locs → Q1 r S1 → W p l e R s m args below meth c H locs cells slots Q (F0 m (pc + 3) ls (.int r :: rest))) : W p l e R s m args below meth c H locs cells slots Q (F0 m pc ls (.ref (a 0) :: rest)) := by
  obtain ⟨hx, hb, hr, hml, hown, hts, hlocks, hA, hK, hN⟩ := id F
  exact c_calli F G (va_runV (As := []) (rest := rest) ⟨hx, hb, hml, hown, hts⟩ (wC0_isSure H.size  S Q1 h) (cwV 0 hts (lw_V q884 q886 qs31 q82 q887) rfl rfl rfl (by decide +kernel) hR) ⟨PC_blind, va_recv hK G.1 (ci := 0) (q0 := 0) rfl rfl, c_pre F G⟩ rfl rfl hsz rfl (lv_room hW) hd hc) k
/-! StrokesHeard.may -/
def C0_may (v1 : Int32) (S : CS) (Q : Int32 → CS → Prop) : Prop := C0_isSure  S (fun r_1 S_2 => (v1 = 0 → Q (S_2.1 0 18) S_2) ∧ (v1 = 1 → Q (S_2.1 0 19) S_2) ∧ (v1 = 2 → C0_orNone (S_2.1 0 20) S_2 (fun r_6 S_7 => Q r_6 S_7)) ∧ (v1 = 3 → (r_1 = 0 → Q 0 S_2) ∧ (¬ r_1 = 0 → Q 1 S_2)) ∧ (¬ v1 = 0 → ¬ v1 = 1 → ¬ v1 = 2 → ¬ v1 = 3 → Q (-1000000001) S_2))
abbrev rmX0_may : Room := { frames := 8, cells := 0, slots := 0, locals := 177 }
set_option maxHeartbeats 4000000 in
set_option maxRecDepth 100000 in
theorem wC0_may {l : Launch} {D : va_G} {a : Nat → Nat} {d : Nat → ClassId} (sz : Nat) (v1 : Int32) (S : CS) (Q : Int32 → CS → Prop) (h : C0_may v1 S Q) : CMi l D a d yX0_may cX0_may 3 .int rmX0_may 0 0 [.ref (a 0), .int v1] sz S Q := by
  refine c_enter (Qc := fun A => va_Qi Q (BC D a d A) A) RX0 (by decide +kernel) rfl (Nat.le_of_ble_eq_true rfl) ?_
  intro p e s m below meth c ls A hmn F hG hl
  have G := hG
  have hl : lv_has ls 3 [(0, .ref (a 0)), (1, .int v1)] := hl
  obtain ⟨hx, hb, hr, hml, hown, hts, hlocks, hA, hK, hN⟩ := id F
  unfold C0_may at h
  refine lv_aload_n hx hb dX0_may_0 rfl (lv_at hl 0 rfl) ?_
  refine kX0_C0_isSure F G hl.1 ⟨(Nat.le_of_ble_eq_true rfl), (Nat.le_of_ble_eq_true rfl)⟩ ⟨(Nat.le_of_ble_eq_true rfl), (Nat.le_of_ble_eq_true rfl)⟩ (Nat.le_of_ble_eq_true rfl) dX0_may_1 h (fun r_1 S_2 H locs G h => ?_)
  refine lv_istore_n (lv' := [(2, .int r_1), (0, .ref (a 0)), (1, .int v1)]) hx hb dX0_may_4 rfl hl (by decide) rfl (fun ls hl => ?_)
  refine lv_iload_n hx hb dX0_may_5 rfl (lv_at hl 2 rfl) ?_
  by_cases c_3 : v1 = 0
  · replace h := h.1 c_3
    refine m_tsIn (k := 0) (off := 30) (tgt := 36) hx hb dX0_may_6 c_3 (by decide) (by decide) (by decide) (by decide) ?_
    refine lv_aload_n hx hb dX0_may_36 rfl (lv_at hl 1 rfl) ?_
    refine cgX0_0_fitting F G dX0_may_37 ?_
    exact c_iret F G dX0_may_40 h
  by_cases c_4 : v1 = 1
  · replace h := h.2.1 c_4
    refine m_tsIn (k := 1) (off := 35) (tgt := 41) hx hb dX0_may_6 c_4 (by decide) (by decide) (by decide) (by decide) ?_
    refine lv_aload_n hx hb dX0_may_41 rfl (lv_at hl 1 rfl) ?_
    refine cgX0_0_hours F G dX0_may_42 ?_
    exact c_iret F G dX0_may_45 h
  by_cases c_5 : v1 = 2
  · replace h := h.2.2.1 c_5
    refine m_tsIn (k := 2) (off := 40) (tgt := 46) hx hb dX0_may_6 c_5 (by decide) (by decide) (by decide) (by decide) ?_
    refine lv_aload_n hx hb dX0_may_46 rfl (lv_at hl 1 rfl) ?_
    refine cgX0_0_firstFit F G dX0_may_47 ?_
    refine kX0_C0_orNone F G hl.1 ⟨(Nat.le_of_ble_eq_true rfl), (Nat.le_of_ble_eq_true rfl)⟩ ⟨(Nat.le_of_ble_eq_true rfl), (Nat.le_of_ble_eq_true rfl)⟩ (Nat.le_of_ble_eq_true rfl) dX0_may_50 h (fun r_6 S_7 H locs G h => ?_)
    exact c_iret F G dX0_may_53 h
  by_cases c_8 : v1 = 3
  · replace h := h.2.2.2.1 c_8
    refine m_tsIn (k := 3) (off := 48) (tgt := 54) hx hb dX0_may_6 c_8 (by decide) (by decide) (by decide) (by decide) ?_
    refine lv_iload_n hx hb dX0_may_54 rfl (lv_at hl 0 rfl) ?_
    refine lv_if_eq (tgt := 62) hx hb dX0_may_55 (by decide) (fun c_9 => ?_) (fun c_9 => ?_)
    · replace h := h.1 c_9
      refine lv_iconst (v := 0) hx hb dX0_may_62 (by decide) ?_
      exact c_iret F G dX0_may_63 h
    · replace h := h.2 c_9
      refine lv_iconst (v := 1) hx hb dX0_may_58 (by decide) ?_
      refine lv_goto (tgt := 63) hx hb dX0_may_59 (by decide) ?_
      exact c_iret F G dX0_may_63 h
  replace h := h.2.2.2.2 c_3 c_4 c_5 c_8
  refine m_tsD (ks := [0, 1, 2, 3]) (tgt := 64) hx hb dX0_may_6 (tk_cons c_3 (by decide) (tk_cons c_4 (by decide) (tk_cons c_5 (by decide) (tk_cons c_8 (by decide) tk_nil)))) (by decide) (by decide) ?_
  refine lv_ldc hx hb hown (hts _ q368) dX0_may_64 ?_
  exact c_iret F G dX0_may_66 h
/-! StrokesHeard.next -/
def C0_next_L2 (Q : Int32 → CS → Prop)   : Nat → Int32 → CS → Prop
  | 0, _, _ => False
  | n + 1, v1, S => (60 < v1 → Q (-1000000005) S) ∧ (¬ 60 < v1 → C0_timeNow  S (fun r_2 S_3 => C0_totalAt (((r_2 + v1) - 1) - ((r_2 + v1) - 1) / 720 * 720) S_3 (fun r_4 S_5 => (r_4 ≤ 0 → C0_next_L2 Q n (v1 + 1) S_5) ∧ (¬ r_4 ≤ 0 → Q v1 S_5))))
def C0_next  (S : CS) (Q : Int32 → CS → Prop) : Prop := ∃ k2, C0_next_L2 Q k2 1 S
abbrev rmX0_next : Room := { frames := 6, cells := 0, slots := 0, locals := 136 }
set_option maxHeartbeats 4000000 in
set_option maxRecDepth 100000 in
theorem wC0_next_L2 {p : Program} {l : Launch} {e : Env} {s : State} {m : MethodId} {args : Array Value} {below : List Frame} {meth : Method} {c : Code} {D : va_G} {a : Nat → Nat} {d : Nat → ClassId} {A : Nat → Prop} {Q : Int32 → CS → Prop}  (F : FC p s m meth c args D a d A RX0 cX0_next 2 (some .int))   :
    ∀ (n : Nat) (v1 : Int32) (S : CS) (H : Heap) (locs : List Loc) (ls : Array Slot), GC D a d A s.heap S H locs → lv_has ls 2 [(0, .ref (a 0)), (1, .int v1)] → C0_next_L2 Q n v1 S → wCi p l e rmX0_next s m args below meth c D a d A Q 0 0 H locs 0 0 (F0 m 2 ls []) := by
  obtain ⟨hx, hb, hr, hml, hown, hts, hlocks, hA, hK, hN⟩ := id F
  intro n
  induction n with
  | zero => intro v1 S H locs ls G hl h; exact absurd h (fun q => q)
  | succ n ih =>
    intro v1 S H locs ls G hl h
    unfold C0_next_L2 at h
    refine lv_iload_n hx hb dX0_next_2 rfl (lv_at hl 1 rfl) ?_
    refine lv_bipush (v := 60) hx hb dX0_next_3 (by decide) ?_
    refine lv_icmp_gt (tgt := 35) hx hb dX0_next_5 (by decide) (fun c_1 => ?_) (fun c_1 => ?_)
    · replace h := h.1 c_1
      refine lv_ldc hx hb hown (hts _ q547) dX0_next_35 ?_
      exact c_iret F G dX0_next_37 h
    · replace h := h.2 c_1
      refine lv_aload_n hx hb dX0_next_8 rfl (lv_at hl 0 rfl) ?_
      refine lv_aload_n hx hb dX0_next_9 rfl (lv_at hl 0 rfl) ?_
      refine kX0_C0_timeNow F G hl.1 ⟨(Nat.le_of_ble_eq_true rfl), (Nat.le_of_ble_eq_true rfl)⟩ ⟨(Nat.le_of_ble_eq_true rfl), (Nat.le_of_ble_eq_true rfl)⟩ (Nat.le_of_ble_eq_true rfl) dX0_next_10 h (fun r_2 S_3 H locs G h => ?_)
      refine lv_iload_n hx hb dX0_next_13 rfl (lv_at hl 1 rfl) ?_
      refine lv_iadd hx hb dX0_next_14 ?_
      refine lv_iconst (v := 1) hx hb dX0_next_15 (by decide) ?_
      refine lv_isub hx hb dX0_next_16 ?_
      refine lv_sipush (v := 720) hx hb dX0_next_17 (by decide) ?_
      refine lv_irem hx hb dX0_next_20 (by decide) ?_
      refine kX0_C0_totalAt F G hl.1 ⟨(Nat.le_of_ble_eq_true rfl), (Nat.le_of_ble_eq_true rfl)⟩ ⟨(Nat.le_of_ble_eq_true rfl), (Nat.le_of_ble_eq_true rfl)⟩ (Nat.le_of_ble_eq_true rfl) dX0_next_21 h (fun r_4 S_5 H locs G h => ?_)
      refine lv_if_le (tgt := 29) hx hb dX0_next_24 (by decide) (fun c_6 => ?_) (fun c_6 => ?_)
      · replace h := h.1 c_6
        refine lv_iinc (v := (v1 + 1)) (lv' := [(1, .int (v1 + 1)), (0, .ref (a 0))]) hx hb dX0_next_29 hl (k := 1) rfl rfl (by decide) rfl (fun ls hl => ?_)
        refine lv_goto (tgt := 2) hx hb dX0_next_32 (by decide) ?_
        exact ih (v1 + 1) S_5 _ _ _ G (lv_sub hl [1, 0] rfl) h
      · replace h := h.2 c_6
        refine lv_iload_n hx hb dX0_next_27 rfl (lv_at hl 1 rfl) ?_
        exact c_iret F G dX0_next_28 h
set_option maxHeartbeats 4000000 in
set_option maxRecDepth 100000 in
theorem wC0_next {l : Launch} {D : va_G} {a : Nat → Nat} {d : Nat → ClassId} (sz : Nat)  (S : CS) (Q : Int32 → CS → Prop) (h : C0_next  S Q) : CMi l D a d yX0_next cX0_next 2 .int rmX0_next 0 0 [.ref (a 0)] sz S Q := by
  refine c_enter (Qc := fun A => va_Qi Q (BC D a d A) A) RX0 (by decide +kernel) rfl (Nat.le_of_ble_eq_true rfl) ?_
  intro p e s m below meth c ls A hmn F hG hl
  have G := hG
  have hl : lv_has ls 2 [(0, .ref (a 0))] := hl
  obtain ⟨hx, hb, hr, hml, hown, hts, hlocks, hA, hK, hN⟩ := id F
  unfold C0_next at h
  refine lv_iconst (v := 1) hx hb dX0_next_0 (by decide) ?_
  refine lv_istore_n (lv' := [(1, .int 1), (0, .ref (a 0))]) hx hb dX0_next_1 rfl hl (by decide) rfl (fun ls hl => ?_)
  obtain ⟨k2, h⟩ := h
  exact wC0_next_L2 F   k2 1 S _ _ _ G (lv_sub hl [1, 0] rfl) h
/-! StrokesHeard.parts -/
def C0_parts_p119 (Q : Int32 → CS → Prop) (K23 : Int32 → Int32 → CS → Prop) (v1 : Int32) (v2 : Int32) (v3 : Int32) (v4 : Int32) (S : CS) : Prop := K23 v3 (v4 + 1) S
def C0_parts_p117 (Q : Int32 → CS → Prop) (K23 : Int32 → Int32 → CS → Prop) (v1 : Int32) (v2 : Int32) (v4 : Int32) (t0 : Int32) (t1 : Int32) (S : CS) : Prop := ∀ x_13 : Int32, x_13 = (t1 + t0) → C0_parts_p119 Q K23 v1 v2 x_13 v4 S
def C0_parts_p87 (Q : Int32 → CS → Prop) (K23 : Int32 → Int32 → CS → Prop) (K43 : Int32 → Int32 → CS → Prop) (v1 : Int32) (v2 : Int32) (v3 : Int32) (v4 : Int32) (v6 : Int32) (t0 : Int32) (t1 : Int32) (S : CS) : Prop := ∀ x_14 : Int32, x_14 = (t1 + t0) → (x_14 ≤ v2 → K43 x_14 (v6 + 1) S) ∧ (¬ x_14 ≤ v2 → C0_parts_p119 Q K23 v1 v2 v3 v4 S)
def C0_parts_L43 (Q : Int32 → CS → Prop) (K23 : Int32 → Int32 → CS → Prop) (v1 : Int32) (v2 : Int32) (v3 : Int32) (v4 : Int32) : Nat → Int32 → Int32 → CS → Prop
  | 0, _, _, _ => False
  | n + 1, v5, v6, S => ((S.1 1 1) ≤ v6 → (¬ v5 = v2 → C0_parts_p117 Q K23 v1 v2 v4 0 v3 S) ∧ (v5 = v2 → C0_parts_p117 Q K23 v1 v2 v4 1 v3 S)) ∧ (¬ (S.1 1 1) ≤ v6 → (¬ ((v4 >>> (v6 &&& 31)) &&& 1) = 1 → C0_parts_p87 Q K23 (fun v5_ v6_ S_ => C0_parts_L43 Q K23 v1 v2 v3 v4 n v5_ v6_ S_) v1 v2 v3 v4 v6 0 v5 S) ∧ (((v4 >>> (v6 &&& 31)) &&& 1) = 1 → vp_in v6 6 ∧ (∃ y_10 : Nat, (S.2.1 5 v6.toNatClampNeg) = some y_10 ∧ (C0_strokesOf y_10 v1 S (fun r_11 S_12 => C0_parts_p87 Q K23 (fun v5_ v6_ S_ => C0_parts_L43 Q K23 v1 v2 v3 v4 n v5_ v6_ S_) v1 v2 v3 v4 v6 r_11 v5 S_12)))))
def C0_parts_L23 (Q : Int32 → CS → Prop)  (v1 : Int32) (v2 : Int32) : Nat → Int32 → Int32 → CS → Prop
  | 0, _, _, _ => False
  | n + 1, v3, v4, S => ((1 <<< ((S.1 1 1) &&& 31)) ≤ v4 → Q v3 S) ∧ (¬ (1 <<< ((S.1 1 1) &&& 31)) ≤ v4 → ∃ k43, C0_parts_L43 Q (fun v3_ v4_ S_ => C0_parts_L23 Q v1 v2 n v3_ v4_ S_) v1 v2 v3 v4 k43 0 0 S)
def C0_parts (v1 : Int32) (v2 : Int32) (S : CS) (Q : Int32 → CS → Prop) : Prop := C0_isIn v1 0 719 S (fun r_1 S_2 => (r_1 = 0 → Q (-1000000001) S_2) ∧ (¬ r_1 = 0 → (0 ≤ v2 → ∃ k23, C0_parts_L23 Q v1 v2 k23 0 0 S_2) ∧ (¬ 0 ≤ v2 → Q (-1000000001) S_2)))
abbrev rmX0_parts : Room := { frames := 5, cells := 0, slots := 0, locals := 113 }
set_option maxHeartbeats 4000000 in
set_option maxRecDepth 100000 in
theorem wC0_parts_p119 {p : Program} {l : Launch} {e : Env} {s : State} {m : MethodId} {args : Array Value} {below : List Frame} {meth : Method} {c : Code} {D : va_G} {a : Nat → Nat} {d : Nat → ClassId} {A : Nat → Prop} {Q : Int32 → CS → Prop} {K23 : Int32 → Int32 → CS → Prop} (F : FC p s m meth c args D a d A RX0 cX0_parts 7 (some .int)) (v1 : Int32) (v2 : Int32) (v3 : Int32) (v4 : Int32) (S : CS) (hK23 : ∀ (v3 : Int32) (v4 : Int32) (S : CS) (H : Heap) (locs : List Loc) (ls : Array Slot), GC D a d A s.heap S H locs → lv_has ls 7 [(0, .ref (a 0)), (1, .int v1), (2, .int v2), (3, .int v3), (4, .int v4)] → K23 v3 v4 S → wCi p l e rmX0_parts s m args below meth c D a d A Q 0 0 H locs 0 0 (F0 m 23 ls [])) {H : Heap} {locs : List Loc} {ls : Array Slot} (G : GC D a d A s.heap S H locs) (hl : lv_has ls 7 [(0, .ref (a 0)), (1, .int v1), (2, .int v2), (3, .int v3), (4, .int v4)]) (h : C0_parts_p119 Q K23 v1 v2 v3 v4 S) : wCi p l e rmX0_parts s m args below meth c D a d A Q 0 0 H locs 0 0 (F0 m 119 ls []) := by
  obtain ⟨hx, hb, hr, hml, hown, hts, hlocks, hA, hK, hN⟩ := id F
  unfold C0_parts_p119 at h
  refine lv_iinc (v := (v4 + 1)) (lv' := [(4, .int (v4 + 1)), (0, .ref (a 0)), (1, .int v1), (2, .int v2), (3, .int v3)]) hx hb dX0_parts_119 hl (k := 4) rfl rfl (by decide) rfl (fun ls hl => ?_)
  refine lv_goto (tgt := 23) hx hb dX0_parts_122 (by decide) ?_
  exact hK23 v3 (v4 + 1) S _ _ _ G (lv_sub hl [1, 2, 3, 4, 0] rfl) h
set_option maxHeartbeats 4000000 in
set_option maxRecDepth 100000 in
theorem wC0_parts_p117 {p : Program} {l : Launch} {e : Env} {s : State} {m : MethodId} {args : Array Value} {below : List Frame} {meth : Method} {c : Code} {D : va_G} {a : Nat → Nat} {d : Nat → ClassId} {A : Nat → Prop} {Q : Int32 → CS → Prop} {K23 : Int32 → Int32 → CS → Prop} (F : FC p s m meth c args D a d A RX0 cX0_parts 7 (some .int)) (v1 : Int32) (v2 : Int32) (v4 : Int32) (t0 : Int32) (t1 : Int32) (S : CS) (hK23 : ∀ (v3 : Int32) (v4 : Int32) (S : CS) (H : Heap) (locs : List Loc) (ls : Array Slot), GC D a d A s.heap S H locs → lv_has ls 7 [(0, .ref (a 0)), (1, .int v1), (2, .int v2), (3, .int v3), (4, .int v4)] → K23 v3 v4 S → wCi p l e rmX0_parts s m args below meth c D a d A Q 0 0 H locs 0 0 (F0 m 23 ls [])) {H : Heap} {locs : List Loc} {ls : Array Slot} (G : GC D a d A s.heap S H locs) (hl : lv_has ls 7 [(0, .ref (a 0)), (1, .int v1), (2, .int v2), (4, .int v4)]) (h : C0_parts_p117 Q K23 v1 v2 v4 t0 t1 S) : wCi p l e rmX0_parts s m args below meth c D a d A Q 0 0 H locs 0 0 (F0 m 117 ls [.int t0, .int t1]) := by
  obtain ⟨hx, hb, hr, hml, hown, hts, hlocks, hA, hK, hN⟩ := id F
  unfold C0_parts_p117 at h
  refine lv_iadd hx hb dX0_parts_117 ?_
  refine lv_topi (fun x_13 ex_13 => ?_)
  replace h := h x_13 ex_13
  refine lv_istore_n (lv' := [(3, .int x_13), (0, .ref (a 0)), (1, .int v1), (2, .int v2), (4, .int v4)]) hx hb dX0_parts_118 rfl hl (by decide) rfl (fun ls hl => ?_)
  exact wC0_parts_p119 F v1 v2 x_13 v4 S hK23 G (lv_sub hl [1, 2, 3, 0, 4] rfl) h
set_option maxHeartbeats 4000000 in
set_option maxRecDepth 100000 in
theorem wC0_parts_p87 {p : Program} {l : Launch} {e : Env} {s : State} {m : MethodId} {args : Array Value} {below : List Frame} {meth : Method} {c : Code} {D : va_G} {a : Nat → Nat} {d : Nat → ClassId} {A : Nat → Prop} {Q : Int32 → CS → Prop} {K23 : Int32 → Int32 → CS → Prop} {K43 : Int32 → Int32 → CS → Prop} (F : FC p s m meth c args D a d A RX0 cX0_parts 7 (some .int)) (v1 : Int32) (v2 : Int32) (v3 : Int32) (v4 : Int32) (v6 : Int32) (t0 : Int32) (t1 : Int32) (S : CS) (hK23 : ∀ (v3 : Int32) (v4 : Int32) (S : CS) (H : Heap) (locs : List Loc) (ls : Array Slot), GC D a d A s.heap S H locs → lv_has ls 7 [(0, .ref (a 0)), (1, .int v1), (2, .int v2), (3, .int v3), (4, .int v4)] → K23 v3 v4 S → wCi p l e rmX0_parts s m args below meth c D a d A Q 0 0 H locs 0 0 (F0 m 23 ls [])) (hK43 : ∀ (v5 : Int32) (v6 : Int32) (S : CS) (H : Heap) (locs : List Loc) (ls : Array Slot), GC D a d A s.heap S H locs → lv_has ls 7 [(0, .ref (a 0)), (1, .int v1), (2, .int v2), (3, .int v3), (4, .int v4), (5, .int v5), (6, .int v6)] → K43 v5 v6 S → wCi p l e rmX0_parts s m args below meth c D a d A Q 0 0 H locs 0 0 (F0 m 43 ls [])) {H : Heap} {locs : List Loc} {ls : Array Slot} (G : GC D a d A s.heap S H locs) (hl : lv_has ls 7 [(0, .ref (a 0)), (1, .int v1), (2, .int v2), (3, .int v3), (4, .int v4), (6, .int v6)]) (h : C0_parts_p87 Q K23 K43 v1 v2 v3 v4 v6 t0 t1 S) : wCi p l e rmX0_parts s m args below meth c D a d A Q 0 0 H locs 0 0 (F0 m 87 ls [.int t0, .int t1]) := by
  obtain ⟨hx, hb, hr, hml, hown, hts, hlocks, hA, hK, hN⟩ := id F
  unfold C0_parts_p87 at h
  refine lv_iadd hx hb dX0_parts_87 ?_
  refine lv_topi (fun x_14 ex_14 => ?_)
  replace h := h x_14 ex_14
  refine lv_istore (lv' := [(5, .int x_14), (0, .ref (a 0)), (1, .int v1), (2, .int v2), (3, .int v3), (4, .int v4), (6, .int v6)]) hx hb dX0_parts_88 hl (by decide) rfl (fun ls hl => ?_)
  refine lv_iload hx hb dX0_parts_90 (lv_at hl 0 rfl) ?_
  refine lv_iload_n hx hb dX0_parts_92 rfl (lv_at hl 3 rfl) ?_
  refine lv_icmp_le (tgt := 99) hx hb dX0_parts_93 (by decide) (fun c_15 => ?_) (fun c_15 => ?_)
  · replace h := h.1 c_15
    refine lv_iinc (v := (v6 + 1)) (lv' := [(6, .int (v6 + 1)), (5, .int x_14), (0, .ref (a 0)), (1, .int v1), (2, .int v2), (3, .int v3), (4, .int v4)]) hx hb dX0_parts_99 hl (k := 6) rfl rfl (by decide) rfl (fun ls hl => ?_)
    refine lv_goto (tgt := 43) hx hb dX0_parts_102 (by decide) ?_
    exact hK43 x_14 (v6 + 1) S _ _ _ G (lv_sub hl [2, 3, 4, 5, 6, 1, 0] rfl) h
  · replace h := h.2 c_15
    refine lv_goto (tgt := 119) hx hb dX0_parts_96 (by decide) ?_
    exact wC0_parts_p119 F v1 v2 v3 v4 S hK23 G (lv_sub hl [1, 2, 3, 4, 5] rfl) h
set_option maxHeartbeats 4000000 in
set_option maxRecDepth 100000 in
theorem wC0_parts_L43 {p : Program} {l : Launch} {e : Env} {s : State} {m : MethodId} {args : Array Value} {below : List Frame} {meth : Method} {c : Code} {D : va_G} {a : Nat → Nat} {d : Nat → ClassId} {A : Nat → Prop} {Q : Int32 → CS → Prop} {K23 : Int32 → Int32 → CS → Prop} (F : FC p s m meth c args D a d A RX0 cX0_parts 7 (some .int)) (v1 : Int32) (v2 : Int32) (v3 : Int32) (v4 : Int32) (hK23 : ∀ (v3 : Int32) (v4 : Int32) (S : CS) (H : Heap) (locs : List Loc) (ls : Array Slot), GC D a d A s.heap S H locs → lv_has ls 7 [(0, .ref (a 0)), (1, .int v1), (2, .int v2), (3, .int v3), (4, .int v4)] → K23 v3 v4 S → wCi p l e rmX0_parts s m args below meth c D a d A Q 0 0 H locs 0 0 (F0 m 23 ls [])) :
    ∀ (n : Nat) (v5 : Int32) (v6 : Int32) (S : CS) (H : Heap) (locs : List Loc) (ls : Array Slot), GC D a d A s.heap S H locs → lv_has ls 7 [(0, .ref (a 0)), (1, .int v1), (2, .int v2), (3, .int v3), (4, .int v4), (5, .int v5), (6, .int v6)] → C0_parts_L43 Q K23 v1 v2 v3 v4 n v5 v6 S → wCi p l e rmX0_parts s m args below meth c D a d A Q 0 0 H locs 0 0 (F0 m 43 ls []) := by
  obtain ⟨hx, hb, hr, hml, hown, hts, hlocks, hA, hK, hN⟩ := id F
  intro n
  induction n with
  | zero => intro v5 v6 S H locs ls G hl h; exact absurd h (fun q => q)
  | succ n ih =>
    intro v5 v6 S H locs ls G hl h
    unfold C0_parts_L43 at h
    refine lv_iload hx hb dX0_parts_43 (lv_at hl 6 rfl) ?_
    refine lv_aload_n hx hb dX0_parts_45 rfl (lv_at hl 0 rfl) ?_
    refine cgX0_0_now F G dX0_parts_46 ?_
    refine cgX0_1_many F G dX0_parts_49 ?_
    refine lv_icmp_ge (tgt := 105) hx hb dX0_parts_52 (by decide) (fun c_6 => ?_) (fun c_6 => ?_)
    · replace h := h.1 c_6
      refine lv_iload_n hx hb dX0_parts_105 rfl (lv_at hl 3 rfl) ?_
      refine lv_iload hx hb dX0_parts_106 (lv_at hl 5 rfl) ?_
      refine lv_iload_n hx hb dX0_parts_108 rfl (lv_at hl 2 rfl) ?_
      refine lv_icmp_ne (tgt := 116) hx hb dX0_parts_109 (by decide) (fun c_7 => ?_) (fun c_7 => ?_)
      · replace h := h.1 c_7
        refine lv_iconst (v := 0) hx hb dX0_parts_116 (by decide) ?_
        exact wC0_parts_p117 F v1 v2 v4 0 v3 S hK23 G (lv_sub hl [0, 1, 2, 4] rfl) h
      · replace h := h.2 c_7
        refine lv_iconst (v := 1) hx hb dX0_parts_112 (by decide) ?_
        refine lv_goto (tgt := 117) hx hb dX0_parts_113 (by decide) ?_
        exact wC0_parts_p117 F v1 v2 v4 1 v3 S hK23 G (lv_sub hl [0, 1, 2, 4] rfl) h
    · replace h := h.2 c_6
      refine lv_iload hx hb dX0_parts_55 (lv_at hl 5 rfl) ?_
      refine lv_iload hx hb dX0_parts_57 (lv_at hl 4 rfl) ?_
      refine lv_iload hx hb dX0_parts_59 (lv_at hl 6 rfl) ?_
      refine lv_ishr hx hb dX0_parts_61 ?_
      refine lv_iconst (v := 1) hx hb dX0_parts_62 (by decide) ?_
      refine lv_iand hx hb dX0_parts_63 ?_
      refine lv_iconst (v := 1) hx hb dX0_parts_64 (by decide) ?_
      refine lv_icmp_ne (tgt := 86) hx hb dX0_parts_65 (by decide) (fun c_8 => ?_) (fun c_8 => ?_)
      · replace h := h.1 c_8
        refine lv_iconst (v := 0) hx hb dX0_parts_86 (by decide) ?_
        exact wC0_parts_p87 F v1 v2 v3 v4 v6 0 v5 S hK23 ih G (lv_sub hl [0, 1, 2, 3, 4, 6] rfl) h
      · replace h := h.2 c_8
        refine lv_aload_n hx hb dX0_parts_68 rfl (lv_at hl 0 rfl) ?_
        refine lv_aload_n hx hb dX0_parts_69 rfl (lv_at hl 0 rfl) ?_
        refine cgX0_0_now F G dX0_parts_70 ?_
        refine cgX0_1_clock F G dX0_parts_73 ?_
        refine lv_iload hx hb dX0_parts_76 (lv_at hl 6 rfl) ?_
        obtain ⟨b_9, h⟩ := h
        refine c_aaload F G cR_5 rfl b_9 dX0_parts_78 ?_
        obtain ⟨y_10, hy_10, h⟩ := h
        refine c_nn hy_10 ?_
        refine lv_iload_n hx hb dX0_parts_79 rfl (lv_at hl 1 rfl) ?_
        refine kX0_C0_strokesOf F G hl.1 ⟨(Nat.le_of_ble_eq_true rfl), (Nat.le_of_ble_eq_true rfl)⟩ ⟨(Nat.le_of_ble_eq_true rfl), (Nat.le_of_ble_eq_true rfl)⟩ (Nat.le_of_ble_eq_true rfl) dX0_parts_80 h (fun r_11 S_12 H locs G h => ?_)
        refine lv_goto (tgt := 87) hx hb dX0_parts_83 (by decide) ?_
        exact wC0_parts_p87 F v1 v2 v3 v4 v6 r_11 v5 S_12 hK23 ih G (lv_sub hl [0, 1, 2, 3, 4, 6] rfl) h
set_option maxHeartbeats 4000000 in
set_option maxRecDepth 100000 in
theorem wC0_parts_L23 {p : Program} {l : Launch} {e : Env} {s : State} {m : MethodId} {args : Array Value} {below : List Frame} {meth : Method} {c : Code} {D : va_G} {a : Nat → Nat} {d : Nat → ClassId} {A : Nat → Prop} {Q : Int32 → CS → Prop}  (F : FC p s m meth c args D a d A RX0 cX0_parts 7 (some .int)) (v1 : Int32) (v2 : Int32)  :
    ∀ (n : Nat) (v3 : Int32) (v4 : Int32) (S : CS) (H : Heap) (locs : List Loc) (ls : Array Slot), GC D a d A s.heap S H locs → lv_has ls 7 [(0, .ref (a 0)), (1, .int v1), (2, .int v2), (3, .int v3), (4, .int v4)] → C0_parts_L23 Q v1 v2 n v3 v4 S → wCi p l e rmX0_parts s m args below meth c D a d A Q 0 0 H locs 0 0 (F0 m 23 ls []) := by
  obtain ⟨hx, hb, hr, hml, hown, hts, hlocks, hA, hK, hN⟩ := id F
  intro n
  induction n with
  | zero => intro v3 v4 S H locs ls G hl h; exact absurd h (fun q => q)
  | succ n ih =>
    intro v3 v4 S H locs ls G hl h
    unfold C0_parts_L23 at h
    refine lv_iload hx hb dX0_parts_23 (lv_at hl 4 rfl) ?_
    refine lv_iconst (v := 1) hx hb dX0_parts_25 (by decide) ?_
    refine lv_aload_n hx hb dX0_parts_26 rfl (lv_at hl 0 rfl) ?_
    refine cgX0_0_now F G dX0_parts_27 ?_
    refine cgX0_1_many F G dX0_parts_30 ?_
    refine lv_ishl hx hb dX0_parts_33 ?_
    refine lv_icmp_ge (tgt := 125) hx hb dX0_parts_34 (by decide) (fun c_5 => ?_) (fun c_5 => ?_)
    · replace h := h.1 c_5
      refine lv_iload_n hx hb dX0_parts_125 rfl (lv_at hl 3 rfl) ?_
      exact c_iret F G dX0_parts_126 h
    · replace h := h.2 c_5
      refine lv_iconst (v := 0) hx hb dX0_parts_37 (by decide) ?_
      refine lv_istore (lv' := [(5, .int 0), (0, .ref (a 0)), (1, .int v1), (2, .int v2), (3, .int v3), (4, .int v4)]) hx hb dX0_parts_38 hl (by decide) rfl (fun ls hl => ?_)
      refine lv_iconst (v := 0) hx hb dX0_parts_40 (by decide) ?_
      refine lv_istore (lv' := [(6, .int 0), (5, .int 0), (0, .ref (a 0)), (1, .int v1), (2, .int v2), (3, .int v3), (4, .int v4)]) hx hb dX0_parts_41 hl (by decide) rfl (fun ls hl => ?_)
      obtain ⟨k43, h⟩ := h
      exact wC0_parts_L43 F v1 v2 v3 v4 ih k43 0 0 S _ _ _ G (lv_sub hl [2, 3, 4, 5, 6, 1, 0] rfl) h
set_option maxHeartbeats 4000000 in
set_option maxRecDepth 100000 in
theorem wC0_parts {l : Launch} {D : va_G} {a : Nat → Nat} {d : Nat → ClassId} (sz : Nat) (v1 : Int32) (v2 : Int32) (S : CS) (Q : Int32 → CS → Prop) (h : C0_parts v1 v2 S Q) : CMi l D a d yX0_parts cX0_parts 7 .int rmX0_parts 0 0 [.ref (a 0), .int v1, .int v2] sz S Q := by
  refine c_enter (Qc := fun A => va_Qi Q (BC D a d A) A) RX0 (by decide +kernel) rfl (Nat.le_of_ble_eq_true rfl) ?_
  intro p e s m below meth c ls A hmn F hG hl
  have G := hG
  have hl : lv_has ls 7 [(0, .ref (a 0)), (1, .int v1), (2, .int v2)] := hl
  obtain ⟨hx, hb, hr, hml, hown, hts, hlocks, hA, hK, hN⟩ := id F
  unfold C0_parts at h
  refine lv_iload_n hx hb dX0_parts_0 rfl (lv_at hl 1 rfl) ?_
  refine lv_iconst (v := 0) hx hb dX0_parts_1 (by decide) ?_
  refine lv_sipush (v := 719) hx hb dX0_parts_2 (by decide) ?_
  refine kX0_C0_isIn F G hl.1 ⟨(Nat.le_of_ble_eq_true rfl), (Nat.le_of_ble_eq_true rfl)⟩ ⟨(Nat.le_of_ble_eq_true rfl), (Nat.le_of_ble_eq_true rfl)⟩ (Nat.le_of_ble_eq_true rfl) dX0_parts_5 h (fun r_1 S_2 H locs G h => ?_)
  refine lv_if_eq (tgt := 15) hx hb dX0_parts_8 (by decide) (fun c_3 => ?_) (fun c_3 => ?_)
  · replace h := h.1 c_3
    refine lv_ldc hx hb hown (hts _ q368) dX0_parts_15 ?_
    exact c_iret F G dX0_parts_17 h
  · replace h := h.2 c_3
    refine lv_iload_n hx hb dX0_parts_11 rfl (lv_at hl 2 rfl) ?_
    refine lv_if_ge (tgt := 18) hx hb dX0_parts_12 (by decide) (fun c_4 => ?_) (fun c_4 => ?_)
    · replace h := h.1 c_4
      refine lv_iconst (v := 0) hx hb dX0_parts_18 (by decide) ?_
      refine lv_istore_n (lv' := [(3, .int 0), (0, .ref (a 0)), (1, .int v1), (2, .int v2)]) hx hb dX0_parts_19 rfl hl (by decide) rfl (fun ls hl => ?_)
      refine lv_iconst (v := 0) hx hb dX0_parts_20 (by decide) ?_
      refine lv_istore (lv' := [(4, .int 0), (3, .int 0), (0, .ref (a 0)), (1, .int v1), (2, .int v2)]) hx hb dX0_parts_21 hl (by decide) rfl (fun ls hl => ?_)
      obtain ⟨k23, h⟩ := h
      exact wC0_parts_L23 F v1 v2  k23 0 0 S_2 _ _ _ G (lv_sub hl [2, 3, 4, 1, 0] rfl) h
    · replace h := h.2 c_4
      refine lv_ldc hx hb hown (hts _ q368) dX0_parts_15 ?_
      exact c_iret F G dX0_parts_17 h
/-! StrokesHeard.astray -/
def C0_astray_p83 (Q : Int32 → CS → Prop) (K23 : Int32 → Int32 → Int32 → CS → Prop) (v1 : Int32) (v3 : Int32) (v4 : Int32) (v5 : Int32) (t0 : Int32) (S : CS) : Prop := CJ3_max v3 v5 S (fun r_20 S_21 => K23 t0 r_20 (v4 + 1) S_21)
def C0_astray_L23 (Q : Int32 → CS → Prop)  (v1 : Int32) : Nat → Int32 → Int32 → Int32 → CS → Prop
  | 0, _, _, _, _ => False
  | n + 1, v2, v3, v4, S => ((S.1 1 1) ≤ v4 → (¬ v2 = (-1) → (¬ v1 = 0 → Q v3 S) ∧ (v1 = 0 → Q v2 S)) ∧ (v2 = (-1) → Q (-1000000005) S)) ∧ (¬ (S.1 1 1) ≤ v4 → vp_in v4 6 ∧ (∃ y_10 : Nat, (S.2.1 5 v4.toNatClampNeg) = some y_10 ∧ (C0_addsUp (-1) y_10 S (fun S_12 => C0_holds  S_12 (fun r_13 S_14 => vp_in v4 6 ∧ (∃ y_16 : Nat, (S_14.2.1 5 v4.toNatClampNeg) = some y_16 ∧ (C0_addsUp 1 y_16 S_14 (fun S_18 => (r_13 ≤ v3 → C0_astray_p83 Q (fun v2_ v3_ v4_ S_ => C0_astray_L23 Q v1 n v2_ v3_ v4_ S_) v1 v3 v4 r_13 v2 S_18) ∧ (¬ r_13 ≤ v3 → C0_astray_p83 Q (fun v2_ v3_ v4_ S_ => C0_astray_L23 Q v1 n v2_ v3_ v4_ S_) v1 v3 v4 r_13 v4 S_18)))))))))
def C0_astray (v1 : Int32) (S : CS) (Q : Int32 → CS → Prop) : Prop := C0_isIn v1 0 1 S (fun r_1 S_2 => (¬ r_1 = 0 → C0_addsUpAll  S_2 (fun S_5 => ∃ k23, C0_astray_L23 Q v1 k23 (-1) (-1) 0 S_5)) ∧ (r_1 = 0 → Q (-1000000001) S_2))
abbrev rmX0_astray : Room := { frames := 7, cells := 0, slots := 0, locals := 157 }
set_option maxHeartbeats 4000000 in
set_option maxRecDepth 100000 in
theorem wC0_astray_p83 {p : Program} {l : Launch} {e : Env} {s : State} {m : MethodId} {args : Array Value} {below : List Frame} {meth : Method} {c : Code} {D : va_G} {a : Nat → Nat} {d : Nat → ClassId} {A : Nat → Prop} {Q : Int32 → CS → Prop} {K23 : Int32 → Int32 → Int32 → CS → Prop} (F : FC p s m meth c args D a d A RX0 cX0_astray 6 (some .int)) (v1 : Int32) (v3 : Int32) (v4 : Int32) (v5 : Int32) (t0 : Int32) (S : CS) (hK23 : ∀ (v2 : Int32) (v3 : Int32) (v4 : Int32) (S : CS) (H : Heap) (locs : List Loc) (ls : Array Slot), GC D a d A s.heap S H locs → lv_has ls 6 [(0, .ref (a 0)), (1, .int v1), (2, .int v2), (3, .int v3), (4, .int v4)] → K23 v2 v3 v4 S → wCi p l e rmX0_astray s m args below meth c D a d A Q 0 0 H locs 0 0 (F0 m 23 ls [])) {H : Heap} {locs : List Loc} {ls : Array Slot} (G : GC D a d A s.heap S H locs) (hl : lv_has ls 6 [(0, .ref (a 0)), (1, .int v1), (3, .int v3), (4, .int v4), (5, .int v5)]) (h : C0_astray_p83 Q K23 v1 v3 v4 v5 t0 S) : wCi p l e rmX0_astray s m args below meth c D a d A Q 0 0 H locs 0 0 (F0 m 83 ls [.int t0]) := by
  obtain ⟨hx, hb, hr, hml, hown, hts, hlocks, hA, hK, hN⟩ := id F
  unfold C0_astray_p83 at h
  refine lv_istore_n (lv' := [(2, .int t0), (0, .ref (a 0)), (1, .int v1), (3, .int v3), (4, .int v4), (5, .int v5)]) hx hb dX0_astray_83 rfl hl (by decide) rfl (fun ls hl => ?_)
  refine lv_iload_n hx hb dX0_astray_84 rfl (lv_at hl 3 rfl) ?_
  refine lv_iload hx hb dX0_astray_85 (lv_at hl 5 rfl) ?_
  refine kX0_CJ3_max F G hl.1 ⟨(Nat.le_of_ble_eq_true rfl), (Nat.le_of_ble_eq_true rfl)⟩ ⟨(Nat.le_of_ble_eq_true rfl), (Nat.le_of_ble_eq_true rfl)⟩ (Nat.le_of_ble_eq_true rfl) dX0_astray_87 h (fun r_20 S_21 H locs G h => ?_)
  refine lv_istore_n (lv' := [(3, .int r_20), (2, .int t0), (0, .ref (a 0)), (1, .int v1), (4, .int v4), (5, .int v5)]) hx hb dX0_astray_90 rfl hl (by decide) rfl (fun ls hl => ?_)
  refine lv_iinc (v := (v4 + 1)) (lv' := [(4, .int (v4 + 1)), (3, .int r_20), (2, .int t0), (0, .ref (a 0)), (1, .int v1), (5, .int v5)]) hx hb dX0_astray_91 hl (k := 4) rfl rfl (by decide) rfl (fun ls hl => ?_)
  refine lv_goto (tgt := 23) hx hb dX0_astray_94 (by decide) ?_
  exact hK23 t0 r_20 (v4 + 1) S_21 _ _ _ G (lv_sub hl [3, 4, 2, 1, 0] rfl) h
set_option maxHeartbeats 4000000 in
set_option maxRecDepth 100000 in
theorem wC0_astray_L23 {p : Program} {l : Launch} {e : Env} {s : State} {m : MethodId} {args : Array Value} {below : List Frame} {meth : Method} {c : Code} {D : va_G} {a : Nat → Nat} {d : Nat → ClassId} {A : Nat → Prop} {Q : Int32 → CS → Prop}  (F : FC p s m meth c args D a d A RX0 cX0_astray 6 (some .int)) (v1 : Int32)  :
    ∀ (n : Nat) (v2 : Int32) (v3 : Int32) (v4 : Int32) (S : CS) (H : Heap) (locs : List Loc) (ls : Array Slot), GC D a d A s.heap S H locs → lv_has ls 6 [(0, .ref (a 0)), (1, .int v1), (2, .int v2), (3, .int v3), (4, .int v4)] → C0_astray_L23 Q v1 n v2 v3 v4 S → wCi p l e rmX0_astray s m args below meth c D a d A Q 0 0 H locs 0 0 (F0 m 23 ls []) := by
  obtain ⟨hx, hb, hr, hml, hown, hts, hlocks, hA, hK, hN⟩ := id F
  intro n
  induction n with
  | zero => intro v2 v3 v4 S H locs ls G hl h; exact absurd h (fun q => q)
  | succ n ih =>
    intro v2 v3 v4 S H locs ls G hl h
    unfold C0_astray_L23 at h
    refine lv_iload hx hb dX0_astray_23 (lv_at hl 4 rfl) ?_
    refine lv_aload_n hx hb dX0_astray_25 rfl (lv_at hl 0 rfl) ?_
    refine cgX0_0_now F G dX0_astray_26 ?_
    refine cgX0_1_many F G dX0_astray_29 ?_
    refine lv_icmp_ge (tgt := 97) hx hb dX0_astray_32 (by decide) (fun c_6 => ?_) (fun c_6 => ?_)
    · replace h := h.1 c_6
      refine lv_iload_n hx hb dX0_astray_97 rfl (lv_at hl 2 rfl) ?_
      refine lv_iconst (v := (-1)) hx hb dX0_astray_98 (by decide) ?_
      refine lv_icmp_ne (tgt := 107) hx hb dX0_astray_99 (by decide) (fun c_7 => ?_) (fun c_7 => ?_)
      · replace h := h.1 c_7
        refine lv_iload_n hx hb dX0_astray_107 rfl (lv_at hl 1 rfl) ?_
        refine lv_if_ne (tgt := 115) hx hb dX0_astray_108 (by decide) (fun c_8 => ?_) (fun c_8 => ?_)
        · replace h := h.1 c_8
          refine lv_iload_n hx hb dX0_astray_115 rfl (lv_at hl 3 rfl) ?_
          exact c_iret F G dX0_astray_116 h
        · replace h := h.2 c_8
          refine lv_iload_n hx hb dX0_astray_111 rfl (lv_at hl 2 rfl) ?_
          refine lv_goto (tgt := 116) hx hb dX0_astray_112 (by decide) ?_
          exact c_iret F G dX0_astray_116 h
      · replace h := h.2 c_7
        refine lv_ldc hx hb hown (hts _ q547) dX0_astray_102 ?_
        refine lv_goto (tgt := 116) hx hb dX0_astray_104 (by decide) ?_
        exact c_iret F G dX0_astray_116 h
    · replace h := h.2 c_6
      refine lv_aload_n hx hb dX0_astray_35 rfl (lv_at hl 0 rfl) ?_
      refine lv_iconst (v := (-1)) hx hb dX0_astray_36 (by decide) ?_
      refine lv_aload_n hx hb dX0_astray_37 rfl (lv_at hl 0 rfl) ?_
      refine cgX0_0_now F G dX0_astray_38 ?_
      refine cgX0_1_clock F G dX0_astray_41 ?_
      refine lv_iload hx hb dX0_astray_44 (lv_at hl 4 rfl) ?_
      obtain ⟨b_9, h⟩ := h
      refine c_aaload F G cR_5 rfl b_9 dX0_astray_46 ?_
      obtain ⟨y_10, hy_10, h⟩ := h
      refine c_nn hy_10 ?_
      refine kX0_C0_addsUp F G hl.1 ⟨(Nat.le_of_ble_eq_true rfl), (Nat.le_of_ble_eq_true rfl)⟩ ⟨(Nat.le_of_ble_eq_true rfl), (Nat.le_of_ble_eq_true rfl)⟩ (Nat.le_of_ble_eq_true rfl) dX0_astray_47 h (fun S_12 H locs G h => ?_)
      refine lv_aload_n hx hb dX0_astray_50 rfl (lv_at hl 0 rfl) ?_
      refine kX0_C0_holds F G hl.1 ⟨(Nat.le_of_ble_eq_true rfl), (Nat.le_of_ble_eq_true rfl)⟩ ⟨(Nat.le_of_ble_eq_true rfl), (Nat.le_of_ble_eq_true rfl)⟩ (Nat.le_of_ble_eq_true rfl) dX0_astray_51 h (fun r_13 S_14 H locs G h => ?_)
      refine lv_istore (lv' := [(5, .int r_13), (0, .ref (a 0)), (1, .int v1), (2, .int v2), (3, .int v3), (4, .int v4)]) hx hb dX0_astray_54 hl (by decide) rfl (fun ls hl => ?_)
      refine lv_aload_n hx hb dX0_astray_56 rfl (lv_at hl 1 rfl) ?_
      refine lv_iconst (v := 1) hx hb dX0_astray_57 (by decide) ?_
      refine lv_aload_n hx hb dX0_astray_58 rfl (lv_at hl 1 rfl) ?_
      refine cgX0_0_now F G dX0_astray_59 ?_
      refine cgX0_1_clock F G dX0_astray_62 ?_
      refine lv_iload hx hb dX0_astray_65 (lv_at hl 5 rfl) ?_
      obtain ⟨b_15, h⟩ := h
      refine c_aaload F G cR_5 rfl b_15 dX0_astray_67 ?_
      obtain ⟨y_16, hy_16, h⟩ := h
      refine c_nn hy_16 ?_
      refine kX0_C0_addsUp F G hl.1 ⟨(Nat.le_of_ble_eq_true rfl), (Nat.le_of_ble_eq_true rfl)⟩ ⟨(Nat.le_of_ble_eq_true rfl), (Nat.le_of_ble_eq_true rfl)⟩ (Nat.le_of_ble_eq_true rfl) dX0_astray_68 h (fun S_18 H locs G h => ?_)
      refine lv_iload hx hb dX0_astray_71 (lv_at hl 0 rfl) ?_
      refine lv_iload_n hx hb dX0_astray_73 rfl (lv_at hl 4 rfl) ?_
      refine lv_icmp_le (tgt := 82) hx hb dX0_astray_74 (by decide) (fun c_19 => ?_) (fun c_19 => ?_)
      · replace h := h.1 c_19
        refine lv_iload_n hx hb dX0_astray_82 rfl (lv_at hl 3 rfl) ?_
        exact wC0_astray_p83 F v1 v3 v4 r_13 v2 S_18 ih G (lv_sub hl [1, 2, 4, 5, 0] rfl) h
      · replace h := h.2 c_19
        refine lv_iload hx hb dX0_astray_77 (lv_at hl 5 rfl) ?_
        refine lv_goto (tgt := 83) hx hb dX0_astray_79 (by decide) ?_
        exact wC0_astray_p83 F v1 v3 v4 r_13 v4 S_18 ih G (lv_sub hl [1, 2, 4, 5, 0] rfl) h
set_option maxHeartbeats 4000000 in
set_option maxRecDepth 100000 in
theorem wC0_astray {l : Launch} {D : va_G} {a : Nat → Nat} {d : Nat → ClassId} (sz : Nat) (v1 : Int32) (S : CS) (Q : Int32 → CS → Prop) (h : C0_astray v1 S Q) : CMi l D a d yX0_astray cX0_astray 6 .int rmX0_astray 0 0 [.ref (a 0), .int v1] sz S Q := by
  refine c_enter (Qc := fun A => va_Qi Q (BC D a d A) A) RX0 (by decide +kernel) rfl (Nat.le_of_ble_eq_true rfl) ?_
  intro p e s m below meth c ls A hmn F hG hl
  have G := hG
  have hl : lv_has ls 6 [(0, .ref (a 0)), (1, .int v1)] := hl
  obtain ⟨hx, hb, hr, hml, hown, hts, hlocks, hA, hK, hN⟩ := id F
  unfold C0_astray at h
  refine lv_iload_n hx hb dX0_astray_0 rfl (lv_at hl 1 rfl) ?_
  refine lv_iconst (v := 0) hx hb dX0_astray_1 (by decide) ?_
  refine lv_iconst (v := 1) hx hb dX0_astray_2 (by decide) ?_
  refine kX0_C0_isIn F G hl.1 ⟨(Nat.le_of_ble_eq_true rfl), (Nat.le_of_ble_eq_true rfl)⟩ ⟨(Nat.le_of_ble_eq_true rfl), (Nat.le_of_ble_eq_true rfl)⟩ (Nat.le_of_ble_eq_true rfl) dX0_astray_3 h (fun r_1 S_2 H locs G h => ?_)
  refine lv_if_ne (tgt := 12) hx hb dX0_astray_6 (by decide) (fun c_3 => ?_) (fun c_3 => ?_)
  · replace h := h.1 c_3
    refine lv_iconst (v := (-1)) hx hb dX0_astray_12 (by decide) ?_
    refine lv_istore_n (lv' := [(2, .int (-1)), (0, .ref (a 0)), (1, .int v1)]) hx hb dX0_astray_13 rfl hl (by decide) rfl (fun ls hl => ?_)
    refine lv_iconst (v := (-1)) hx hb dX0_astray_14 (by decide) ?_
    refine lv_istore_n (lv' := [(3, .int (-1)), (2, .int (-1)), (0, .ref (a 0)), (1, .int v1)]) hx hb dX0_astray_15 rfl hl (by decide) rfl (fun ls hl => ?_)
    refine lv_aload_n hx hb dX0_astray_16 rfl (lv_at hl 2 rfl) ?_
    refine kX0_C0_addsUpAll F G hl.1 ⟨(Nat.le_of_ble_eq_true rfl), (Nat.le_of_ble_eq_true rfl)⟩ ⟨(Nat.le_of_ble_eq_true rfl), (Nat.le_of_ble_eq_true rfl)⟩ (Nat.le_of_ble_eq_true rfl) dX0_astray_17 h (fun S_5 H locs G h => ?_)
    refine lv_iconst (v := 0) hx hb dX0_astray_20 (by decide) ?_
    refine lv_istore (lv' := [(4, .int 0), (3, .int (-1)), (2, .int (-1)), (0, .ref (a 0)), (1, .int v1)]) hx hb dX0_astray_21 hl (by decide) rfl (fun ls hl => ?_)
    obtain ⟨k23, h⟩ := h
    exact wC0_astray_L23 F v1  k23 (-1) (-1) 0 S_5 _ _ _ G (lv_sub hl [3, 4, 2, 1, 0] rfl) h
  · replace h := h.2 c_3
    refine lv_ldc hx hb hown (hts _ q368) dX0_astray_9 ?_
    exact c_iret F G dX0_astray_11 h
/-! StrokesHeard.right -/
def C0_right_p120 (Q : Int32 → CS → Prop) (K51 : Int32 → Int32 → Int32 → CS → Prop) (v2 : Int32) (y3 : Nat) (v4 : Int32) (v5 : Int32) (v7 : Int32) (t0 : Int32) (S : CS) : Prop := K51 v5 t0 (v7 + 1) S
def C0_right_p101 (Q : Int32 → CS → Prop) (K51 : Int32 → Int32 → Int32 → CS → Prop) (v2 : Int32) (y3 : Nat) (v4 : Int32) (v6 : Int32) (v7 : Int32) (v8 : Int32) (t0 : Int32) (S : CS) : Prop := (v8 ≤ 0 → C0_right_p120 Q K51 v2 y3 v4 t0 v7 v6 S) ∧ (¬ v8 ≤ 0 → CJ3_min v6 v8 S (fun r_39 S_40 => C0_right_p120 Q K51 v2 y3 v4 t0 v7 r_39 S_40))
def C0_right_p99 (Q : Int32 → CS → Prop) (K51 : Int32 → Int32 → Int32 → CS → Prop) (v2 : Int32) (y3 : Nat) (v4 : Int32) (v5 : Int32) (v6 : Int32) (v7 : Int32) (v8 : Int32) (S : CS) : Prop := C0_right_p101 Q K51 v2 y3 v4 v6 v7 v8 v5 S
def C0_right_L51 (Q : Int32 → CS → Prop)  (v2 : Int32) (y3 : Nat) (v4 : Int32) : Nat → Int32 → Int32 → Int32 → CS → Prop
  | 0, _, _, _, _ => False
  | n + 1, v5, v6, v7, S => (59 < v7 → ∃ (κ_21 : Nat) (fs_18 : List Value), κ_21 < 6 ∧ has S y3 (.inr (6 + κ_21, fs_18)) ∧ 0 < fs_18.length ∧ ((¬ v5 = (-1) → (¬ v2 = 0 → Q v6 (cP S y3 (.inr (6 + κ_21, fs_18.set 0 (.int v4))))) ∧ (v2 = 0 → Q v5 (cP S y3 (.inr (6 + κ_21, fs_18.set 0 (.int v4)))))) ∧ (v5 = (-1) → Q (-1000000005) (cP S y3 (.inr (6 + κ_21, fs_18.set 0 (.int v4))))))) ∧ (¬ 59 < v7 → C0_addsUp (-1) y3 S (fun S_26 => ∃ (κ_30 : Nat) (fs_27 : List Value), κ_30 < 6 ∧ has S_26 y3 (.inr (6 + κ_30, fs_27)) ∧ 0 < fs_27.length ∧ (C0_addsUp 1 y3 (cP S_26 y3 (.inr (6 + κ_30, fs_27.set 0 (.int v7)))) (fun S_33 => C0_holds  S_33 (fun r_34 S_35 => (r_34 ≤ 0 → C0_right_p99 Q (fun v5_ v6_ v7_ S_ => C0_right_L51 Q v2 y3 v4 n v5_ v6_ v7_ S_) v2 y3 v4 v5 v6 v7 r_34 S_35) ∧ (¬ r_34 ≤ 0 → (v6 ≤ r_34 → C0_right_p99 Q (fun v5_ v6_ v7_ S_ => C0_right_L51 Q v2 y3 v4 n v5_ v6_ v7_ S_) v2 y3 v4 v5 v6 v7 r_34 S_35) ∧ (¬ v6 ≤ r_34 → C0_right_p101 Q (fun v5_ v6_ v7_ S_ => C0_right_L51 Q v2 y3 v4 n v5_ v6_ v7_ S_) v2 y3 v4 v6 v7 r_34 v7 S_35)))))))
def C0_right (v1 : Int32) (v2 : Int32) (S : CS) (Q : Int32 → CS → Prop) : Prop := C0_isClock v1 S (fun r_1 S_2 => (r_1 = 0 → Q (-1000000001) S_2) ∧ (¬ r_1 = 0 → C0_isIn v2 0 1 S_2 (fun r_4 S_5 => (¬ r_4 = 0 → vp_in v1 6 ∧ (∃ y_8 : Nat, (S_5.2.1 5 v1.toNatClampNeg) = some y_8 ∧ (∃ (κ_12 : Nat) (fs_9 : List Value) (i_14 : Int32), κ_12 < 6 ∧ has S_5 y_8 (.inr (6 + κ_12, fs_9)) ∧ fs_9[0]? = some (.int i_14) ∧ (C0_addsUpAll  S_5 (fun S_16 => ∃ k51, C0_right_L51 Q v2 y_8 i_14 k51 (-1) 99999 0 S_16))))) ∧ (r_4 = 0 → Q (-1000000001) S_5))))
abbrev rmX0_right : Room := { frames := 7, cells := 0, slots := 0, locals := 157 }
set_option maxHeartbeats 4000000 in
set_option maxRecDepth 100000 in
theorem wC0_right_p120 {p : Program} {l : Launch} {e : Env} {s : State} {m : MethodId} {args : Array Value} {below : List Frame} {meth : Method} {c : Code} {D : va_G} {a : Nat → Nat} {d : Nat → ClassId} {A : Nat → Prop} {Q : Int32 → CS → Prop} {K51 : Int32 → Int32 → Int32 → CS → Prop} (F : FC p s m meth c args D a d A RX0 cX0_right 9 (some .int)) (v2 : Int32) (y3 : Nat) (v4 : Int32) (v5 : Int32) (v7 : Int32) (t0 : Int32) (S : CS) (hK51 : ∀ (v5 : Int32) (v6 : Int32) (v7 : Int32) (S : CS) (H : Heap) (locs : List Loc) (ls : Array Slot), GC D a d A s.heap S H locs → lv_has ls 9 [(0, .ref (a 0)), (2, .int v2), (3, .ref y3), (4, .int v4), (5, .int v5), (6, .int v6), (7, .int v7)] → K51 v5 v6 v7 S → wCi p l e rmX0_right s m args below meth c D a d A Q 0 0 H locs 0 0 (F0 m 51 ls [])) {H : Heap} {locs : List Loc} {ls : Array Slot} (G : GC D a d A s.heap S H locs) (hl : lv_has ls 9 [(0, .ref (a 0)), (2, .int v2), (3, .ref y3), (4, .int v4), (5, .int v5), (7, .int v7)]) (h : C0_right_p120 Q K51 v2 y3 v4 v5 v7 t0 S) : wCi p l e rmX0_right s m args below meth c D a d A Q 0 0 H locs 0 0 (F0 m 120 ls [.int t0]) := by
  obtain ⟨hx, hb, hr, hml, hown, hts, hlocks, hA, hK, hN⟩ := id F
  unfold C0_right_p120 at h
  refine lv_istore (lv' := [(6, .int t0), (0, .ref (a 0)), (2, .int v2), (3, .ref y3), (4, .int v4), (5, .int v5), (7, .int v7)]) hx hb dX0_right_120 hl (by decide) rfl (fun ls hl => ?_)
  refine lv_iinc (v := (v7 + 1)) (lv' := [(7, .int (v7 + 1)), (6, .int t0), (0, .ref (a 0)), (2, .int v2), (3, .ref y3), (4, .int v4), (5, .int v5)]) hx hb dX0_right_122 hl (k := 6) rfl rfl (by decide) rfl (fun ls hl => ?_)
  refine lv_goto (tgt := 51) hx hb dX0_right_125 (by decide) ?_
  exact hK51 v5 t0 (v7 + 1) S _ _ _ G (lv_sub hl [2, 3, 4, 5, 6, 1, 0] rfl) h
set_option maxHeartbeats 4000000 in
set_option maxRecDepth 100000 in
theorem wC0_right_p101 {p : Program} {l : Launch} {e : Env} {s : State} {m : MethodId} {args : Array Value} {below : List Frame} {meth : Method} {c : Code} {D : va_G} {a : Nat → Nat} {d : Nat → ClassId} {A : Nat → Prop} {Q : Int32 → CS → Prop} {K51 : Int32 → Int32 → Int32 → CS → Prop} (F : FC p s m meth c args D a d A RX0 cX0_right 9 (some .int)) (v2 : Int32) (y3 : Nat) (v4 : Int32) (v6 : Int32) (v7 : Int32) (v8 : Int32) (t0 : Int32) (S : CS) (hK51 : ∀ (v5 : Int32) (v6 : Int32) (v7 : Int32) (S : CS) (H : Heap) (locs : List Loc) (ls : Array Slot), GC D a d A s.heap S H locs → lv_has ls 9 [(0, .ref (a 0)), (2, .int v2), (3, .ref y3), (4, .int v4), (5, .int v5), (6, .int v6), (7, .int v7)] → K51 v5 v6 v7 S → wCi p l e rmX0_right s m args below meth c D a d A Q 0 0 H locs 0 0 (F0 m 51 ls [])) {H : Heap} {locs : List Loc} {ls : Array Slot} (G : GC D a d A s.heap S H locs) (hl : lv_has ls 9 [(0, .ref (a 0)), (2, .int v2), (3, .ref y3), (4, .int v4), (6, .int v6), (7, .int v7), (8, .int v8)]) (h : C0_right_p101 Q K51 v2 y3 v4 v6 v7 v8 t0 S) : wCi p l e rmX0_right s m args below meth c D a d A Q 0 0 H locs 0 0 (F0 m 101 ls [.int t0]) := by
  obtain ⟨hx, hb, hr, hml, hown, hts, hlocks, hA, hK, hN⟩ := id F
  unfold C0_right_p101 at h
  refine lv_istore (lv' := [(5, .int t0), (0, .ref (a 0)), (2, .int v2), (3, .ref y3), (4, .int v4), (6, .int v6), (7, .int v7), (8, .int v8)]) hx hb dX0_right_101 hl (by decide) rfl (fun ls hl => ?_)
  refine lv_iload hx hb dX0_right_103 (lv_at hl 7 rfl) ?_
  refine lv_if_le (tgt := 118) hx hb dX0_right_105 (by decide) (fun c_38 => ?_) (fun c_38 => ?_)
  · replace h := h.1 c_38
    refine lv_iload hx hb dX0_right_118 (lv_at hl 5 rfl) ?_
    exact wC0_right_p120 F v2 y3 v4 t0 v7 v6 S hK51 G (lv_sub hl [1, 2, 3, 4, 0, 6] rfl) h
  · replace h := h.2 c_38
    refine lv_iload hx hb dX0_right_108 (lv_at hl 5 rfl) ?_
    refine lv_iload hx hb dX0_right_110 (lv_at hl 7 rfl) ?_
    refine kX0_CJ3_min F G hl.1 ⟨(Nat.le_of_ble_eq_true rfl), (Nat.le_of_ble_eq_true rfl)⟩ ⟨(Nat.le_of_ble_eq_true rfl), (Nat.le_of_ble_eq_true rfl)⟩ (Nat.le_of_ble_eq_true rfl) dX0_right_112 h (fun r_39 S_40 H locs G h => ?_)
    refine lv_goto (tgt := 120) hx hb dX0_right_115 (by decide) ?_
    exact wC0_right_p120 F v2 y3 v4 t0 v7 r_39 S_40 hK51 G (lv_sub hl [1, 2, 3, 4, 0, 6] rfl) h
set_option maxHeartbeats 4000000 in
set_option maxRecDepth 100000 in
theorem wC0_right_p99 {p : Program} {l : Launch} {e : Env} {s : State} {m : MethodId} {args : Array Value} {below : List Frame} {meth : Method} {c : Code} {D : va_G} {a : Nat → Nat} {d : Nat → ClassId} {A : Nat → Prop} {Q : Int32 → CS → Prop} {K51 : Int32 → Int32 → Int32 → CS → Prop} (F : FC p s m meth c args D a d A RX0 cX0_right 9 (some .int)) (v2 : Int32) (y3 : Nat) (v4 : Int32) (v5 : Int32) (v6 : Int32) (v7 : Int32) (v8 : Int32) (S : CS) (hK51 : ∀ (v5 : Int32) (v6 : Int32) (v7 : Int32) (S : CS) (H : Heap) (locs : List Loc) (ls : Array Slot), GC D a d A s.heap S H locs → lv_has ls 9 [(0, .ref (a 0)), (2, .int v2), (3, .ref y3), (4, .int v4), (5, .int v5), (6, .int v6), (7, .int v7)] → K51 v5 v6 v7 S → wCi p l e rmX0_right s m args below meth c D a d A Q 0 0 H locs 0 0 (F0 m 51 ls [])) {H : Heap} {locs : List Loc} {ls : Array Slot} (G : GC D a d A s.heap S H locs) (hl : lv_has ls 9 [(0, .ref (a 0)), (2, .int v2), (3, .ref y3), (4, .int v4), (5, .int v5), (6, .int v6), (7, .int v7), (8, .int v8)]) (h : C0_right_p99 Q K51 v2 y3 v4 v5 v6 v7 v8 S) : wCi p l e rmX0_right s m args below meth c D a d A Q 0 0 H locs 0 0 (F0 m 99 ls []) := by
  obtain ⟨hx, hb, hr, hml, hown, hts, hlocks, hA, hK, hN⟩ := id F
  unfold C0_right_p99 at h
  refine lv_iload hx hb dX0_right_99 (lv_at hl 4 rfl) ?_
  exact wC0_right_p101 F v2 y3 v4 v6 v7 v8 v5 S hK51 G (lv_sub hl [0, 1, 2, 3, 5, 6, 7] rfl) h
set_option maxHeartbeats 4000000 in
set_option maxRecDepth 100000 in
theorem wC0_right_L51 {p : Program} {l : Launch} {e : Env} {s : State} {m : MethodId} {args : Array Value} {below : List Frame} {meth : Method} {c : Code} {D : va_G} {a : Nat → Nat} {d : Nat → ClassId} {A : Nat → Prop} {Q : Int32 → CS → Prop}  (F : FC p s m meth c args D a d A RX0 cX0_right 9 (some .int)) (v2 : Int32) (y3 : Nat) (v4 : Int32)  :
    ∀ (n : Nat) (v5 : Int32) (v6 : Int32) (v7 : Int32) (S : CS) (H : Heap) (locs : List Loc) (ls : Array Slot), GC D a d A s.heap S H locs → lv_has ls 9 [(0, .ref (a 0)), (2, .int v2), (3, .ref y3), (4, .int v4), (5, .int v5), (6, .int v6), (7, .int v7)] → C0_right_L51 Q v2 y3 v4 n v5 v6 v7 S → wCi p l e rmX0_right s m args below meth c D a d A Q 0 0 H locs 0 0 (F0 m 51 ls []) := by
  obtain ⟨hx, hb, hr, hml, hown, hts, hlocks, hA, hK, hN⟩ := id F
  intro n
  induction n with
  | zero => intro v5 v6 v7 S H locs ls G hl h; exact absurd h (fun q => q)
  | succ n ih =>
    intro v5 v6 v7 S H locs ls G hl h
    unfold C0_right_L51 at h
    refine lv_iload hx hb dX0_right_51 (lv_at hl 6 rfl) ?_
    refine lv_bipush (v := 59) hx hb dX0_right_53 (by decide) ?_
    refine lv_icmp_gt (tgt := 128) hx hb dX0_right_55 (by decide) (fun c_17 => ?_) (fun c_17 => ?_)
    · replace h := h.1 c_17
      refine lv_aload_n hx hb dX0_right_128 rfl (lv_at hl 2 rfl) ?_
      refine lv_iload hx hb dX0_right_129 (lv_at hl 3 rfl) ?_
      obtain ⟨κ_21, fs_18, q_22, z_19, u_20, h⟩ := h
      refine ppX0_X6_off F G q_22 z_19 rfl rfl u_20 dX0_right_131 (fun H locs G => ?_)
      refine lv_iload hx hb dX0_right_134 (lv_at hl 4 rfl) ?_
      refine lv_iconst (v := (-1)) hx hb dX0_right_136 (by decide) ?_
      refine lv_icmp_ne (tgt := 145) hx hb dX0_right_137 (by decide) (fun c_23 => ?_) (fun c_23 => ?_)
      · replace h := h.1 c_23
        refine lv_iload_n hx hb dX0_right_145 rfl (lv_at hl 1 rfl) ?_
        refine lv_if_ne (tgt := 154) hx hb dX0_right_146 (by decide) (fun c_24 => ?_) (fun c_24 => ?_)
        · replace h := h.1 c_24
          refine lv_iload hx hb dX0_right_154 (lv_at hl 5 rfl) ?_
          exact c_iret F G dX0_right_156 h
        · replace h := h.2 c_24
          refine lv_iload hx hb dX0_right_149 (lv_at hl 4 rfl) ?_
          refine lv_goto (tgt := 156) hx hb dX0_right_151 (by decide) ?_
          exact c_iret F G dX0_right_156 h
      · replace h := h.2 c_23
        refine lv_ldc hx hb hown (hts _ q547) dX0_right_140 ?_
        refine lv_goto (tgt := 156) hx hb dX0_right_142 (by decide) ?_
        exact c_iret F G dX0_right_156 h
    · replace h := h.2 c_17
      refine lv_aload_n hx hb dX0_right_58 rfl (lv_at hl 0 rfl) ?_
      refine lv_iconst (v := (-1)) hx hb dX0_right_59 (by decide) ?_
      refine lv_aload_n hx hb dX0_right_60 rfl (lv_at hl 2 rfl) ?_
      refine kX0_C0_addsUp F G hl.1 ⟨(Nat.le_of_ble_eq_true rfl), (Nat.le_of_ble_eq_true rfl)⟩ ⟨(Nat.le_of_ble_eq_true rfl), (Nat.le_of_ble_eq_true rfl)⟩ (Nat.le_of_ble_eq_true rfl) dX0_right_61 h (fun S_26 H locs G h => ?_)
      refine lv_aload_n hx hb dX0_right_64 rfl (lv_at hl 2 rfl) ?_
      refine lv_iload hx hb dX0_right_65 (lv_at hl 6 rfl) ?_
      obtain ⟨κ_30, fs_27, q_31, z_28, u_29, h⟩ := h
      refine ppX0_X6_off F G q_31 z_28 rfl rfl u_29 dX0_right_67 (fun H locs G => ?_)
      refine lv_aload_n hx hb dX0_right_70 rfl (lv_at hl 0 rfl) ?_
      refine lv_iconst (v := 1) hx hb dX0_right_71 (by decide) ?_
      refine lv_aload_n hx hb dX0_right_72 rfl (lv_at hl 2 rfl) ?_
      refine kX0_C0_addsUp F G hl.1 ⟨(Nat.le_of_ble_eq_true rfl), (Nat.le_of_ble_eq_true rfl)⟩ ⟨(Nat.le_of_ble_eq_true rfl), (Nat.le_of_ble_eq_true rfl)⟩ (Nat.le_of_ble_eq_true rfl) dX0_right_73 h (fun S_33 H locs G h => ?_)
      refine lv_aload_n hx hb dX0_right_76 rfl (lv_at hl 0 rfl) ?_
      refine kX0_C0_holds F G hl.1 ⟨(Nat.le_of_ble_eq_true rfl), (Nat.le_of_ble_eq_true rfl)⟩ ⟨(Nat.le_of_ble_eq_true rfl), (Nat.le_of_ble_eq_true rfl)⟩ (Nat.le_of_ble_eq_true rfl) dX0_right_77 h (fun r_34 S_35 H locs G h => ?_)
      refine lv_istore (lv' := [(8, .int r_34), (0, .ref (a 0)), (2, .int v2), (3, .ref y3), (4, .int v4), (5, .int v5), (6, .int v6), (7, .int v7)]) hx hb dX0_right_80 hl (by decide) rfl (fun ls hl => ?_)
      refine lv_iload hx hb dX0_right_82 (lv_at hl 0 rfl) ?_
      refine lv_if_le (tgt := 99) hx hb dX0_right_84 (by decide) (fun c_36 => ?_) (fun c_36 => ?_)
      · replace h := h.1 c_36
        exact wC0_right_p99 F v2 y3 v4 v5 v6 v7 r_34 S_35 ih G (lv_sub hl [1, 2, 3, 4, 5, 6, 7, 0] rfl) h
      · replace h := h.2 c_36
        refine lv_iload hx hb dX0_right_87 (lv_at hl 0 rfl) ?_
        refine lv_iload hx hb dX0_right_89 (lv_at hl 6 rfl) ?_
        refine lv_icmp_ge (tgt := 99) hx hb dX0_right_91 (by decide) (fun c_37 => ?_) (fun c_37 => ?_)
        · replace h := h.1 c_37
          exact wC0_right_p99 F v2 y3 v4 v5 v6 v7 r_34 S_35 ih G (lv_sub hl [1, 2, 3, 4, 5, 6, 7, 0] rfl) h
        · replace h := h.2 c_37
          refine lv_iload hx hb dX0_right_94 (lv_at hl 7 rfl) ?_
          refine lv_goto (tgt := 101) hx hb dX0_right_96 (by decide) ?_
          exact wC0_right_p101 F v2 y3 v4 v6 v7 r_34 v7 S_35 ih G (lv_sub hl [1, 2, 3, 4, 6, 7, 0] rfl) h
set_option maxHeartbeats 4000000 in
set_option maxRecDepth 100000 in
theorem wC0_right {l : Launch} {D : va_G} {a : Nat → Nat} {d : Nat → ClassId} (sz : Nat) (v1 : Int32) (v2 : Int32) (S : CS) (Q : Int32 → CS → Prop) (h : C0_right v1 v2 S Q) : CMi l D a d yX0_right cX0_right 9 .int rmX0_right 0 0 [.ref (a 0), .int v1, .int v2] sz S Q := by
  refine c_enter (Qc := fun A => va_Qi Q (BC D a d A) A) RX0 (by decide +kernel) rfl (Nat.le_of_ble_eq_true rfl) ?_
  intro p e s m below meth c ls A hmn F hG hl
  have G := hG
  have hl : lv_has ls 9 [(0, .ref (a 0)), (1, .int v1), (2, .int v2)] := hl
  obtain ⟨hx, hb, hr, hml, hown, hts, hlocks, hA, hK, hN⟩ := id F
  unfold C0_right at h
  refine lv_aload_n hx hb dX0_right_0 rfl (lv_at hl 0 rfl) ?_
  refine lv_iload_n hx hb dX0_right_1 rfl (lv_at hl 1 rfl) ?_
  refine kX0_C0_isClock F G hl.1 ⟨(Nat.le_of_ble_eq_true rfl), (Nat.le_of_ble_eq_true rfl)⟩ ⟨(Nat.le_of_ble_eq_true rfl), (Nat.le_of_ble_eq_true rfl)⟩ (Nat.le_of_ble_eq_true rfl) dX0_right_2 h (fun r_1 S_2 H locs G h => ?_)
  refine lv_if_eq (tgt := 17) hx hb dX0_right_5 (by decide) (fun c_3 => ?_) (fun c_3 => ?_)
  · replace h := h.1 c_3
    refine lv_ldc hx hb hown (hts _ q368) dX0_right_17 ?_
    exact c_iret F G dX0_right_19 h
  · replace h := h.2 c_3
    refine lv_iload_n hx hb dX0_right_8 rfl (lv_at hl 2 rfl) ?_
    refine lv_iconst (v := 0) hx hb dX0_right_9 (by decide) ?_
    refine lv_iconst (v := 1) hx hb dX0_right_10 (by decide) ?_
    refine kX0_C0_isIn F G hl.1 ⟨(Nat.le_of_ble_eq_true rfl), (Nat.le_of_ble_eq_true rfl)⟩ ⟨(Nat.le_of_ble_eq_true rfl), (Nat.le_of_ble_eq_true rfl)⟩ (Nat.le_of_ble_eq_true rfl) dX0_right_11 h (fun r_4 S_5 H locs G h => ?_)
    refine lv_if_ne (tgt := 20) hx hb dX0_right_14 (by decide) (fun c_6 => ?_) (fun c_6 => ?_)
    · replace h := h.1 c_6
      refine lv_aload_n hx hb dX0_right_20 rfl (lv_at hl 0 rfl) ?_
      refine cgX0_0_now F G dX0_right_21 ?_
      refine cgX0_1_clock F G dX0_right_24 ?_
      refine lv_iload_n hx hb dX0_right_27 rfl (lv_at hl 1 rfl) ?_
      obtain ⟨b_7, h⟩ := h
      refine c_aaload F G cR_5 rfl b_7 dX0_right_28 ?_
      obtain ⟨y_8, hy_8, h⟩ := h
      refine c_nn hy_8 ?_
      refine lv_astore_n (lv' := [(3, .ref y_8), (0, .ref (a 0)), (1, .int v1), (2, .int v2)]) hx hb dX0_right_29 rfl hl (by decide) rfl (fun ls hl => ?_)
      refine lv_aload_n hx hb dX0_right_30 rfl (lv_at hl 0 rfl) ?_
      obtain ⟨κ_12, fs_9, i_14, q_13, z_10, u_11, h⟩ := h
      refine pgX0_X6_off F G q_13 z_10 u_11 dX0_right_31 ?_
      refine lv_istore (lv' := [(4, .int i_14), (3, .ref y_8), (0, .ref (a 0)), (1, .int v1), (2, .int v2)]) hx hb dX0_right_34 hl (by decide) rfl (fun ls hl => ?_)
      refine lv_iconst (v := (-1)) hx hb dX0_right_36 (by decide) ?_
      refine lv_istore (lv' := [(5, .int (-1)), (4, .int i_14), (3, .ref y_8), (0, .ref (a 0)), (1, .int v1), (2, .int v2)]) hx hb dX0_right_37 hl (by decide) rfl (fun ls hl => ?_)
      refine lv_ldcw hx hb hown (hts _ q914) dX0_right_39 ?_
      refine lv_istore (lv' := [(6, .int 99999), (5, .int (-1)), (4, .int i_14), (3, .ref y_8), (0, .ref (a 0)), (1, .int v1), (2, .int v2)]) hx hb dX0_right_42 hl (by decide) rfl (fun ls hl => ?_)
      refine lv_aload_n hx hb dX0_right_44 rfl (lv_at hl 4 rfl) ?_
      refine kX0_C0_addsUpAll F G hl.1 ⟨(Nat.le_of_ble_eq_true rfl), (Nat.le_of_ble_eq_true rfl)⟩ ⟨(Nat.le_of_ble_eq_true rfl), (Nat.le_of_ble_eq_true rfl)⟩ (Nat.le_of_ble_eq_true rfl) dX0_right_45 h (fun S_16 H locs G h => ?_)
      refine lv_iconst (v := 0) hx hb dX0_right_48 (by decide) ?_
      refine lv_istore (lv' := [(7, .int 0), (6, .int 99999), (5, .int (-1)), (4, .int i_14), (3, .ref y_8), (0, .ref (a 0)), (1, .int v1), (2, .int v2)]) hx hb dX0_right_49 hl (by decide) rfl (fun ls hl => ?_)
      obtain ⟨k51, h⟩ := h
      exact wC0_right_L51 F v2 y_8 i_14  k51 (-1) 99999 0 S_16 _ _ _ G (lv_sub hl [5, 7, 4, 3, 2, 1, 0] rfl) h
    · replace h := h.2 c_6
      refine lv_ldc hx hb hown (hts _ q368) dX0_right_17 ?_
      exact c_iret F G dX0_right_19 h
/-! StrokesHeard.telling -/
def C0_telling_p93 (Q : Int32 → CS → Prop) (K8 : Int32 → Int32 → CS → Prop) (K20 : Int32 → Int32 → Int32 → CS → Prop) (v2 : Int32) (v3 : Int32) (v4 : Int32) (t0 : Int32) (S : CS) : Prop := K20 t0 v3 (v4 + 1) S
def C0_telling_p70 (Q : Int32 → CS → Prop) (K8 : Int32 → Int32 → CS → Prop) (K20 : Int32 → Int32 → Int32 → CS → Prop) (v1 : Int32) (v2 : Int32) (v4 : Int32) (v5 : Int32) (v6 : Int32) (t0 : Int32) (S : CS) : Prop := ((v5 / 60) = (v6 / 60) → C0_telling_p93 Q K8 K20 v2 t0 v4 v1 S) ∧ (¬ (v5 / 60) = (v6 / 60) → CJ3_max v1 t0 S (fun r_12 S_13 => C0_telling_p93 Q K8 K20 v2 t0 v4 r_12 S_13))
def C0_telling_L20 (Q : Int32 → CS → Prop) (K8 : Int32 → Int32 → CS → Prop) (v2 : Int32) : Nat → Int32 → Int32 → Int32 → CS → Prop
  | 0, _, _, _, _ => False
  | n + 1, v1, v3, v4, S => (1440 ≤ v4 → (v1 < 60 → K8 v1 (v2 + 1) S) ∧ (¬ v1 < 60 → Q (-1000000005) S)) ∧ (¬ 1440 ≤ v4 → ∀ x_6 : Int32, x_6 = (v4 - v4 / 720 * 720) → ∀ x_7 : Int32, x_7 = ((x_6 + v2) - (x_6 + v2) / 720 * 720) → vp_in x_6 720 ∧ (vp_in x_7 720 ∧ ((¬ (S.1 24 (x_6.toNatClampNeg)) = (S.1 24 (x_7.toNatClampNeg)) → C0_telling_p70 Q K8 (fun v1_ v3_ v4_ S_ => C0_telling_L20 Q K8 v2 n v1_ v3_ v4_ S_) v1 v2 v4 x_6 x_7 0 S) ∧ ((S.1 24 (x_6.toNatClampNeg)) = (S.1 24 (x_7.toNatClampNeg)) → C0_telling_p70 Q K8 (fun v1_ v3_ v4_ S_ => C0_telling_L20 Q K8 v2 n v1_ v3_ v4_ S_) v1 v2 v4 x_6 x_7 (v3 + 1) S))))
def C0_telling_L8 (Q : Int32 → CS → Prop)   : Nat → Int32 → Int32 → CS → Prop
  | 0, _, _, _ => False
  | n + 1, v1, v2, S => (360 < v2 → Q (v1 + 1) S) ∧ (¬ 360 < v2 → ∃ k20, C0_telling_L20 Q (fun v1_ v2_ S_ => C0_telling_L8 Q n v1_ v2_ S_) v2 k20 v1 0 0 S)
def C0_telling  (S : CS) (Q : Int32 → CS → Prop) : Prop := C0_addsUpAll  S (fun S_2 => ∃ k8, C0_telling_L8 Q k8 0 1 S_2)
abbrev rmX0_telling : Room := { frames := 7, cells := 0, slots := 0, locals := 157 }
set_option maxHeartbeats 4000000 in
set_option maxRecDepth 100000 in
theorem wC0_telling_p93 {p : Program} {l : Launch} {e : Env} {s : State} {m : MethodId} {args : Array Value} {below : List Frame} {meth : Method} {c : Code} {D : va_G} {a : Nat → Nat} {d : Nat → ClassId} {A : Nat → Prop} {Q : Int32 → CS → Prop} {K8 : Int32 → Int32 → CS → Prop} {K20 : Int32 → Int32 → Int32 → CS → Prop} (F : FC p s m meth c args D a d A RX0 cX0_telling 7 (some .int)) (v2 : Int32) (v3 : Int32) (v4 : Int32) (t0 : Int32) (S : CS) (hK8 : ∀ (v1 : Int32) (v2 : Int32) (S : CS) (H : Heap) (locs : List Loc) (ls : Array Slot), GC D a d A s.heap S H locs → lv_has ls 7 [(0, .ref (a 0)), (1, .int v1), (2, .int v2)] → K8 v1 v2 S → wCi p l e rmX0_telling s m args below meth c D a d A Q 0 0 H locs 0 0 (F0 m 8 ls [])) (hK20 : ∀ (v1 : Int32) (v3 : Int32) (v4 : Int32) (S : CS) (H : Heap) (locs : List Loc) (ls : Array Slot), GC D a d A s.heap S H locs → lv_has ls 7 [(0, .ref (a 0)), (1, .int v1), (2, .int v2), (3, .int v3), (4, .int v4)] → K20 v1 v3 v4 S → wCi p l e rmX0_telling s m args below meth c D a d A Q 0 0 H locs 0 0 (F0 m 20 ls [])) {H : Heap} {locs : List Loc} {ls : Array Slot} (G : GC D a d A s.heap S H locs) (hl : lv_has ls 7 [(0, .ref (a 0)), (2, .int v2), (3, .int v3), (4, .int v4)]) (h : C0_telling_p93 Q K8 K20 v2 v3 v4 t0 S) : wCi p l e rmX0_telling s m args below meth c D a d A Q 0 0 H locs 0 0 (F0 m 93 ls [.int t0]) := by
  obtain ⟨hx, hb, hr, hml, hown, hts, hlocks, hA, hK, hN⟩ := id F
  unfold C0_telling_p93 at h
  refine lv_istore_n (lv' := [(1, .int t0), (0, .ref (a 0)), (2, .int v2), (3, .int v3), (4, .int v4)]) hx hb dX0_telling_93 rfl hl (by decide) rfl (fun ls hl => ?_)
  refine lv_iinc (v := (v4 + 1)) (lv' := [(4, .int (v4 + 1)), (1, .int t0), (0, .ref (a 0)), (2, .int v2), (3, .int v3)]) hx hb dX0_telling_94 hl (k := 4) rfl rfl (by decide) rfl (fun ls hl => ?_)
  refine lv_goto (tgt := 20) hx hb dX0_telling_97 (by decide) ?_
  exact hK20 t0 v3 (v4 + 1) S _ _ _ G (lv_sub hl [2, 1, 3, 4, 0] rfl) h
set_option maxHeartbeats 4000000 in
set_option maxRecDepth 100000 in
theorem wC0_telling_p70 {p : Program} {l : Launch} {e : Env} {s : State} {m : MethodId} {args : Array Value} {below : List Frame} {meth : Method} {c : Code} {D : va_G} {a : Nat → Nat} {d : Nat → ClassId} {A : Nat → Prop} {Q : Int32 → CS → Prop} {K8 : Int32 → Int32 → CS → Prop} {K20 : Int32 → Int32 → Int32 → CS → Prop} (F : FC p s m meth c args D a d A RX0 cX0_telling 7 (some .int)) (v1 : Int32) (v2 : Int32) (v4 : Int32) (v5 : Int32) (v6 : Int32) (t0 : Int32) (S : CS) (hK8 : ∀ (v1 : Int32) (v2 : Int32) (S : CS) (H : Heap) (locs : List Loc) (ls : Array Slot), GC D a d A s.heap S H locs → lv_has ls 7 [(0, .ref (a 0)), (1, .int v1), (2, .int v2)] → K8 v1 v2 S → wCi p l e rmX0_telling s m args below meth c D a d A Q 0 0 H locs 0 0 (F0 m 8 ls [])) (hK20 : ∀ (v1 : Int32) (v3 : Int32) (v4 : Int32) (S : CS) (H : Heap) (locs : List Loc) (ls : Array Slot), GC D a d A s.heap S H locs → lv_has ls 7 [(0, .ref (a 0)), (1, .int v1), (2, .int v2), (3, .int v3), (4, .int v4)] → K20 v1 v3 v4 S → wCi p l e rmX0_telling s m args below meth c D a d A Q 0 0 H locs 0 0 (F0 m 20 ls [])) {H : Heap} {locs : List Loc} {ls : Array Slot} (G : GC D a d A s.heap S H locs) (hl : lv_has ls 7 [(0, .ref (a 0)), (1, .int v1), (2, .int v2), (4, .int v4), (5, .int v5), (6, .int v6)]) (h : C0_telling_p70 Q K8 K20 v1 v2 v4 v5 v6 t0 S) : wCi p l e rmX0_telling s m args below meth c D a d A Q 0 0 H locs 0 0 (F0 m 70 ls [.int t0]) := by
  obtain ⟨hx, hb, hr, hml, hown, hts, hlocks, hA, hK, hN⟩ := id F
  unfold C0_telling_p70 at h
  refine lv_istore_n (lv' := [(3, .int t0), (0, .ref (a 0)), (1, .int v1), (2, .int v2), (4, .int v4), (5, .int v5), (6, .int v6)]) hx hb dX0_telling_70 rfl hl (by decide) rfl (fun ls hl => ?_)
  refine lv_iload hx hb dX0_telling_71 (lv_at hl 5 rfl) ?_
  refine lv_bipush (v := 60) hx hb dX0_telling_73 (by decide) ?_
  refine lv_idiv hx hb dX0_telling_75 (by decide) ?_
  refine lv_iload hx hb dX0_telling_76 (lv_at hl 6 rfl) ?_
  refine lv_bipush (v := 60) hx hb dX0_telling_78 (by decide) ?_
  refine lv_idiv hx hb dX0_telling_80 (by decide) ?_
  refine lv_icmp_eq (tgt := 92) hx hb dX0_telling_81 (by decide) (fun c_11 => ?_) (fun c_11 => ?_)
  · replace h := h.1 c_11
    refine lv_iload_n hx hb dX0_telling_92 rfl (lv_at hl 2 rfl) ?_
    exact wC0_telling_p93 F v2 t0 v4 v1 S hK8 hK20 G (lv_sub hl [1, 3, 0, 4] rfl) h
  · replace h := h.2 c_11
    refine lv_iload_n hx hb dX0_telling_84 rfl (lv_at hl 2 rfl) ?_
    refine lv_iload_n hx hb dX0_telling_85 rfl (lv_at hl 0 rfl) ?_
    refine kX0_CJ3_max F G hl.1 ⟨(Nat.le_of_ble_eq_true rfl), (Nat.le_of_ble_eq_true rfl)⟩ ⟨(Nat.le_of_ble_eq_true rfl), (Nat.le_of_ble_eq_true rfl)⟩ (Nat.le_of_ble_eq_true rfl) dX0_telling_86 h (fun r_12 S_13 H locs G h => ?_)
    refine lv_goto (tgt := 93) hx hb dX0_telling_89 (by decide) ?_
    exact wC0_telling_p93 F v2 t0 v4 r_12 S_13 hK8 hK20 G (lv_sub hl [1, 3, 0, 4] rfl) h
set_option maxHeartbeats 4000000 in
set_option maxRecDepth 100000 in
theorem wC0_telling_L20 {p : Program} {l : Launch} {e : Env} {s : State} {m : MethodId} {args : Array Value} {below : List Frame} {meth : Method} {c : Code} {D : va_G} {a : Nat → Nat} {d : Nat → ClassId} {A : Nat → Prop} {Q : Int32 → CS → Prop} {K8 : Int32 → Int32 → CS → Prop} (F : FC p s m meth c args D a d A RX0 cX0_telling 7 (some .int)) (v2 : Int32) (hK8 : ∀ (v1 : Int32) (v2 : Int32) (S : CS) (H : Heap) (locs : List Loc) (ls : Array Slot), GC D a d A s.heap S H locs → lv_has ls 7 [(0, .ref (a 0)), (1, .int v1), (2, .int v2)] → K8 v1 v2 S → wCi p l e rmX0_telling s m args below meth c D a d A Q 0 0 H locs 0 0 (F0 m 8 ls [])) :
    ∀ (n : Nat) (v1 : Int32) (v3 : Int32) (v4 : Int32) (S : CS) (H : Heap) (locs : List Loc) (ls : Array Slot), GC D a d A s.heap S H locs → lv_has ls 7 [(0, .ref (a 0)), (1, .int v1), (2, .int v2), (3, .int v3), (4, .int v4)] → C0_telling_L20 Q K8 v2 n v1 v3 v4 S → wCi p l e rmX0_telling s m args below meth c D a d A Q 0 0 H locs 0 0 (F0 m 20 ls []) := by
  obtain ⟨hx, hb, hr, hml, hown, hts, hlocks, hA, hK, hN⟩ := id F
  intro n
  induction n with
  | zero => intro v1 v3 v4 S H locs ls G hl h; exact absurd h (fun q => q)
  | succ n ih =>
    intro v1 v3 v4 S H locs ls G hl h
    unfold C0_telling_L20 at h
    refine lv_iload hx hb dX0_telling_20 (lv_at hl 4 rfl) ?_
    refine lv_sipush (v := 1440) hx hb dX0_telling_22 (by decide) ?_
    refine lv_icmp_ge (tgt := 100) hx hb dX0_telling_25 (by decide) (fun c_4 => ?_) (fun c_4 => ?_)
    · replace h := h.1 c_4
      refine lv_iload_n hx hb dX0_telling_100 rfl (lv_at hl 1 rfl) ?_
      refine lv_bipush (v := 60) hx hb dX0_telling_101 (by decide) ?_
      refine lv_icmp_lt (tgt := 109) hx hb dX0_telling_103 (by decide) (fun c_5 => ?_) (fun c_5 => ?_)
      · replace h := h.1 c_5
        refine lv_iinc (v := (v2 + 1)) (lv' := [(2, .int (v2 + 1)), (0, .ref (a 0)), (1, .int v1), (3, .int v3), (4, .int v4)]) hx hb dX0_telling_109 hl (k := 2) rfl rfl (by decide) rfl (fun ls hl => ?_)
        refine lv_goto (tgt := 8) hx hb dX0_telling_112 (by decide) ?_
        exact hK8 v1 (v2 + 1) S _ _ _ G (lv_sub hl [1, 2, 0] rfl) h
      · replace h := h.2 c_5
        refine lv_ldc hx hb hown (hts _ q547) dX0_telling_106 ?_
        exact c_iret F G dX0_telling_108 h
    · replace h := h.2 c_4
      refine lv_iload hx hb dX0_telling_28 (lv_at hl 4 rfl) ?_
      refine lv_sipush (v := 720) hx hb dX0_telling_30 (by decide) ?_
      refine lv_irem hx hb dX0_telling_33 (by decide) ?_
      refine lv_topi (fun x_6 ex_6 => ?_)
      replace h := h x_6 ex_6
      refine lv_istore (lv' := [(5, .int x_6), (0, .ref (a 0)), (1, .int v1), (2, .int v2), (3, .int v3), (4, .int v4)]) hx hb dX0_telling_34 hl (by decide) rfl (fun ls hl => ?_)
      refine lv_iload hx hb dX0_telling_36 (lv_at hl 0 rfl) ?_
      refine lv_iload_n hx hb dX0_telling_38 rfl (lv_at hl 3 rfl) ?_
      refine lv_iadd hx hb dX0_telling_39 ?_
      refine lv_sipush (v := 720) hx hb dX0_telling_40 (by decide) ?_
      refine lv_irem hx hb dX0_telling_43 (by decide) ?_
      refine lv_topi (fun x_7 ex_7 => ?_)
      replace h := h x_7 ex_7
      refine lv_istore (lv' := [(6, .int x_7), (5, .int x_6), (0, .ref (a 0)), (1, .int v1), (2, .int v2), (3, .int v3), (4, .int v4)]) hx hb dX0_telling_44 hl (by decide) rfl (fun ls hl => ?_)
      refine lv_aload_n hx hb dX0_telling_46 rfl (lv_at hl 2 rfl) ?_
      refine cgX0_0_totals F G dX0_telling_47 ?_
      refine lv_iload hx hb dX0_telling_50 (lv_at hl 1 rfl) ?_
      obtain ⟨b_8, h⟩ := h
      refine c_iaload F G cI_24 b_8 dX0_telling_52 ?_
      refine lv_aload_n hx hb dX0_telling_53 rfl (lv_at hl 2 rfl) ?_
      refine cgX0_0_totals F G dX0_telling_54 ?_
      refine lv_iload hx hb dX0_telling_57 (lv_at hl 0 rfl) ?_
      obtain ⟨b_9, h⟩ := h
      refine c_iaload F G cI_24 b_9 dX0_telling_59 ?_
      refine lv_icmp_ne (tgt := 69) hx hb dX0_telling_60 (by decide) (fun c_10 => ?_) (fun c_10 => ?_)
      · replace h := h.1 c_10
        refine lv_iconst (v := 0) hx hb dX0_telling_69 (by decide) ?_
        exact wC0_telling_p70 F v1 v2 v4 x_6 x_7 0 S hK8 ih G (lv_sub hl [2, 3, 4, 6, 1, 0] rfl) h
      · replace h := h.2 c_10
        refine lv_iload_n hx hb dX0_telling_63 rfl (lv_at hl 5 rfl) ?_
        refine lv_iconst (v := 1) hx hb dX0_telling_64 (by decide) ?_
        refine lv_iadd hx hb dX0_telling_65 ?_
        refine lv_goto (tgt := 70) hx hb dX0_telling_66 (by decide) ?_
        exact wC0_telling_p70 F v1 v2 v4 x_6 x_7 (v3 + 1) S hK8 ih G (lv_sub hl [2, 3, 4, 6, 1, 0] rfl) h
set_option maxHeartbeats 4000000 in
set_option maxRecDepth 100000 in
theorem wC0_telling_L8 {p : Program} {l : Launch} {e : Env} {s : State} {m : MethodId} {args : Array Value} {below : List Frame} {meth : Method} {c : Code} {D : va_G} {a : Nat → Nat} {d : Nat → ClassId} {A : Nat → Prop} {Q : Int32 → CS → Prop}  (F : FC p s m meth c args D a d A RX0 cX0_telling 7 (some .int))   :
    ∀ (n : Nat) (v1 : Int32) (v2 : Int32) (S : CS) (H : Heap) (locs : List Loc) (ls : Array Slot), GC D a d A s.heap S H locs → lv_has ls 7 [(0, .ref (a 0)), (1, .int v1), (2, .int v2)] → C0_telling_L8 Q n v1 v2 S → wCi p l e rmX0_telling s m args below meth c D a d A Q 0 0 H locs 0 0 (F0 m 8 ls []) := by
  obtain ⟨hx, hb, hr, hml, hown, hts, hlocks, hA, hK, hN⟩ := id F
  intro n
  induction n with
  | zero => intro v1 v2 S H locs ls G hl h; exact absurd h (fun q => q)
  | succ n ih =>
    intro v1 v2 S H locs ls G hl h
    unfold C0_telling_L8 at h
    refine lv_iload_n hx hb dX0_telling_8 rfl (lv_at hl 2 rfl) ?_
    refine lv_sipush (v := 360) hx hb dX0_telling_9 (by decide) ?_
    refine lv_icmp_gt (tgt := 115) hx hb dX0_telling_12 (by decide) (fun c_3 => ?_) (fun c_3 => ?_)
    · replace h := h.1 c_3
      refine lv_iload_n hx hb dX0_telling_115 rfl (lv_at hl 1 rfl) ?_
      refine lv_iconst (v := 1) hx hb dX0_telling_116 (by decide) ?_
      refine lv_iadd hx hb dX0_telling_117 ?_
      exact c_iret F G dX0_telling_118 h
    · replace h := h.2 c_3
      refine lv_iconst (v := 0) hx hb dX0_telling_15 (by decide) ?_
      refine lv_istore_n (lv' := [(3, .int 0), (0, .ref (a 0)), (1, .int v1), (2, .int v2)]) hx hb dX0_telling_16 rfl hl (by decide) rfl (fun ls hl => ?_)
      refine lv_iconst (v := 0) hx hb dX0_telling_17 (by decide) ?_
      refine lv_istore (lv' := [(4, .int 0), (3, .int 0), (0, .ref (a 0)), (1, .int v1), (2, .int v2)]) hx hb dX0_telling_18 hl (by decide) rfl (fun ls hl => ?_)
      obtain ⟨k20, h⟩ := h
      exact wC0_telling_L20 F v2 ih k20 v1 0 0 S _ _ _ G (lv_sub hl [2, 3, 4, 1, 0] rfl) h
set_option maxHeartbeats 4000000 in
set_option maxRecDepth 100000 in
theorem wC0_telling {l : Launch} {D : va_G} {a : Nat → Nat} {d : Nat → ClassId} (sz : Nat)  (S : CS) (Q : Int32 → CS → Prop) (h : C0_telling  S Q) : CMi l D a d yX0_telling cX0_telling 7 .int rmX0_telling 0 0 [.ref (a 0)] sz S Q := by
  refine c_enter (Qc := fun A => va_Qi Q (BC D a d A) A) RX0 (by decide +kernel) rfl (Nat.le_of_ble_eq_true rfl) ?_
  intro p e s m below meth c ls A hmn F hG hl
  have G := hG
  have hl : lv_has ls 7 [(0, .ref (a 0))] := hl
  obtain ⟨hx, hb, hr, hml, hown, hts, hlocks, hA, hK, hN⟩ := id F
  unfold C0_telling at h
  refine lv_aload_n hx hb dX0_telling_0 rfl (lv_at hl 0 rfl) ?_
  refine kX0_C0_addsUpAll F G hl.1 ⟨(Nat.le_of_ble_eq_true rfl), (Nat.le_of_ble_eq_true rfl)⟩ ⟨(Nat.le_of_ble_eq_true rfl), (Nat.le_of_ble_eq_true rfl)⟩ (Nat.le_of_ble_eq_true rfl) dX0_telling_1 h (fun S_2 H locs G h => ?_)
  refine lv_iconst (v := 0) hx hb dX0_telling_4 (by decide) ?_
  refine lv_istore_n (lv' := [(1, .int 0), (0, .ref (a 0))]) hx hb dX0_telling_5 rfl hl (by decide) rfl (fun ls hl => ?_)
  refine lv_iconst (v := 1) hx hb dX0_telling_6 (by decide) ?_
  refine lv_istore_n (lv' := [(2, .int 1), (1, .int 0), (0, .ref (a 0))]) hx hb dX0_telling_7 rfl hl (by decide) rfl (fun ls hl => ?_)
  obtain ⟨k8, h⟩ := h
  exact wC0_telling_L8 F   k8 0 1 S_2 _ _ _ G (lv_sub hl [2, 1, 0] rfl) h
/-! StrokesHeard.copyRow -/
def C0_copyRow_9_12  (S : CS) (Q : CS → Prop) : Prop := ¬ (0 : Int32) < 0 ∧ ¬ (0 : Int32) < 0 ∧ ¬ (2 : Int32) < 0 ∧ (0 : Int32).toNatClampNeg + (2 : Int32).toNatClampNeg ≤ 2 ∧ (0 : Int32).toNatClampNeg + (2 : Int32).toNatClampNeg ≤ 2 ∧ (Q (u2 S.1 12 (va_cpy (S.1 9) (S.1 12) ((0 : Int32).toNatClampNeg) ((0 : Int32).toNatClampNeg) ((2 : Int32).toNatClampNeg)), S.2))
abbrev rmX0_copyRow_9_12 : Room := { frames := 1, cells := 0, slots := 0, locals := 40 }
set_option maxHeartbeats 4000000 in
set_option maxRecDepth 100000 in
theorem wC0_copyRow_9_12 {l : Launch} {D : va_G} {a : Nat → Nat} {d : Nat → ClassId} (sz : Nat)  (S : CS) (Q : CS → Prop) (h : C0_copyRow_9_12  S Q) : CMv l D a d yX0_copyRow cX0_copyRow 2 rmX0_copyRow_9_12 0 0 [.ref (a 9), .ref (a 12)] sz S Q := by
  refine c_enter (Qc := fun A => va_Qv Q (BC D a d A) A) RX0 (by decide +kernel) rfl (Nat.le_of_ble_eq_true rfl) ?_
  intro p e s m below meth c ls A hmn F hG hl
  have G := hG
  have hl : lv_has ls 2 [(0, .ref (a 9)), (1, .ref (a 12))] := hl
  obtain ⟨hx, hb, hr, hml, hown, hts, hlocks, hA, hK, hN⟩ := id F
  unfold C0_copyRow_9_12 at h
  refine lv_aload_n hx hb dX0_copyRow_0 rfl (lv_at hl 0 rfl) ?_
  refine lv_iconst (v := 0) hx hb dX0_copyRow_1 (by decide) ?_
  refine lv_aload_n hx hb dX0_copyRow_2 rfl (lv_at hl 1 rfl) ?_
  refine lv_iconst (v := 0) hx hb dX0_copyRow_3 (by decide) ?_
  refine lv_aload_n hx hb dX0_copyRow_4 rfl (lv_at hl 1 rfl) ?_
  refine c_len (v := 2) F G cI_12 ⟨_, rfl⟩ (by decide) dX0_copyRow_5 ?_
  obtain ⟨b_1, b_2, b_3, b_4, b_5, h⟩ := h
  refine c_copy_i_X0 F G cI_9 cI_12 hl.1 b_1 b_2 b_3 b_4 b_5 (Nat.le_of_ble_eq_true rfl) (by decide) dX0_copyRow_6 (fun H locs G => ?_)
  exact c_vret F G dX0_copyRow_9 h
set_option maxHeartbeats 4000000 in
set_option maxRecDepth 100000 in
theorem kX1_C0_copyRow_9_12 {p : Program} {l : Launch} {e : Env} {s : State} {m : MethodId} {R : Room} {args : Array Value} {below : List Frame} {meth : Method} {c : Code} {D : va_G} {a : Nat → Nat} {d : Nat → ClassId} {A : Nat → Prop} {Q : State → Prop} {cc : ByteArray} {nL pc cells slots : Nat} {ret : Option FieldType} {ls : Array Slot} {rest : List Value}  {S : CS} {H : Heap} {locs : List Loc} {Q1 : CS → Prop} (F : FC p s m meth c args D a d A RX1 cc nL ret) (G : GC D a d A s.heap S H locs) (hsz : ls.size = nL) (hR : rmX0_copyRow_9_12.frames + 1 ≤ R.frames ∧ 8 + (2 + 11) + rmX0_copyRow_9_12.locals ≤ R.locals) (hc : cells + 0 ≤ R.cells ∧ slots + 0 ≤ R.slots) (hW : (rest.map fun v => v.category).sum ≤ 8) (hd : decode cc pc = .ok (.invokestatic 49, 3)) (h : C0_copyRow_9_12  S Q1) (k : ∀ (S1 : CS) (H : Heap) (locs : List Loc), GC D a d A s.heap S1 H locs → Q1 S1 → W p l e R s m args below meth c H locs cells slots Q (F0 m (pc + 3) ls rest)) : W p l e R s m args below meth c H locs cells slots Q (F0 m pc ls (.ref (a 12) :: .ref (a 9) :: rest)) := by
  obtain ⟨hx, hb, hr, hml, hown, hts, hlocks, hA, hK, hN⟩ := id F
  exact c_callv F G (va_runSN (As := [.ref (a 9), .ref (a 12)]) (rest := rest) ⟨hx, hb, hml, hown, hts⟩ (wC0_copyRow_9_12 H.size  S Q1 h) ⟨va_cnB 2 hts (lw_meth q967) rfl rfl rfl (hN.1 _ (List.mem_of_getElem? (i := 33) rfl)) (hts _ q82) (by decide +kernel) hR, hts _ q966, trivial⟩ ⟨PC_blind, c_pre F G⟩ rfl rfl hsz rfl (lv_room hW) hd hc) k
/-! StrokesHeard.copyRow -/
def C0_copyRow_13_16  (S : CS) (Q : CS → Prop) : Prop := ¬ (0 : Int32) < 0 ∧ ¬ (0 : Int32) < 0 ∧ ¬ (12 : Int32) < 0 ∧ (0 : Int32).toNatClampNeg + (12 : Int32).toNatClampNeg ≤ 12 ∧ (0 : Int32).toNatClampNeg + (12 : Int32).toNatClampNeg ≤ 12 ∧ (Q (u2 S.1 16 (va_cpy (S.1 13) (S.1 16) ((0 : Int32).toNatClampNeg) ((0 : Int32).toNatClampNeg) ((12 : Int32).toNatClampNeg)), S.2))
abbrev rmX0_copyRow_13_16 : Room := { frames := 1, cells := 0, slots := 0, locals := 40 }
set_option maxHeartbeats 4000000 in
set_option maxRecDepth 100000 in
theorem wC0_copyRow_13_16 {l : Launch} {D : va_G} {a : Nat → Nat} {d : Nat → ClassId} (sz : Nat)  (S : CS) (Q : CS → Prop) (h : C0_copyRow_13_16  S Q) : CMv l D a d yX0_copyRow cX0_copyRow 2 rmX0_copyRow_13_16 0 0 [.ref (a 13), .ref (a 16)] sz S Q := by
  refine c_enter (Qc := fun A => va_Qv Q (BC D a d A) A) RX0 (by decide +kernel) rfl (Nat.le_of_ble_eq_true rfl) ?_
  intro p e s m below meth c ls A hmn F hG hl
  have G := hG
  have hl : lv_has ls 2 [(0, .ref (a 13)), (1, .ref (a 16))] := hl
  obtain ⟨hx, hb, hr, hml, hown, hts, hlocks, hA, hK, hN⟩ := id F
  unfold C0_copyRow_13_16 at h
  refine lv_aload_n hx hb dX0_copyRow_0 rfl (lv_at hl 0 rfl) ?_
  refine lv_iconst (v := 0) hx hb dX0_copyRow_1 (by decide) ?_
  refine lv_aload_n hx hb dX0_copyRow_2 rfl (lv_at hl 1 rfl) ?_
  refine lv_iconst (v := 0) hx hb dX0_copyRow_3 (by decide) ?_
  refine lv_aload_n hx hb dX0_copyRow_4 rfl (lv_at hl 1 rfl) ?_
  refine c_len (v := 12) F G cI_16 ⟨_, rfl⟩ (by decide) dX0_copyRow_5 ?_
  obtain ⟨b_1, b_2, b_3, b_4, b_5, h⟩ := h
  refine c_copy_i_X0 F G cI_13 cI_16 hl.1 b_1 b_2 b_3 b_4 b_5 (Nat.le_of_ble_eq_true rfl) (by decide) dX0_copyRow_6 (fun H locs G => ?_)
  exact c_vret F G dX0_copyRow_9 h
set_option maxHeartbeats 4000000 in
set_option maxRecDepth 100000 in
theorem kX1_C0_copyRow_13_16 {p : Program} {l : Launch} {e : Env} {s : State} {m : MethodId} {R : Room} {args : Array Value} {below : List Frame} {meth : Method} {c : Code} {D : va_G} {a : Nat → Nat} {d : Nat → ClassId} {A : Nat → Prop} {Q : State → Prop} {cc : ByteArray} {nL pc cells slots : Nat} {ret : Option FieldType} {ls : Array Slot} {rest : List Value}  {S : CS} {H : Heap} {locs : List Loc} {Q1 : CS → Prop} (F : FC p s m meth c args D a d A RX1 cc nL ret) (G : GC D a d A s.heap S H locs) (hsz : ls.size = nL) (hR : rmX0_copyRow_13_16.frames + 1 ≤ R.frames ∧ 8 + (2 + 11) + rmX0_copyRow_13_16.locals ≤ R.locals) (hc : cells + 0 ≤ R.cells ∧ slots + 0 ≤ R.slots) (hW : (rest.map fun v => v.category).sum ≤ 8) (hd : decode cc pc = .ok (.invokestatic 49, 3)) (h : C0_copyRow_13_16  S Q1) (k : ∀ (S1 : CS) (H : Heap) (locs : List Loc), GC D a d A s.heap S1 H locs → Q1 S1 → W p l e R s m args below meth c H locs cells slots Q (F0 m (pc + 3) ls rest)) : W p l e R s m args below meth c H locs cells slots Q (F0 m pc ls (.ref (a 16) :: .ref (a 13) :: rest)) := by
  obtain ⟨hx, hb, hr, hml, hown, hts, hlocks, hA, hK, hN⟩ := id F
  exact c_callv F G (va_runSN (As := [.ref (a 13), .ref (a 16)]) (rest := rest) ⟨hx, hb, hml, hown, hts⟩ (wC0_copyRow_13_16 H.size  S Q1 h) ⟨va_cnB 2 hts (lw_meth q967) rfl rfl rfl (hN.1 _ (List.mem_of_getElem? (i := 33) rfl)) (hts _ q82) (by decide +kernel) hR, hts _ q966, trivial⟩ ⟨PC_blind, c_pre F G⟩ rfl rfl hsz rfl (lv_room hW) hd hc) k
set_option maxHeartbeats 4000000 in
set_option maxRecDepth 100000 in
theorem kvX1_kind {p : Program} {l : Launch} {e : Env} {s : State} {m : MethodId} {R : Room} {args : Array Value} {below : List Frame} {meth : Method} {c : Code} {D : va_G} {a : Nat → Nat} {d : Nat → ClassId} {A : Nat → Prop} {Q : State → Prop} {cc : ByteArray} {nL pc cells slots κ : Nat} {fs0 : List Value} {ret : Option FieldType} {ls : Array Slot} {rest : List Value} {y0 : Nat} {S : CS} {H : Heap} {locs : List Loc} {Q1 : Int32 → CS → Prop} (F : FC p s m meth c args D a d A RX1 cc nL ret) (G : GC D a d A s.heap S H locs) (hκ : κ < 6) (hy : has S y0 (.inr (6 + κ, fs0))) (hsz : ls.size = nL) (hR : 1 + 1 ≤ R.frames ∧ 40 ≤ R.locals) (hc : cells + 0 ≤ R.cells ∧ slots + 0 ≤ R.slots) (hW : (rest.map fun v => v.category).sum ≤ 8) (hd : decode cc pc = .ok (.invokevirtual 37, 3)) (h : CV_kind κ y0 S Q1) (k : ∀ (r : Int32) (S1 : CS) (H : Heap) (locs : List Loc), GC D a d A s.heap S1 H locs → Q1 r S1 → W p l e R s m args below meth c H locs cells slots Q (F0 m (pc + 3) ls (.int r :: rest))) : W p l e R s m args below meth c H locs cells slots Q (F0 m pc ls (.ref y0 :: rest)) := by
  obtain ⟨hx, hb, hr, hml, hown, hts, hlocks, hA, hK, hN⟩ := id F
  obtain rfl | rfl | rfl | rfl | rfl | rfl : κ = 0 ∨ κ = 1 ∨ κ = 2 ∨ κ = 3 ∨ κ = 4 ∨ κ = 5 := by omega
  · exact c_calli F G (va_runU (As := []) (rest := rest) ⟨hx, hb, hml, hown, hts⟩ (wC6_kind H.size y0 S Q1 h) (va_cwO (C := RX6) (owner := RX6) 0 hts (lw_O q931 q633 q631 q632 q631 q91 q651) rfl rfl rfl q651 (by decide +kernel) ⟨Nat.le_trans (Nat.le_of_ble_eq_true rfl) hR.1, Nat.le_trans (Nat.le_of_ble_eq_true rfl) hR.2⟩) ⟨PC_blind, p_recv_X6 F G hy, c_pre F G⟩ rfl rfl hsz rfl (lv_room hW) hd hc) k
  · exact c_calli F G (va_runU (As := []) (rest := rest) ⟨hx, hb, hml, hown, hts⟩ (wC7_kind H.size y0 S Q1 h) (va_cwO (C := RX7) (owner := RX6) 0 hts (lw_O q931 q633 q631 q637 q638 q92 q639) rfl rfl rfl q651 (by decide +kernel) ⟨Nat.le_trans (Nat.le_of_ble_eq_true rfl) hR.1, Nat.le_trans (Nat.le_of_ble_eq_true rfl) hR.2⟩) ⟨PC_blind, p_recv_X7 F G hy, c_pre F G⟩ rfl rfl hsz rfl (lv_room hW) hd hc) k
  · exact c_calli F G (va_runU (As := []) (rest := rest) ⟨hx, hb, hml, hown, hts⟩ (wC8_kind H.size y0 S Q1 h) (va_cwO (C := RX8) (owner := RX6) 0 hts (lw_O q931 q633 q631 q650 q644 q93 q645) rfl rfl rfl q651 (by decide +kernel) ⟨Nat.le_trans (Nat.le_of_ble_eq_true rfl) hR.1, Nat.le_trans (Nat.le_of_ble_eq_true rfl) hR.2⟩) ⟨PC_blind, p_recv_X8 F G hy, c_pre F G⟩ rfl rfl hsz rfl (lv_room hW) hd hc) k
  · exact c_calli F G (va_runU (As := []) (rest := rest) ⟨hx, hb, hml, hown, hts⟩ (wC9_kind H.size y0 S Q1 h) (va_cwO (C := RX9) (owner := RX6) 0 hts (lw_O q931 q633 q631 q646 q647 q94 q648) rfl rfl rfl q651 (by decide +kernel) ⟨Nat.le_trans (Nat.le_of_ble_eq_true rfl) hR.1, Nat.le_trans (Nat.le_of_ble_eq_true rfl) hR.2⟩) ⟨PC_blind, p_recv_X9 F G hy, c_pre F G⟩ rfl rfl hsz rfl (lv_room hW) hd hc) k
  · exact c_calli F G (va_runU (As := []) (rest := rest) ⟨hx, hb, hml, hown, hts⟩ (wC10_kind H.size y0 S Q1 h) (va_cwO (C := RX10) (owner := RX6) 0 hts (lw_O q931 q633 q631 q640 q641 q95 q642) rfl rfl rfl q651 (by decide +kernel) ⟨Nat.le_trans (Nat.le_of_ble_eq_true rfl) hR.1, Nat.le_trans (Nat.le_of_ble_eq_true rfl) hR.2⟩) ⟨PC_blind, p_recv_X10 F G hy, c_pre F G⟩ rfl rfl hsz rfl (lv_room hW) hd hc) k
  · exact c_calli F G (va_runU (As := []) (rest := rest) ⟨hx, hb, hml, hown, hts⟩ (wC11_kind H.size y0 S Q1 h) (va_cwO (C := RX11) (owner := RX6) 0 hts (lw_O q931 q633 q631 q634 q635 q96 q636) rfl rfl rfl q651 (by decide +kernel) ⟨Nat.le_trans (Nat.le_of_ble_eq_true rfl) hR.1, Nat.le_trans (Nat.le_of_ble_eq_true rfl) hR.2⟩) ⟨PC_blind, p_recv_X11 F G hy, c_pre F G⟩ rfl rfl hsz rfl (lv_room hW) hd hc) k
set_option maxHeartbeats 4000000 in
set_option maxRecDepth 100000 in
theorem kX6_C6_init {p : Program} {l : Launch} {e : Env} {s : State} {m : MethodId} {R : Room} {args : Array Value} {below : List Frame} {meth : Method} {c : Code} {D : va_G} {a : Nat → Nat} {d : Nat → ClassId} {A : Nat → Prop} {Q : State → Prop} {cc : ByteArray} {nL pc cells slots : Nat} {ret : Option FieldType} {ls : Array Slot} {rest : List Value} {y0 : Nat} {S : CS} {H : Heap} {locs : List Loc} {Q1 : CS → Prop} (F : FC p s m meth c args D a d A RX6 cc nL ret) (G : GC D a d A s.heap S H locs) (hsz : ls.size = nL) (hR : rmX6_init.frames + 1 ≤ R.frames ∧ 8 + (1 + 11) + rmX6_init.locals ≤ R.locals) (hc : cells + 0 ≤ R.cells ∧ slots + 0 ≤ R.slots) (hW : (rest.map fun v => v.category).sum ≤ 8) (hd : decode cc pc = .ok (.invokespecial 23, 3)) (h : C6_init y0 S Q1) (k : ∀ (S1 : CS) (H : Heap) (locs : List Loc), GC D a d A s.heap S1 H locs → Q1 S1 → W p l e R s m args below meth c H locs cells slots Q (F0 m (pc + 3) ls rest)) : W p l e R s m args below meth c H locs cells slots Q (F0 m pc ls (.ref y0 :: rest)) := by
  obtain ⟨hx, hb, hr, hml, hown, hts, hlocks, hA, hK, hN⟩ := id F
  exact c_callv F G (va_runI (As := []) (rest := rest) ⟨hx, hb, hml, hown, hts⟩ (wC6_init H.size y0 S Q1 h) (cwI 0 hts (lw_meth q569) rfl rfl rfl (hts _ q91) (hts _ q963) (hts _ q568) rfl (by decide +kernel) hR) ⟨PC_blind, c_pre F G⟩ rfl rfl hsz rfl (lv_room hW) hd hc) k
/-! StrokesHeard$Ringer.another -/
def C6_another (y0 : Nat) (S : CS) (Q : Nat → CS → Prop) : Prop := ∀ y_1 : Nat, y_1 ∉ S.2.2.1 → C6_init y_1 (cN S y_1 (.inr (6, [.int 0, .int 0]))) (fun S_4 => Q y_1 S_4)
abbrev rmX6_another : Room := { frames := 2, cells := 1, slots := 2, locals := 40 }
set_option maxHeartbeats 4000000 in
set_option maxRecDepth 100000 in
theorem wC6_another {l : Launch} {D : va_G} {a : Nat → Nat} {d : Nat → ClassId} (sz : Nat) (y0 : Nat) (S : CS) (Q : Nat → CS → Prop) (h : C6_another y0 S Q) : CMr l D a d yX6_another cX6_another 1 (.object "StrokesHeard$Ringer") rmX6_another 1 2 [.ref y0] sz S Q := by
  refine c_enter (Qc := fun A => QRy Q (BC D a d A) A) RX6 (by decide +kernel) rfl (Nat.le_of_ble_eq_true rfl) ?_
  intro p e s m below meth c ls A hmn F hG hl
  have G := hG
  have hl : lv_has ls 1 [(0, .ref y0)] := hl
  obtain ⟨hx, hb, hr, hml, hown, hts, hlocks, hA, hK, hN⟩ := id F
  unfold C6_another at h
  refine pnX6_X6 F G ⟨(Nat.le_of_ble_eq_true rfl), (Nat.le_of_ble_eq_true rfl)⟩ dX6_another_0 (fun y_1 H q_2 G => ?_)
  replace h := h y_1 q_2
  refine lv_dup hx hb dX6_another_3 rfl ?_
  refine kX6_C6_init F G hl.1 ⟨(Nat.le_of_ble_eq_true rfl), (Nat.le_of_ble_eq_true rfl)⟩ ⟨(Nat.le_of_ble_eq_true rfl), (Nat.le_of_ble_eq_true rfl)⟩ (Nat.le_of_ble_eq_true rfl) dX6_another_4 h (fun S_4 H locs G h => ?_)
  exact c_aret F G dX6_another_7 h
set_option maxHeartbeats 4000000 in
set_option maxRecDepth 100000 in
theorem kX7_C7_init {p : Program} {l : Launch} {e : Env} {s : State} {m : MethodId} {R : Room} {args : Array Value} {below : List Frame} {meth : Method} {c : Code} {D : va_G} {a : Nat → Nat} {d : Nat → ClassId} {A : Nat → Prop} {Q : State → Prop} {cc : ByteArray} {nL pc cells slots : Nat} {ret : Option FieldType} {ls : Array Slot} {rest : List Value} {y0 : Nat} {S : CS} {H : Heap} {locs : List Loc} {Q1 : CS → Prop} (F : FC p s m meth c args D a d A RX7 cc nL ret) (G : GC D a d A s.heap S H locs) (hsz : ls.size = nL) (hR : rmX7_init.frames + 1 ≤ R.frames ∧ 8 + (1 + 11) + rmX7_init.locals ≤ R.locals) (hc : cells + 0 ≤ R.cells ∧ slots + 0 ≤ R.slots) (hW : (rest.map fun v => v.category).sum ≤ 8) (hd : decode cc pc = .ok (.invokespecial 19, 3)) (h : C7_init y0 S Q1) (k : ∀ (S1 : CS) (H : Heap) (locs : List Loc), GC D a d A s.heap S1 H locs → Q1 S1 → W p l e R s m args below meth c H locs cells slots Q (F0 m (pc + 3) ls rest)) : W p l e R s m args below meth c H locs cells slots Q (F0 m pc ls (.ref y0 :: rest)) := by
  obtain ⟨hx, hb, hr, hml, hown, hts, hlocks, hA, hK, hN⟩ := id F
  exact c_callv F G (va_runI (As := []) (rest := rest) ⟨hx, hb, hml, hown, hts⟩ (wC7_init H.size y0 S Q1 h) (cwI 0 hts (lw_meth q566) rfl rfl rfl (hts _ q92) (hts _ q945) (hts _ q565) rfl (by decide +kernel) hR) ⟨PC_blind, c_pre F G⟩ rfl rfl hsz rfl (lv_room hW) hd hc) k
/-! StrokesHeard$Quarters.another -/
def C7_another (y0 : Nat) (S : CS) (Q : Nat → CS → Prop) : Prop := ∀ y_1 : Nat, y_1 ∉ S.2.2.1 → C7_init y_1 (cN S y_1 (.inr (7, [.int 0, .int 0]))) (fun S_4 => Q y_1 S_4)
abbrev rmX7_another : Room := { frames := 3, cells := 1, slots := 2, locals := 60 }
set_option maxHeartbeats 4000000 in
set_option maxRecDepth 100000 in
theorem wC7_another {l : Launch} {D : va_G} {a : Nat → Nat} {d : Nat → ClassId} (sz : Nat) (y0 : Nat) (S : CS) (Q : Nat → CS → Prop) (h : C7_another y0 S Q) : CMr l D a d yX7_another cX7_another 1 (.object "StrokesHeard$Ringer") rmX7_another 1 2 [.ref y0] sz S Q := by
  refine c_enter (Qc := fun A => QRy Q (BC D a d A) A) RX7 (by decide +kernel) rfl (Nat.le_of_ble_eq_true rfl) ?_
  intro p e s m below meth c ls A hmn F hG hl
  have G := hG
  have hl : lv_has ls 1 [(0, .ref y0)] := hl
  obtain ⟨hx, hb, hr, hml, hown, hts, hlocks, hA, hK, hN⟩ := id F
  unfold C7_another at h
  refine pnX7_X7 F G ⟨(Nat.le_of_ble_eq_true rfl), (Nat.le_of_ble_eq_true rfl)⟩ dX7_another_0 (fun y_1 H q_2 G => ?_)
  replace h := h y_1 q_2
  refine lv_dup hx hb dX7_another_3 rfl ?_
  refine kX7_C7_init F G hl.1 ⟨(Nat.le_of_ble_eq_true rfl), (Nat.le_of_ble_eq_true rfl)⟩ ⟨(Nat.le_of_ble_eq_true rfl), (Nat.le_of_ble_eq_true rfl)⟩ (Nat.le_of_ble_eq_true rfl) dX7_another_4 h (fun S_4 H locs G h => ?_)
  exact c_aret F G dX7_another_7 h
set_option maxHeartbeats 4000000 in
set_option maxRecDepth 100000 in
theorem kX8_C8_init {p : Program} {l : Launch} {e : Env} {s : State} {m : MethodId} {R : Room} {args : Array Value} {below : List Frame} {meth : Method} {c : Code} {D : va_G} {a : Nat → Nat} {d : Nat → ClassId} {A : Nat → Prop} {Q : State → Prop} {cc : ByteArray} {nL pc cells slots : Nat} {ret : Option FieldType} {ls : Array Slot} {rest : List Value} {y0 : Nat} {S : CS} {H : Heap} {locs : List Loc} {Q1 : CS → Prop} (F : FC p s m meth c args D a d A RX8 cc nL ret) (G : GC D a d A s.heap S H locs) (hsz : ls.size = nL) (hR : rmX8_init.frames + 1 ≤ R.frames ∧ 8 + (1 + 11) + rmX8_init.locals ≤ R.locals) (hc : cells + 0 ≤ R.cells ∧ slots + 0 ≤ R.slots) (hW : (rest.map fun v => v.category).sum ≤ 8) (hd : decode cc pc = .ok (.invokespecial 23, 3)) (h : C8_init y0 S Q1) (k : ∀ (S1 : CS) (H : Heap) (locs : List Loc), GC D a d A s.heap S1 H locs → Q1 S1 → W p l e R s m args below meth c H locs cells slots Q (F0 m (pc + 3) ls rest)) : W p l e R s m args below meth c H locs cells slots Q (F0 m pc ls (.ref y0 :: rest)) := by
  obtain ⟨hx, hb, hr, hml, hown, hts, hlocks, hA, hK, hN⟩ := id F
  exact c_callv F G (va_runI (As := []) (rest := rest) ⟨hx, hb, hml, hown, hts⟩ (wC8_init H.size y0 S Q1 h) (cwI 0 hts (lw_meth q584) rfl rfl rfl (hts _ q93) (hts _ q960) (hts _ q583) rfl (by decide +kernel) hR) ⟨PC_blind, c_pre F G⟩ rfl rfl hsz rfl (lv_room hW) hd hc) k
/-! StrokesHeard$Twice.another -/
def C8_another (y0 : Nat) (S : CS) (Q : Nat → CS → Prop) : Prop := ∀ y_1 : Nat, y_1 ∉ S.2.2.1 → C8_init y_1 (cN S y_1 (.inr (8, [.int 0, .int 0]))) (fun S_4 => Q y_1 S_4)
abbrev rmX8_another : Room := { frames := 3, cells := 1, slots := 2, locals := 60 }
set_option maxHeartbeats 4000000 in
set_option maxRecDepth 100000 in
theorem wC8_another {l : Launch} {D : va_G} {a : Nat → Nat} {d : Nat → ClassId} (sz : Nat) (y0 : Nat) (S : CS) (Q : Nat → CS → Prop) (h : C8_another y0 S Q) : CMr l D a d yX8_another cX8_another 1 (.object "StrokesHeard$Ringer") rmX8_another 1 2 [.ref y0] sz S Q := by
  refine c_enter (Qc := fun A => QRy Q (BC D a d A) A) RX8 (by decide +kernel) rfl (Nat.le_of_ble_eq_true rfl) ?_
  intro p e s m below meth c ls A hmn F hG hl
  have G := hG
  have hl : lv_has ls 1 [(0, .ref y0)] := hl
  obtain ⟨hx, hb, hr, hml, hown, hts, hlocks, hA, hK, hN⟩ := id F
  unfold C8_another at h
  refine pnX8_X8 F G ⟨(Nat.le_of_ble_eq_true rfl), (Nat.le_of_ble_eq_true rfl)⟩ dX8_another_0 (fun y_1 H q_2 G => ?_)
  replace h := h y_1 q_2
  refine lv_dup hx hb dX8_another_3 rfl ?_
  refine kX8_C8_init F G hl.1 ⟨(Nat.le_of_ble_eq_true rfl), (Nat.le_of_ble_eq_true rfl)⟩ ⟨(Nat.le_of_ble_eq_true rfl), (Nat.le_of_ble_eq_true rfl)⟩ (Nat.le_of_ble_eq_true rfl) dX8_another_4 h (fun S_4 H locs G h => ?_)
  exact c_aret F G dX8_another_7 h
set_option maxHeartbeats 4000000 in
set_option maxRecDepth 100000 in
theorem kX9_C9_init {p : Program} {l : Launch} {e : Env} {s : State} {m : MethodId} {R : Room} {args : Array Value} {below : List Frame} {meth : Method} {c : Code} {D : va_G} {a : Nat → Nat} {d : Nat → ClassId} {A : Nat → Prop} {Q : State → Prop} {cc : ByteArray} {nL pc cells slots : Nat} {ret : Option FieldType} {ls : Array Slot} {rest : List Value} {y0 : Nat} {S : CS} {H : Heap} {locs : List Loc} {Q1 : CS → Prop} (F : FC p s m meth c args D a d A RX9 cc nL ret) (G : GC D a d A s.heap S H locs) (hsz : ls.size = nL) (hR : rmX9_init.frames + 1 ≤ R.frames ∧ 8 + (1 + 11) + rmX9_init.locals ≤ R.locals) (hc : cells + 0 ≤ R.cells ∧ slots + 0 ≤ R.slots) (hW : (rest.map fun v => v.category).sum ≤ 8) (hd : decode cc pc = .ok (.invokespecial 20, 3)) (h : C9_init y0 S Q1) (k : ∀ (S1 : CS) (H : Heap) (locs : List Loc), GC D a d A s.heap S1 H locs → Q1 S1 → W p l e R s m args below meth c H locs cells slots Q (F0 m (pc + 3) ls rest)) : W p l e R s m args below meth c H locs cells slots Q (F0 m pc ls (.ref y0 :: rest)) := by
  obtain ⟨hx, hb, hr, hml, hown, hts, hlocks, hA, hK, hN⟩ := id F
  exact c_callv F G (va_runI (As := []) (rest := rest) ⟨hx, hb, hml, hown, hts⟩ (wC9_init H.size y0 S Q1 h) (cwI 0 hts (lw_meth q593) rfl rfl rfl (hts _ q94) (hts _ q955) (hts _ q592) rfl (by decide +kernel) hR) ⟨PC_blind, c_pre F G⟩ rfl rfl hsz rfl (lv_room hW) hd hc) k
/-! StrokesHeard$Tune.another -/
def C9_another (y0 : Nat) (S : CS) (Q : Nat → CS → Prop) : Prop := ∀ y_1 : Nat, y_1 ∉ S.2.2.1 → C9_init y_1 (cN S y_1 (.inr (9, [.int 0, .int 0]))) (fun S_4 => Q y_1 S_4)
abbrev rmX9_another : Room := { frames := 4, cells := 1, slots := 2, locals := 80 }
set_option maxHeartbeats 4000000 in
set_option maxRecDepth 100000 in
theorem wC9_another {l : Launch} {D : va_G} {a : Nat → Nat} {d : Nat → ClassId} (sz : Nat) (y0 : Nat) (S : CS) (Q : Nat → CS → Prop) (h : C9_another y0 S Q) : CMr l D a d yX9_another cX9_another 1 (.object "StrokesHeard$Ringer") rmX9_another 1 2 [.ref y0] sz S Q := by
  refine c_enter (Qc := fun A => QRy Q (BC D a d A) A) RX9 (by decide +kernel) rfl (Nat.le_of_ble_eq_true rfl) ?_
  intro p e s m below meth c ls A hmn F hG hl
  have G := hG
  have hl : lv_has ls 1 [(0, .ref y0)] := hl
  obtain ⟨hx, hb, hr, hml, hown, hts, hlocks, hA, hK, hN⟩ := id F
  unfold C9_another at h
  refine pnX9_X9 F G ⟨(Nat.le_of_ble_eq_true rfl), (Nat.le_of_ble_eq_true rfl)⟩ dX9_another_0 (fun y_1 H q_2 G => ?_)
  replace h := h y_1 q_2
  refine lv_dup hx hb dX9_another_3 rfl ?_
  refine kX9_C9_init F G hl.1 ⟨(Nat.le_of_ble_eq_true rfl), (Nat.le_of_ble_eq_true rfl)⟩ ⟨(Nat.le_of_ble_eq_true rfl), (Nat.le_of_ble_eq_true rfl)⟩ (Nat.le_of_ble_eq_true rfl) dX9_another_4 h (fun S_4 H locs G h => ?_)
  exact c_aret F G dX9_another_7 h
set_option maxHeartbeats 4000000 in
set_option maxRecDepth 100000 in
theorem kX10_C10_init {p : Program} {l : Launch} {e : Env} {s : State} {m : MethodId} {R : Room} {args : Array Value} {below : List Frame} {meth : Method} {c : Code} {D : va_G} {a : Nat → Nat} {d : Nat → ClassId} {A : Nat → Prop} {Q : State → Prop} {cc : ByteArray} {nL pc cells slots : Nat} {ret : Option FieldType} {ls : Array Slot} {rest : List Value} {y0 : Nat} {S : CS} {H : Heap} {locs : List Loc} {Q1 : CS → Prop} (F : FC p s m meth c args D a d A RX10 cc nL ret) (G : GC D a d A s.heap S H locs) (hsz : ls.size = nL) (hR : rmX10_init.frames + 1 ≤ R.frames ∧ 8 + (1 + 11) + rmX10_init.locals ≤ R.locals) (hc : cells + 0 ≤ R.cells ∧ slots + 0 ≤ R.slots) (hW : (rest.map fun v => v.category).sum ≤ 8) (hd : decode cc pc = .ok (.invokespecial 20, 3)) (h : C10_init y0 S Q1) (k : ∀ (S1 : CS) (H : Heap) (locs : List Loc), GC D a d A s.heap S1 H locs → Q1 S1 → W p l e R s m args below meth c H locs cells slots Q (F0 m (pc + 3) ls rest)) : W p l e R s m args below meth c H locs cells slots Q (F0 m pc ls (.ref y0 :: rest)) := by
  obtain ⟨hx, hb, hr, hml, hown, hts, hlocks, hA, hK, hN⟩ := id F
  exact c_callv F G (va_runI (As := []) (rest := rest) ⟨hx, hb, hml, hown, hts⟩ (wC10_init H.size y0 S Q1 h) (cwI 0 hts (lw_meth q602) rfl rfl rfl (hts _ q95) (hts _ q950) (hts _ q601) rfl (by decide +kernel) hR) ⟨PC_blind, c_pre F G⟩ rfl rfl hsz rfl (lv_room hW) hd hc) k
/-! StrokesHeard$Sign.another -/
def C10_another (y0 : Nat) (S : CS) (Q : Nat → CS → Prop) : Prop := ∀ y_1 : Nat, y_1 ∉ S.2.2.1 → C10_init y_1 (cN S y_1 (.inr (10, [.int 0, .int 0]))) (fun S_4 => Q y_1 S_4)
abbrev rmX10_another : Room := { frames := 4, cells := 1, slots := 2, locals := 80 }
set_option maxHeartbeats 4000000 in
set_option maxRecDepth 100000 in
theorem wC10_another {l : Launch} {D : va_G} {a : Nat → Nat} {d : Nat → ClassId} (sz : Nat) (y0 : Nat) (S : CS) (Q : Nat → CS → Prop) (h : C10_another y0 S Q) : CMr l D a d yX10_another cX10_another 1 (.object "StrokesHeard$Ringer") rmX10_another 1 2 [.ref y0] sz S Q := by
  refine c_enter (Qc := fun A => QRy Q (BC D a d A) A) RX10 (by decide +kernel) rfl (Nat.le_of_ble_eq_true rfl) ?_
  intro p e s m below meth c ls A hmn F hG hl
  have G := hG
  have hl : lv_has ls 1 [(0, .ref y0)] := hl
  obtain ⟨hx, hb, hr, hml, hown, hts, hlocks, hA, hK, hN⟩ := id F
  unfold C10_another at h
  refine pnX10_X10 F G ⟨(Nat.le_of_ble_eq_true rfl), (Nat.le_of_ble_eq_true rfl)⟩ dX10_another_0 (fun y_1 H q_2 G => ?_)
  replace h := h y_1 q_2
  refine lv_dup hx hb dX10_another_3 rfl ?_
  refine kX10_C10_init F G hl.1 ⟨(Nat.le_of_ble_eq_true rfl), (Nat.le_of_ble_eq_true rfl)⟩ ⟨(Nat.le_of_ble_eq_true rfl), (Nat.le_of_ble_eq_true rfl)⟩ (Nat.le_of_ble_eq_true rfl) dX10_another_4 h (fun S_4 H locs G h => ?_)
  exact c_aret F G dX10_another_7 h
set_option maxHeartbeats 4000000 in
set_option maxRecDepth 100000 in
theorem kX11_C11_init {p : Program} {l : Launch} {e : Env} {s : State} {m : MethodId} {R : Room} {args : Array Value} {below : List Frame} {meth : Method} {c : Code} {D : va_G} {a : Nat → Nat} {d : Nat → ClassId} {A : Nat → Prop} {Q : State → Prop} {cc : ByteArray} {nL pc cells slots : Nat} {ret : Option FieldType} {ls : Array Slot} {rest : List Value} {y0 : Nat} {S : CS} {H : Heap} {locs : List Loc} {Q1 : CS → Prop} (F : FC p s m meth c args D a d A RX11 cc nL ret) (G : GC D a d A s.heap S H locs) (hsz : ls.size = nL) (hR : rmX11_init.frames + 1 ≤ R.frames ∧ 8 + (1 + 11) + rmX11_init.locals ≤ R.locals) (hc : cells + 0 ≤ R.cells ∧ slots + 0 ≤ R.slots) (hW : (rest.map fun v => v.category).sum ≤ 8) (hd : decode cc pc = .ok (.invokespecial 15, 3)) (h : C11_init y0 S Q1) (k : ∀ (S1 : CS) (H : Heap) (locs : List Loc), GC D a d A s.heap S1 H locs → Q1 S1 → W p l e R s m args below meth c H locs cells slots Q (F0 m (pc + 3) ls rest)) : W p l e R s m args below meth c H locs cells slots Q (F0 m pc ls (.ref y0 :: rest)) := by
  obtain ⟨hx, hb, hr, hml, hown, hts, hlocks, hA, hK, hN⟩ := id F
  exact c_callv F G (va_runI (As := []) (rest := rest) ⟨hx, hb, hml, hown, hts⟩ (wC11_init H.size y0 S Q1 h) (cwI 0 hts (lw_meth q611) rfl rfl rfl (hts _ q96) (hts _ q940) (hts _ q610) rfl (by decide +kernel) hR) ⟨PC_blind, c_pre F G⟩ rfl rfl hsz rfl (lv_room hW) hd hc) k
/-! StrokesHeard$Cuckoo.another -/
def C11_another (y0 : Nat) (S : CS) (Q : Nat → CS → Prop) : Prop := ∀ y_1 : Nat, y_1 ∉ S.2.2.1 → C11_init y_1 (cN S y_1 (.inr (11, [.int 0, .int 0]))) (fun S_4 => Q y_1 S_4)
abbrev rmX11_another : Room := { frames := 3, cells := 1, slots := 2, locals := 60 }
set_option maxHeartbeats 4000000 in
set_option maxRecDepth 100000 in
theorem wC11_another {l : Launch} {D : va_G} {a : Nat → Nat} {d : Nat → ClassId} (sz : Nat) (y0 : Nat) (S : CS) (Q : Nat → CS → Prop) (h : C11_another y0 S Q) : CMr l D a d yX11_another cX11_another 1 (.object "StrokesHeard$Ringer") rmX11_another 1 2 [.ref y0] sz S Q := by
  refine c_enter (Qc := fun A => QRy Q (BC D a d A) A) RX11 (by decide +kernel) rfl (Nat.le_of_ble_eq_true rfl) ?_
  intro p e s m below meth c ls A hmn F hG hl
  have G := hG
  have hl : lv_has ls 1 [(0, .ref y0)] := hl
  obtain ⟨hx, hb, hr, hml, hown, hts, hlocks, hA, hK, hN⟩ := id F
  unfold C11_another at h
  refine pnX11_X11 F G ⟨(Nat.le_of_ble_eq_true rfl), (Nat.le_of_ble_eq_true rfl)⟩ dX11_another_0 (fun y_1 H q_2 G => ?_)
  replace h := h y_1 q_2
  refine lv_dup hx hb dX11_another_3 rfl ?_
  refine kX11_C11_init F G hl.1 ⟨(Nat.le_of_ble_eq_true rfl), (Nat.le_of_ble_eq_true rfl)⟩ ⟨(Nat.le_of_ble_eq_true rfl), (Nat.le_of_ble_eq_true rfl)⟩ (Nat.le_of_ble_eq_true rfl) dX11_another_4 h (fun S_4 H locs G h => ?_)
  exact c_aret F G dX11_another_7 h
def CV_another (κ : Nat) (y0 : Nat) (S : CS) (Q : Nat → CS → Prop) : Prop := match κ with
  | 0 => C6_another y0 S Q
  | 1 => C7_another y0 S Q
  | 2 => C8_another y0 S Q
  | 3 => C9_another y0 S Q
  | 4 => C10_another y0 S Q
  | _ => C11_another y0 S Q
set_option maxHeartbeats 4000000 in
set_option maxRecDepth 100000 in
theorem kvX1_another {p : Program} {l : Launch} {e : Env} {s : State} {m : MethodId} {R : Room} {args : Array Value} {below : List Frame} {meth : Method} {c : Code} {D : va_G} {a : Nat → Nat} {d : Nat → ClassId} {A : Nat → Prop} {Q : State → Prop} {cc : ByteArray} {nL pc cells slots κ : Nat} {fs0 : List Value} {ret : Option FieldType} {ls : Array Slot} {rest : List Value} {y0 : Nat} {S : CS} {H : Heap} {locs : List Loc} {Q1 : Nat → CS → Prop} (F : FC p s m meth c args D a d A RX1 cc nL ret) (G : GC D a d A s.heap S H locs) (hκ : κ < 6) (hy : has S y0 (.inr (6 + κ, fs0))) (hsz : ls.size = nL) (hR : 4 + 1 ≤ R.frames ∧ 100 ≤ R.locals) (hc : cells + 1 ≤ R.cells ∧ slots + 2 ≤ R.slots) (hW : (rest.map fun v => v.category).sum ≤ 8) (hd : decode cc pc = .ok (.invokevirtual 41, 3)) (h : CV_another κ y0 S Q1) (k : ∀ (r : Nat) (S1 : CS) (H : Heap) (locs : List Loc), GC D a d A s.heap S1 H locs → Q1 r S1 → W p l e R s m args below meth c H locs (cells + 1) (slots + 2) Q (F0 m (pc + 3) ls (.ref r :: rest))) : W p l e R s m args below meth c H locs cells slots Q (F0 m pc ls (.ref y0 :: rest)) := by
  obtain ⟨hx, hb, hr, hml, hown, hts, hlocks, hA, hK, hN⟩ := id F
  obtain rfl | rfl | rfl | rfl | rfl | rfl : κ = 0 ∨ κ = 1 ∨ κ = 2 ∨ κ = 3 ∨ κ = 4 ∨ κ = 5 := by omega
  · exact c_callr F G (va_runU (As := []) (rest := rest) ⟨hx, hb, hml, hown, hts⟩ (wC6_another H.size y0 S Q1 h) (va_cwO (C := RX6) (owner := RX6) 0 hts (lw_O q932 q935 q933 q934 q933 q91 q961) rfl rfl rfl q961 (by decide +kernel) ⟨Nat.le_trans (Nat.le_of_ble_eq_true rfl) hR.1, Nat.le_trans (Nat.le_of_ble_eq_true rfl) hR.2⟩) ⟨PC_blind, p_recv_X6 F G hy, c_pre F G⟩ rfl rfl hsz rfl (lv_room hW) hd hc) k
  · exact c_callr F G (va_runU (As := []) (rest := rest) ⟨hx, hb, hml, hown, hts⟩ (wC7_another H.size y0 S Q1 h) (va_cwO (C := RX7) (owner := RX6) 0 hts (lw_O q932 q935 q933 q941 q942 q92 q943) rfl rfl rfl q961 (by decide +kernel) ⟨Nat.le_trans (Nat.le_of_ble_eq_true rfl) hR.1, Nat.le_trans (Nat.le_of_ble_eq_true rfl) hR.2⟩) ⟨PC_blind, p_recv_X7 F G hy, c_pre F G⟩ rfl rfl hsz rfl (lv_room hW) hd hc) k
  · exact c_callr F G (va_runU (As := []) (rest := rest) ⟨hx, hb, hml, hown, hts⟩ (wC8_another H.size y0 S Q1 h) (va_cwO (C := RX8) (owner := RX6) 0 hts (lw_O q932 q935 q933 q956 q957 q93 q958) rfl rfl rfl q961 (by decide +kernel) ⟨Nat.le_trans (Nat.le_of_ble_eq_true rfl) hR.1, Nat.le_trans (Nat.le_of_ble_eq_true rfl) hR.2⟩) ⟨PC_blind, p_recv_X8 F G hy, c_pre F G⟩ rfl rfl hsz rfl (lv_room hW) hd hc) k
  · exact c_callr F G (va_runU (As := []) (rest := rest) ⟨hx, hb, hml, hown, hts⟩ (wC9_another H.size y0 S Q1 h) (va_cwO (C := RX9) (owner := RX6) 0 hts (lw_O q932 q935 q933 q951 q952 q94 q953) rfl rfl rfl q961 (by decide +kernel) ⟨Nat.le_trans (Nat.le_of_ble_eq_true rfl) hR.1, Nat.le_trans (Nat.le_of_ble_eq_true rfl) hR.2⟩) ⟨PC_blind, p_recv_X9 F G hy, c_pre F G⟩ rfl rfl hsz rfl (lv_room hW) hd hc) k
  · exact c_callr F G (va_runU (As := []) (rest := rest) ⟨hx, hb, hml, hown, hts⟩ (wC10_another H.size y0 S Q1 h) (va_cwO (C := RX10) (owner := RX6) 0 hts (lw_O q932 q935 q933 q946 q947 q95 q948) rfl rfl rfl q961 (by decide +kernel) ⟨Nat.le_trans (Nat.le_of_ble_eq_true rfl) hR.1, Nat.le_trans (Nat.le_of_ble_eq_true rfl) hR.2⟩) ⟨PC_blind, p_recv_X10 F G hy, c_pre F G⟩ rfl rfl hsz rfl (lv_room hW) hd hc) k
  · exact c_callr F G (va_runU (As := []) (rest := rest) ⟨hx, hb, hml, hown, hts⟩ (wC11_another H.size y0 S Q1 h) (va_cwO (C := RX11) (owner := RX6) 0 hts (lw_O q932 q935 q933 q936 q937 q96 q938) rfl rfl rfl q961 (by decide +kernel) ⟨Nat.le_trans (Nat.le_of_ble_eq_true rfl) hR.1, Nat.le_trans (Nat.le_of_ble_eq_true rfl) hR.2⟩) ⟨PC_blind, p_recv_X11 F G hy, c_pre F G⟩ rfl rfl hsz rfl (lv_room hW) hd hc) k
set_option maxHeartbeats 4000000 in
set_option maxRecDepth 100000 in
theorem kvX1_takes {p : Program} {l : Launch} {e : Env} {s : State} {m : MethodId} {R : Room} {args : Array Value} {below : List Frame} {meth : Method} {c : Code} {D : va_G} {a : Nat → Nat} {d : Nat → ClassId} {A : Nat → Prop} {Q : State → Prop} {cc : ByteArray} {nL pc cells slots κ : Nat} {fs0 : List Value} {ret : Option FieldType} {ls : Array Slot} {rest : List Value} {y0 : Nat} {y1 : Nat} {S : CS} {H : Heap} {locs : List Loc} {Q1 : CS → Prop} (F : FC p s m meth c args D a d A RX1 cc nL ret) (G : GC D a d A s.heap S H locs) (hκ : κ < 6) (hy : has S y0 (.inr (6 + κ, fs0))) (hsz : ls.size = nL) (hR : 0 + 1 ≤ R.frames ∧ 21 ≤ R.locals) (hc : cells + 0 ≤ R.cells ∧ slots + 0 ≤ R.slots) (hW : (rest.map fun v => v.category).sum ≤ 8) (hd : decode cc pc = .ok (.invokevirtual 45, 3)) (h : CV_takes κ y0 y1 S Q1) (k : ∀ (S1 : CS) (H : Heap) (locs : List Loc), GC D a d A s.heap S1 H locs → Q1 S1 → W p l e R s m args below meth c H locs cells slots Q (F0 m (pc + 3) ls rest)) : W p l e R s m args below meth c H locs cells slots Q (F0 m pc ls (.ref y1 :: .ref y0 :: rest)) := by
  obtain ⟨hx, hb, hr, hml, hown, hts, hlocks, hA, hK, hN⟩ := id F
  obtain rfl | rfl | rfl | rfl | rfl | rfl : κ = 0 ∨ κ = 1 ∨ κ = 2 ∨ κ = 3 ∨ κ = 4 ∨ κ = 5 := by omega
  · exact c_callv F G (va_runU (As := [.ref y1]) (rest := rest) ⟨hx, hb, hml, hown, hts⟩ (wC6_takes H.size y0 y1 S Q1 h) (va_cwO (C := RX6) (owner := RX6) 1 hts (lw_O q964 q793 q791 q792 q791 q91 q799) rfl rfl rfl q799 (by decide +kernel) ⟨Nat.le_trans (Nat.le_of_ble_eq_true rfl) hR.1, Nat.le_trans (Nat.le_of_ble_eq_true rfl) hR.2⟩) ⟨PC_blind, p_recv_X6 F G hy, c_pre F G⟩ rfl rfl hsz rfl (lv_room hW) hd hc) k
  · exact c_callv F G (va_runU (As := [.ref y1]) (rest := rest) ⟨hx, hb, hml, hown, hts⟩ (wC6_takes H.size y0 y1 S Q1 h) (va_cwO (C := RX7) (owner := RX6) 1 hts (lw_O q964 q793 q791 q795 q791 q91 q799) rfl rfl rfl q799 (by decide +kernel) ⟨Nat.le_trans (Nat.le_of_ble_eq_true rfl) hR.1, Nat.le_trans (Nat.le_of_ble_eq_true rfl) hR.2⟩) ⟨PC_blind, p_recv_X7 F G hy, c_pre F G⟩ rfl rfl hsz rfl (lv_room hW) hd hc) k
  · exact c_callv F G (va_runU (As := [.ref y1]) (rest := rest) ⟨hx, hb, hml, hown, hts⟩ (wC6_takes H.size y0 y1 S Q1 h) (va_cwO (C := RX8) (owner := RX6) 1 hts (lw_O q964 q793 q791 q798 q791 q91 q799) rfl rfl rfl q799 (by decide +kernel) ⟨Nat.le_trans (Nat.le_of_ble_eq_true rfl) hR.1, Nat.le_trans (Nat.le_of_ble_eq_true rfl) hR.2⟩) ⟨PC_blind, p_recv_X8 F G hy, c_pre F G⟩ rfl rfl hsz rfl (lv_room hW) hd hc) k
  · exact c_callv F G (va_runU (As := [.ref y1]) (rest := rest) ⟨hx, hb, hml, hown, hts⟩ (wC6_takes H.size y0 y1 S Q1 h) (va_cwO (C := RX9) (owner := RX6) 1 hts (lw_O q964 q793 q791 q797 q791 q91 q799) rfl rfl rfl q799 (by decide +kernel) ⟨Nat.le_trans (Nat.le_of_ble_eq_true rfl) hR.1, Nat.le_trans (Nat.le_of_ble_eq_true rfl) hR.2⟩) ⟨PC_blind, p_recv_X9 F G hy, c_pre F G⟩ rfl rfl hsz rfl (lv_room hW) hd hc) k
  · exact c_callv F G (va_runU (As := [.ref y1]) (rest := rest) ⟨hx, hb, hml, hown, hts⟩ (wC6_takes H.size y0 y1 S Q1 h) (va_cwO (C := RX10) (owner := RX6) 1 hts (lw_O q964 q793 q791 q796 q791 q91 q799) rfl rfl rfl q799 (by decide +kernel) ⟨Nat.le_trans (Nat.le_of_ble_eq_true rfl) hR.1, Nat.le_trans (Nat.le_of_ble_eq_true rfl) hR.2⟩) ⟨PC_blind, p_recv_X10 F G hy, c_pre F G⟩ rfl rfl hsz rfl (lv_room hW) hd hc) k
  · exact c_callv F G (va_runU (As := [.ref y1]) (rest := rest) ⟨hx, hb, hml, hown, hts⟩ (wC6_takes H.size y0 y1 S Q1 h) (va_cwO (C := RX11) (owner := RX6) 1 hts (lw_O q964 q793 q791 q794 q791 q91 q799) rfl rfl rfl q799 (by decide +kernel) ⟨Nat.le_trans (Nat.le_of_ble_eq_true rfl) hR.1, Nat.le_trans (Nat.le_of_ble_eq_true rfl) hR.2⟩) ⟨PC_blind, p_recv_X11 F G hy, c_pre F G⟩ rfl rfl hsz rfl (lv_room hW) hd hc) k
/-! StrokesHeard$State.copyOf -/
def C1_copyOf_4_1_p71 (Q : CS → Prop) (K18 : Int32 → CS → Prop) (v2 : Int32) (S : CS) : Prop := vp_in v2 6 ∧ (∃ y_46 : Nat, (S.2.1 8 v2.toNatClampNeg) = some y_46 ∧ (vp_in v2 6 ∧ (∃ y_48 : Nat, (S.2.1 5 v2.toNatClampNeg) = some y_48 ∧ (∃ (κ_51 : Nat) (fs_52 : List Value), κ_51 < 6 ∧ has S y_46 (.inr (6 + κ_51, fs_52)) ∧ CV_takes κ_51 y_46 y_48 S (fun S_50 => K18 (v2 + 1) S_50)))))
def C1_copyOf_4_1_p56 (Q : CS → Prop) (K18 : Int32 → CS → Prop) (v2 : Int32) (S : CS) : Prop := vp_in v2 6 ∧ (∃ y_33 : Nat, (S.2.1 5 v2.toNatClampNeg) = some y_33 ∧ (∃ (κ_36 : Nat) (fs_37 : List Value), κ_36 < 6 ∧ has S y_33 (.inr (6 + κ_36, fs_37)) ∧ CV_another κ_36 y_33 S (fun y_34 S_35 => vp_in v2 6 ∧ ∃ (κ_43 : Nat) (fs_41 : List Value), κ_43 < 6 ∧ has S_35 y_34 (.inr (6 + κ_43, fs_41)) ∧ (C1_copyOf_4_1_p71 Q K18 v2 (cR S_35 8 v2 (some y_34))))))
def C1_copyOf_4_1_L18 (Q : CS → Prop)   : Nat → Int32 → CS → Prop
  | 0, _, _ => False
  | n + 1, v2, S => ((S.1 4 1) ≤ v2 → C0_copyRow_9_12  S (fun S_3 => C0_copyRow_13_16  (cF (cF (cF (cF S_3 4 4 (S_3.1 1 4)) 4 5 ((cF S_3 4 4 (S_3.1 1 4)).1 1 5)) 4 6 ((cF (cF S_3 4 4 (S_3.1 1 4)) 4 5 ((cF S_3 4 4 (S_3.1 1 4)).1 1 5)).1 1 6)) 4 7 ((cF (cF (cF S_3 4 4 (S_3.1 1 4)) 4 5 ((cF S_3 4 4 (S_3.1 1 4)).1 1 5)) 4 6 ((cF (cF S_3 4 4 (S_3.1 1 4)) 4 5 ((cF S_3 4 4 (S_3.1 1 4)).1 1 5)).1 1 6)).1 1 7)) (fun S_5 => ¬ (0 : Int32) < 0 ∧ ¬ (0 : Int32) < 0 ∧ ¬ (14 : Int32) < 0 ∧ (0 : Int32).toNatClampNeg + (14 : Int32).toNatClampNeg ≤ 14 ∧ (0 : Int32).toNatClampNeg + (14 : Int32).toNatClampNeg ≤ 14 ∧ (∀ i : Nat, i < (14 : Int32).toNatClampNeg → ∀ y : Nat, (cF (cF S_5 4 9 (S_5.1 1 9)) 4 10 ((cF S_5 4 9 (S_5.1 1 9)).1 1 10)).2.1 17 ((0 : Int32).toNatClampNeg + i) = some y → ∃ fs, has (cF (cF S_5 4 9 (S_5.1 1 9)) 4 10 ((cF S_5 4 9 (S_5.1 1 9)).1 1 10)) y (.inr (13, fs))) ∧ (Q ((cF (cF S_5 4 9 (S_5.1 1 9)) 4 10 ((cF S_5 4 9 (S_5.1 1 9)).1 1 10)).1, u2 (cF (cF S_5 4 9 (S_5.1 1 9)) 4 10 ((cF S_5 4 9 (S_5.1 1 9)).1 1 10)).2.1 20 (va_cpy ((cF (cF S_5 4 9 (S_5.1 1 9)) 4 10 ((cF S_5 4 9 (S_5.1 1 9)).1 1 10)).2.1 17) ((cF (cF S_5 4 9 (S_5.1 1 9)) 4 10 ((cF S_5 4 9 (S_5.1 1 9)).1 1 10)).2.1 20) ((0 : Int32).toNatClampNeg) ((0 : Int32).toNatClampNeg) ((14 : Int32).toNatClampNeg)), (cF (cF S_5 4 9 (S_5.1 1 9)) 4 10 ((cF S_5 4 9 (S_5.1 1 9)).1 1 10)).2.2))))) ∧ (¬ (S.1 4 1) ≤ v2 → vp_in v2 6 ∧ (((S.2.1 8 v2.toNatClampNeg) = none → C1_copyOf_4_1_p56 Q (fun v2_ S_ => C1_copyOf_4_1_L18 Q n v2_ S_) v2 S) ∧ (∀ y_14 : Nat, (S.2.1 8 v2.toNatClampNeg) = some y_14 → vp_in v2 6 ∧ (∃ y_16 : Nat, (S.2.1 8 v2.toNatClampNeg) = some y_16 ∧ (∃ (κ_19 : Nat) (fs_20 : List Value), κ_19 < 6 ∧ has S y_16 (.inr (6 + κ_19, fs_20)) ∧ CV_kind κ_19 y_16 S (fun r_17 S_18 => vp_in v2 6 ∧ (∃ y_24 : Nat, (S_18.2.1 5 v2.toNatClampNeg) = some y_24 ∧ (∃ (κ_27 : Nat) (fs_28 : List Value), κ_27 < 6 ∧ has S_18 y_24 (.inr (6 + κ_27, fs_28)) ∧ CV_kind κ_27 y_24 S_18 (fun r_25 S_26 => (r_17 = r_25 → C1_copyOf_4_1_p71 Q (fun v2_ S_ => C1_copyOf_4_1_L18 Q n v2_ S_) v2 S_26) ∧ (¬ r_17 = r_25 → C1_copyOf_4_1_p56 Q (fun v2_ S_ => C1_copyOf_4_1_L18 Q n v2_ S_) v2 S_26))))))))))
def C1_copyOf_4_1  (S : CS) (Q : CS → Prop) : Prop := ∃ k18, k18 ≤ 7 ∧ C1_copyOf_4_1_L18 Q k18 0 (cF (cF S 4 0 (S.1 1 0)) 4 1 ((cF S 4 0 (S.1 1 0)).1 1 1))
abbrev rmX1_copyOf_4_1 : Room := { frames := 5, cells := 7, slots := 14, locals := 100 }
set_option maxHeartbeats 4000000 in
set_option maxRecDepth 100000 in
theorem wC1_copyOf_4_1_p71 {p : Program} {l : Launch} {e : Env} {s : State} {m : MethodId} {args : Array Value} {below : List Frame} {meth : Method} {c : Code} {D : va_G} {a : Nat → Nat} {d : Nat → ClassId} {A : Nat → Prop} {Q : CS → Prop} {K18 : Int32 → CS → Prop} (F : FC p s m meth c args D a d A RX1 cX1_copyOf 3 none) (v2 : Int32) (S : CS) {nn : Nat} (hK18 : ∀ (v2 : Int32) (S : CS) (H : Heap) (locs : List Loc) (ls : Array Slot) (cells slots : Nat), cells + nn * 1 ≤ 7 → slots + nn * 2 ≤ 14 → GC D a d A s.heap S H locs → lv_has ls 3 [(0, .ref (a 4)), (1, .ref (a 1)), (2, .int v2)] → K18 v2 S → wCv p l e rmX1_copyOf_4_1 s m args below meth c D a d A Q 7 14 H locs cells slots (F0 m 18 ls [])) (cells slots : Nat) (hc1 : cells + nn * 1 + 0 ≤ 7) (hc2 : slots + nn * 2 + 0 ≤ 14) {H : Heap} {locs : List Loc} {ls : Array Slot} (G : GC D a d A s.heap S H locs) (hl : lv_has ls 3 [(0, .ref (a 4)), (1, .ref (a 1)), (2, .int v2)]) (h : C1_copyOf_4_1_p71 Q K18 v2 S) : wCv p l e rmX1_copyOf_4_1 s m args below meth c D a d A Q 7 14 H locs cells slots (F0 m 71 ls []) := by
  obtain ⟨hx, hb, hr, hml, hown, hts, hlocks, hA, hK, hN⟩ := id F
  unfold C1_copyOf_4_1_p71 at h
  refine lv_aload_n hx hb dX1_copyOf_71 rfl (lv_at hl 0 rfl) ?_
  refine cgX1_4_clock F G dX1_copyOf_72 ?_
  refine lv_iload_n hx hb dX1_copyOf_75 rfl (lv_at hl 2 rfl) ?_
  obtain ⟨b_45, h⟩ := h
  refine c_aaload F G cR_8 rfl b_45 dX1_copyOf_76 ?_
  obtain ⟨y_46, hy_46, h⟩ := h
  refine c_nn hy_46 ?_
  refine lv_aload_n hx hb dX1_copyOf_77 rfl (lv_at hl 1 rfl) ?_
  refine cgX1_1_clock F G dX1_copyOf_78 ?_
  refine lv_iload_n hx hb dX1_copyOf_81 rfl (lv_at hl 2 rfl) ?_
  obtain ⟨b_47, h⟩ := h
  refine c_aaload F G cR_5 rfl b_47 dX1_copyOf_82 ?_
  obtain ⟨y_48, hy_48, h⟩ := h
  refine c_nn hy_48 ?_
  obtain ⟨κ_51, fs_52, q_53, z_54, h⟩ := h
  refine kvX1_takes F G q_53 z_54 hl.1 ⟨(Nat.le_of_ble_eq_true rfl), (Nat.le_of_ble_eq_true rfl)⟩ ⟨show _ ≤ 7 by omega, show _ ≤ 14 by omega⟩ (Nat.le_of_ble_eq_true rfl) dX1_copyOf_83 h (fun S_50 H locs G h => ?_)
  refine lv_iinc (v := (v2 + 1)) (lv' := [(2, .int (v2 + 1)), (0, .ref (a 4)), (1, .ref (a 1))]) hx hb dX1_copyOf_86 hl (k := 2) rfl rfl (by decide) rfl (fun ls hl => ?_)
  refine lv_goto (tgt := 18) hx hb dX1_copyOf_89 (by decide) ?_
  exact hK18 (v2 + 1) S_50 _ _ _ cells slots (by omega) (by omega) G (lv_sub hl [1, 2, 0] rfl) h
set_option maxHeartbeats 4000000 in
set_option maxRecDepth 100000 in
theorem wC1_copyOf_4_1_p56 {p : Program} {l : Launch} {e : Env} {s : State} {m : MethodId} {args : Array Value} {below : List Frame} {meth : Method} {c : Code} {D : va_G} {a : Nat → Nat} {d : Nat → ClassId} {A : Nat → Prop} {Q : CS → Prop} {K18 : Int32 → CS → Prop} (F : FC p s m meth c args D a d A RX1 cX1_copyOf 3 none) (v2 : Int32) (S : CS) {nn : Nat} (hK18 : ∀ (v2 : Int32) (S : CS) (H : Heap) (locs : List Loc) (ls : Array Slot) (cells slots : Nat), cells + nn * 1 ≤ 7 → slots + nn * 2 ≤ 14 → GC D a d A s.heap S H locs → lv_has ls 3 [(0, .ref (a 4)), (1, .ref (a 1)), (2, .int v2)] → K18 v2 S → wCv p l e rmX1_copyOf_4_1 s m args below meth c D a d A Q 7 14 H locs cells slots (F0 m 18 ls [])) (cells slots : Nat) (hc1 : cells + nn * 1 + 1 ≤ 7) (hc2 : slots + nn * 2 + 2 ≤ 14) {H : Heap} {locs : List Loc} {ls : Array Slot} (G : GC D a d A s.heap S H locs) (hl : lv_has ls 3 [(0, .ref (a 4)), (1, .ref (a 1)), (2, .int v2)]) (h : C1_copyOf_4_1_p56 Q K18 v2 S) : wCv p l e rmX1_copyOf_4_1 s m args below meth c D a d A Q 7 14 H locs cells slots (F0 m 56 ls []) := by
  obtain ⟨hx, hb, hr, hml, hown, hts, hlocks, hA, hK, hN⟩ := id F
  unfold C1_copyOf_4_1_p56 at h
  refine lv_aload_n hx hb dX1_copyOf_56 rfl (lv_at hl 0 rfl) ?_
  refine cgX1_4_clock F G dX1_copyOf_57 ?_
  refine lv_iload_n hx hb dX1_copyOf_60 rfl (lv_at hl 2 rfl) ?_
  refine lv_aload_n hx hb dX1_copyOf_61 rfl (lv_at hl 1 rfl) ?_
  refine cgX1_1_clock F G dX1_copyOf_62 ?_
  refine lv_iload_n hx hb dX1_copyOf_65 rfl (lv_at hl 2 rfl) ?_
  obtain ⟨b_32, h⟩ := h
  refine c_aaload F G cR_5 rfl b_32 dX1_copyOf_66 ?_
  obtain ⟨y_33, hy_33, h⟩ := h
  refine c_nn hy_33 ?_
  obtain ⟨κ_36, fs_37, q_38, z_39, h⟩ := h
  refine kvX1_another F G q_38 z_39 hl.1 ⟨(Nat.le_of_ble_eq_true rfl), (Nat.le_of_ble_eq_true rfl)⟩ ⟨show _ ≤ 7 by omega, show _ ≤ 14 by omega⟩ (Nat.le_of_ble_eq_true rfl) dX1_copyOf_67 h (fun y_34 S_35 H locs G h => ?_)
  obtain ⟨b_40, κ_43, fs_41, q_44, z_42, h⟩ := h
  refine c_aastore F G cR_8 rfl (p_any_R F G q_44 z_42) b_40 dX1_copyOf_70 (fun H locs G => ?_)
  exact wC1_copyOf_4_1_p71 F v2 (cR S_35 8 v2 (some y_34)) hK18 (cells + 1) (slots + 2) (by omega) (by omega) G (lv_sub hl [0, 1, 2] rfl) h
set_option maxHeartbeats 4000000 in
set_option maxRecDepth 100000 in
theorem wC1_copyOf_4_1_L18 {p : Program} {l : Launch} {e : Env} {s : State} {m : MethodId} {args : Array Value} {below : List Frame} {meth : Method} {c : Code} {D : va_G} {a : Nat → Nat} {d : Nat → ClassId} {A : Nat → Prop} {Q : CS → Prop}  (F : FC p s m meth c args D a d A RX1 cX1_copyOf 3 none)   :
    ∀ (n : Nat) (v2 : Int32) (S : CS) (H : Heap) (locs : List Loc) (ls : Array Slot) (cells slots : Nat), cells + n * 1 ≤ 7 → slots + n * 2 ≤ 14 → GC D a d A s.heap S H locs → lv_has ls 3 [(0, .ref (a 4)), (1, .ref (a 1)), (2, .int v2)] → C1_copyOf_4_1_L18 Q n v2 S → wCv p l e rmX1_copyOf_4_1 s m args below meth c D a d A Q 7 14 H locs cells slots (F0 m 18 ls []) := by
  obtain ⟨hx, hb, hr, hml, hown, hts, hlocks, hA, hK, hN⟩ := id F
  intro n
  induction n with
  | zero => intro v2 S H locs ls cells slots hc1 hc2 G hl h; exact absurd h (fun q => q)
  | succ n ih =>
    intro v2 S H locs ls cells slots hc1 hc2 G hl h
    unfold C1_copyOf_4_1_L18 at h
    refine lv_iload_n hx hb dX1_copyOf_18 rfl (lv_at hl 2 rfl) ?_
    refine lv_aload_n hx hb dX1_copyOf_19 rfl (lv_at hl 0 rfl) ?_
    refine cgX1_4_many F G dX1_copyOf_20 ?_
    refine lv_icmp_ge (tgt := 92) hx hb dX1_copyOf_23 (by decide) (fun c_1 => ?_) (fun c_1 => ?_)
    · replace h := h.1 c_1
      refine lv_aload_n hx hb dX1_copyOf_92 rfl (lv_at hl 1 rfl) ?_
      refine cgX1_1_bed F G dX1_copyOf_93 ?_
      refine lv_aload_n hx hb dX1_copyOf_96 rfl (lv_at hl 0 rfl) ?_
      refine cgX1_4_bed F G dX1_copyOf_97 ?_
      refine kX1_C0_copyRow_9_12 F G hl.1 ⟨(Nat.le_of_ble_eq_true rfl), (Nat.le_of_ble_eq_true rfl)⟩ ⟨show _ ≤ 7 by omega, show _ ≤ 14 by omega⟩ (Nat.le_of_ble_eq_true rfl) dX1_copyOf_100 h (fun S_3 H locs G h => ?_)
      refine lv_aload_n hx hb dX1_copyOf_103 rfl (lv_at hl 0 rfl) ?_
      refine lv_aload_n hx hb dX1_copyOf_104 rfl (lv_at hl 1 rfl) ?_
      refine cgX1_1_heard F G dX1_copyOf_105 ?_
      refine cpX1_4_heard F G dX1_copyOf_108 (fun H locs G => ?_)
      refine lv_aload_n hx hb dX1_copyOf_111 rfl (lv_at hl 0 rfl) ?_
      refine lv_aload_n hx hb dX1_copyOf_112 rfl (lv_at hl 1 rfl) ?_
      refine cgX1_1_missed F G dX1_copyOf_113 ?_
      refine cpX1_4_missed F G dX1_copyOf_116 (fun H locs G => ?_)
      refine lv_aload_n hx hb dX1_copyOf_119 rfl (lv_at hl 0 rfl) ?_
      refine lv_aload_n hx hb dX1_copyOf_120 rfl (lv_at hl 1 rfl) ?_
      refine cgX1_1_mistaken F G dX1_copyOf_121 ?_
      refine cpX1_4_mistaken F G dX1_copyOf_124 (fun H locs G => ?_)
      refine lv_aload_n hx hb dX1_copyOf_127 rfl (lv_at hl 0 rfl) ?_
      refine lv_aload_n hx hb dX1_copyOf_128 rfl (lv_at hl 1 rfl) ?_
      refine cgX1_1_minute F G dX1_copyOf_129 ?_
      refine cpX1_4_minute F G dX1_copyOf_132 (fun H locs G => ?_)
      refine lv_aload_n hx hb dX1_copyOf_135 rfl (lv_at hl 1 rfl) ?_
      refine cgX1_1_note F G dX1_copyOf_136 ?_
      refine lv_aload_n hx hb dX1_copyOf_139 rfl (lv_at hl 0 rfl) ?_
      refine cgX1_4_note F G dX1_copyOf_140 ?_
      refine kX1_C0_copyRow_13_16 F G hl.1 ⟨(Nat.le_of_ble_eq_true rfl), (Nat.le_of_ble_eq_true rfl)⟩ ⟨show _ ≤ 7 by omega, show _ ≤ 14 by omega⟩ (Nat.le_of_ble_eq_true rfl) dX1_copyOf_143 h (fun S_5 H locs G h => ?_)
      refine lv_aload_n hx hb dX1_copyOf_146 rfl (lv_at hl 0 rfl) ?_
      refine lv_aload_n hx hb dX1_copyOf_147 rfl (lv_at hl 1 rfl) ?_
      refine cgX1_1_notes F G dX1_copyOf_148 ?_
      refine cpX1_4_notes F G dX1_copyOf_151 (fun H locs G => ?_)
      refine lv_aload_n hx hb dX1_copyOf_154 rfl (lv_at hl 0 rfl) ?_
      refine lv_aload_n hx hb dX1_copyOf_155 rfl (lv_at hl 1 rfl) ?_
      refine cgX1_1_texts F G dX1_copyOf_156 ?_
      refine cpX1_4_texts F G dX1_copyOf_159 (fun H locs G => ?_)
      refine lv_aload_n hx hb dX1_copyOf_162 rfl (lv_at hl 1 rfl) ?_
      refine cgX1_1_text F G dX1_copyOf_163 ?_
      refine lv_iconst (v := 0) hx hb dX1_copyOf_166 (by decide) ?_
      refine lv_aload_n hx hb dX1_copyOf_167 rfl (lv_at hl 0 rfl) ?_
      refine cgX1_4_text F G dX1_copyOf_168 ?_
      refine lv_iconst (v := 0) hx hb dX1_copyOf_171 (by decide) ?_
      refine lv_bipush (v := 14) hx hb dX1_copyOf_172 (by decide) ?_
      obtain ⟨b_6, b_7, b_8, b_9, b_10, b_11, h⟩ := h
      refine c_copy_r_X1 F G cR_17 cR_20 hl.1 b_6 b_7 b_8 b_9 b_10 b_11 (Nat.le_of_ble_eq_true rfl) (by decide) dX1_copyOf_174 (fun H locs G => ?_)
      refine W.widen (k := 7) (n := 14) (by omega) (by omega) ?_
      exact c_vret F G dX1_copyOf_177 h
    · replace h := h.2 c_1
      refine lv_aload_n hx hb dX1_copyOf_26 rfl (lv_at hl 0 rfl) ?_
      refine cgX1_4_clock F G dX1_copyOf_27 ?_
      refine lv_iload_n hx hb dX1_copyOf_30 rfl (lv_at hl 2 rfl) ?_
      obtain ⟨b_12, h⟩ := h
      refine c_aaload F G cR_8 rfl b_12 dX1_copyOf_31 ?_
      refine c_ifnull (tgt := 56) hx hb dX1_copyOf_32 (by decide) (fun c_13 => ?_) (fun y_14 c_13 => ?_)
      · replace h := h.1 c_13
        exact wC1_copyOf_4_1_p56 F v2 S ih cells slots (by omega) (by omega) G (lv_sub hl [0, 1, 2] rfl) h
      · replace h := h.2 y_14 c_13
        refine lv_aload_n hx hb dX1_copyOf_35 rfl (lv_at hl 0 rfl) ?_
        refine cgX1_4_clock F G dX1_copyOf_36 ?_
        refine lv_iload_n hx hb dX1_copyOf_39 rfl (lv_at hl 2 rfl) ?_
        obtain ⟨b_15, h⟩ := h
        refine c_aaload F G cR_8 rfl b_15 dX1_copyOf_40 ?_
        obtain ⟨y_16, hy_16, h⟩ := h
        refine c_nn hy_16 ?_
        obtain ⟨κ_19, fs_20, q_21, z_22, h⟩ := h
        refine kvX1_kind F G q_21 z_22 hl.1 ⟨(Nat.le_of_ble_eq_true rfl), (Nat.le_of_ble_eq_true rfl)⟩ ⟨show _ ≤ 7 by omega, show _ ≤ 14 by omega⟩ (Nat.le_of_ble_eq_true rfl) dX1_copyOf_41 h (fun r_17 S_18 H locs G h => ?_)
        refine lv_aload_n hx hb dX1_copyOf_44 rfl (lv_at hl 1 rfl) ?_
        refine cgX1_1_clock F G dX1_copyOf_45 ?_
        refine lv_iload_n hx hb dX1_copyOf_48 rfl (lv_at hl 2 rfl) ?_
        obtain ⟨b_23, h⟩ := h
        refine c_aaload F G cR_5 rfl b_23 dX1_copyOf_49 ?_
        obtain ⟨y_24, hy_24, h⟩ := h
        refine c_nn hy_24 ?_
        obtain ⟨κ_27, fs_28, q_29, z_30, h⟩ := h
        refine kvX1_kind F G q_29 z_30 hl.1 ⟨(Nat.le_of_ble_eq_true rfl), (Nat.le_of_ble_eq_true rfl)⟩ ⟨show _ ≤ 7 by omega, show _ ≤ 14 by omega⟩ (Nat.le_of_ble_eq_true rfl) dX1_copyOf_50 h (fun r_25 S_26 H locs G h => ?_)
        refine lv_icmp_eq (tgt := 71) hx hb dX1_copyOf_53 (by decide) (fun c_31 => ?_) (fun c_31 => ?_)
        · replace h := h.1 c_31
          exact wC1_copyOf_4_1_p71 F v2 S_26 ih cells slots (by omega) (by omega) G (lv_sub hl [0, 1, 2] rfl) h
        · replace h := h.2 c_31
          exact wC1_copyOf_4_1_p56 F v2 S_26 ih cells slots (by omega) (by omega) G (lv_sub hl [0, 1, 2] rfl) h
set_option maxHeartbeats 4000000 in
set_option maxRecDepth 100000 in
theorem wC1_copyOf_4_1 {l : Launch} {D : va_G} {a : Nat → Nat} {d : Nat → ClassId} (sz : Nat)  (S : CS) (Q : CS → Prop) (h : C1_copyOf_4_1  S Q) : CMv l D a d yX1_copyOf cX1_copyOf 3 rmX1_copyOf_4_1 7 14 [.ref (a 4), .ref (a 1)] sz S Q := by
  refine c_enter (Qc := fun A => va_Qv Q (BC D a d A) A) RX1 (by decide +kernel) rfl (Nat.le_of_ble_eq_true rfl) ?_
  intro p e s m below meth c ls A hmn F hG hl
  have G := hG
  have hl : lv_has ls 3 [(0, .ref (a 4)), (1, .ref (a 1))] := hl
  obtain ⟨hx, hb, hr, hml, hown, hts, hlocks, hA, hK, hN⟩ := id F
  unfold C1_copyOf_4_1 at h
  refine lv_aload_n hx hb dX1_copyOf_0 rfl (lv_at hl 0 rfl) ?_
  refine lv_aload_n hx hb dX1_copyOf_1 rfl (lv_at hl 1 rfl) ?_
  refine cgX1_1_z F G dX1_copyOf_2 ?_
  refine cpX1_4_z F G dX1_copyOf_5 (fun H locs G => ?_)
  refine lv_aload_n hx hb dX1_copyOf_8 rfl (lv_at hl 0 rfl) ?_
  refine lv_aload_n hx hb dX1_copyOf_9 rfl (lv_at hl 1 rfl) ?_
  refine cgX1_1_many F G dX1_copyOf_10 ?_
  refine cpX1_4_many F G dX1_copyOf_13 (fun H locs G => ?_)
  refine lv_iconst (v := 0) hx hb dX1_copyOf_16 (by decide) ?_
  refine lv_istore_n (lv' := [(2, .int 0), (0, .ref (a 4)), (1, .ref (a 1))]) hx hb dX1_copyOf_17 rfl hl (by decide) rfl (fun ls hl => ?_)
  obtain ⟨k18, hk18, h⟩ := h
  exact wC1_copyOf_4_1_L18 F   k18 0 (cF (cF S 4 0 (S.1 1 0)) 4 1 ((cF S 4 0 (S.1 1 0)).1 1 1)) _ _ _ 0 0 (by omega) (by omega) G (lv_sub hl [1, 2, 0] rfl) h
set_option maxHeartbeats 4000000 in
set_option maxRecDepth 100000 in
theorem kX0_C1_copyOf_4_1 {p : Program} {l : Launch} {e : Env} {s : State} {m : MethodId} {R : Room} {args : Array Value} {below : List Frame} {meth : Method} {c : Code} {D : va_G} {a : Nat → Nat} {d : Nat → ClassId} {A : Nat → Prop} {Q : State → Prop} {cc : ByteArray} {nL pc cells slots : Nat} {ret : Option FieldType} {ls : Array Slot} {rest : List Value}  {S : CS} {H : Heap} {locs : List Loc} {Q1 : CS → Prop} (F : FC p s m meth c args D a d A RX0 cc nL ret) (G : GC D a d A s.heap S H locs) (hsz : ls.size = nL) (hR : rmX1_copyOf_4_1.frames + 1 ≤ R.frames ∧ 8 + (3 + 11) + rmX1_copyOf_4_1.locals ≤ R.locals) (hc : cells + 7 ≤ R.cells ∧ slots + 14 ≤ R.slots) (hW : (rest.map fun v => v.category).sum ≤ 8) (hd : decode cc pc = .ok (.invokevirtual 403, 3)) (h : C1_copyOf_4_1  S Q1) (k : ∀ (S1 : CS) (H : Heap) (locs : List Loc), GC D a d A s.heap S1 H locs → Q1 S1 → W p l e R s m args below meth c H locs (cells + 7) (slots + 14) Q (F0 m (pc + 3) ls rest)) : W p l e R s m args below meth c H locs cells slots Q (F0 m pc ls (.ref (a 1) :: .ref (a 4) :: rest)) := by
  obtain ⟨hx, hb, hr, hml, hown, hts, hlocks, hA, hK, hN⟩ := id F
  exact c_callv F G (va_runV (As := [.ref (a 1)]) (rest := rest) ⟨hx, hb, hml, hown, hts⟩ (wC1_copyOf_4_1 H.size  S Q1 h) (cwV 1 hts (lw_V q927 q928 q929 q83 q930) rfl rfl rfl (by decide +kernel) hR) ⟨PC_blind, va_recv hK G.1 (ci := 1) (q0 := 4) rfl rfl, c_pre F G⟩ rfl rfl hsz rfl (lv_room hW) hd hc) k
/-! StrokesHeard.thinks -/
def C0_thinks  (S : CS) (Q : CS → Prop) : Prop := C1_copyOf_4_1  S (fun S_2 => Q S_2)
abbrev rmX0_thinks : Room := { frames := 6, cells := 7, slots := 14, locals := 122 }
set_option maxHeartbeats 4000000 in
set_option maxRecDepth 100000 in
theorem wC0_thinks {l : Launch} {D : va_G} {a : Nat → Nat} {d : Nat → ClassId} (sz : Nat)  (S : CS) (Q : CS → Prop) (h : C0_thinks  S Q) : CMv l D a d yX0_thinks cX0_thinks 1 rmX0_thinks 7 14 [.ref (a 0)] sz S Q := by
  refine c_enter (Qc := fun A => va_Qv Q (BC D a d A) A) RX0 (by decide +kernel) rfl (Nat.le_of_ble_eq_true rfl) ?_
  intro p e s m below meth c ls A hmn F hG hl
  have G := hG
  have hl : lv_has ls 1 [(0, .ref (a 0))] := hl
  obtain ⟨hx, hb, hr, hml, hown, hts, hlocks, hA, hK, hN⟩ := id F
  unfold C0_thinks at h
  refine lv_aload_n hx hb dX0_thinks_0 rfl (lv_at hl 0 rfl) ?_
  refine cgX0_0_before F G dX0_thinks_1 ?_
  refine lv_aload_n hx hb dX0_thinks_4 rfl (lv_at hl 0 rfl) ?_
  refine cgX0_0_now F G dX0_thinks_5 ?_
  refine kX0_C1_copyOf_4_1 F G hl.1 ⟨(Nat.le_of_ble_eq_true rfl), (Nat.le_of_ble_eq_true rfl)⟩ ⟨(Nat.le_of_ble_eq_true rfl), (Nat.le_of_ble_eq_true rfl)⟩ (Nat.le_of_ble_eq_true rfl) dX0_thinks_8 h (fun S_2 H locs G h => ?_)
  exact c_vret F G dX0_thinks_11 h
set_option maxHeartbeats 4000000 in
set_option maxRecDepth 100000 in
theorem kX0_C0_thinks {p : Program} {l : Launch} {e : Env} {s : State} {m : MethodId} {R : Room} {args : Array Value} {below : List Frame} {meth : Method} {c : Code} {D : va_G} {a : Nat → Nat} {d : Nat → ClassId} {A : Nat → Prop} {Q : State → Prop} {cc : ByteArray} {nL pc cells slots : Nat} {ret : Option FieldType} {ls : Array Slot} {rest : List Value}  {S : CS} {H : Heap} {locs : List Loc} {Q1 : CS → Prop} (F : FC p s m meth c args D a d A RX0 cc nL ret) (G : GC D a d A s.heap S H locs) (hsz : ls.size = nL) (hR : rmX0_thinks.frames + 1 ≤ R.frames ∧ 8 + (1 + 11) + rmX0_thinks.locals ≤ R.locals) (hc : cells + 7 ≤ R.cells ∧ slots + 14 ≤ R.slots) (hW : (rest.map fun v => v.category).sum ≤ 8) (hd : decode cc pc = .ok (.invokevirtual 407, 3)) (h : C0_thinks  S Q1) (k : ∀ (S1 : CS) (H : Heap) (locs : List Loc), GC D a d A s.heap S1 H locs → Q1 S1 → W p l e R s m args below meth c H locs (cells + 7) (slots + 14) Q (F0 m (pc + 3) ls rest)) : W p l e R s m args below meth c H locs cells slots Q (F0 m pc ls (.ref (a 0) :: rest)) := by
  obtain ⟨hx, hb, hr, hml, hown, hts, hlocks, hA, hK, hN⟩ := id F
  exact c_callv F G (va_runV (As := []) (rest := rest) ⟨hx, hb, hml, hown, hts⟩ (wC0_thinks H.size  S Q1 h) (cwV 0 hts (lw_V q923 q925 qs33 q82 q926) rfl rfl rfl (by decide +kernel) hR) ⟨PC_blind, va_recv hK G.1 (ci := 0) (q0 := 0) rfl rfl, c_pre F G⟩ rfl rfl hsz rfl (lv_room hW) hd hc) k
/-! StrokesHeard.copyRow -/
def C0_copyRow_12_9  (S : CS) (Q : CS → Prop) : Prop := ¬ (0 : Int32) < 0 ∧ ¬ (0 : Int32) < 0 ∧ ¬ (2 : Int32) < 0 ∧ (0 : Int32).toNatClampNeg + (2 : Int32).toNatClampNeg ≤ 2 ∧ (0 : Int32).toNatClampNeg + (2 : Int32).toNatClampNeg ≤ 2 ∧ (Q (u2 S.1 9 (va_cpy (S.1 12) (S.1 9) ((0 : Int32).toNatClampNeg) ((0 : Int32).toNatClampNeg) ((2 : Int32).toNatClampNeg)), S.2))
abbrev rmX0_copyRow_12_9 : Room := { frames := 1, cells := 0, slots := 0, locals := 40 }
set_option maxHeartbeats 4000000 in
set_option maxRecDepth 100000 in
theorem wC0_copyRow_12_9 {l : Launch} {D : va_G} {a : Nat → Nat} {d : Nat → ClassId} (sz : Nat)  (S : CS) (Q : CS → Prop) (h : C0_copyRow_12_9  S Q) : CMv l D a d yX0_copyRow cX0_copyRow 2 rmX0_copyRow_12_9 0 0 [.ref (a 12), .ref (a 9)] sz S Q := by
  refine c_enter (Qc := fun A => va_Qv Q (BC D a d A) A) RX0 (by decide +kernel) rfl (Nat.le_of_ble_eq_true rfl) ?_
  intro p e s m below meth c ls A hmn F hG hl
  have G := hG
  have hl : lv_has ls 2 [(0, .ref (a 12)), (1, .ref (a 9))] := hl
  obtain ⟨hx, hb, hr, hml, hown, hts, hlocks, hA, hK, hN⟩ := id F
  unfold C0_copyRow_12_9 at h
  refine lv_aload_n hx hb dX0_copyRow_0 rfl (lv_at hl 0 rfl) ?_
  refine lv_iconst (v := 0) hx hb dX0_copyRow_1 (by decide) ?_
  refine lv_aload_n hx hb dX0_copyRow_2 rfl (lv_at hl 1 rfl) ?_
  refine lv_iconst (v := 0) hx hb dX0_copyRow_3 (by decide) ?_
  refine lv_aload_n hx hb dX0_copyRow_4 rfl (lv_at hl 1 rfl) ?_
  refine c_len (v := 2) F G cI_9 ⟨_, rfl⟩ (by decide) dX0_copyRow_5 ?_
  obtain ⟨b_1, b_2, b_3, b_4, b_5, h⟩ := h
  refine c_copy_i_X0 F G cI_12 cI_9 hl.1 b_1 b_2 b_3 b_4 b_5 (Nat.le_of_ble_eq_true rfl) (by decide) dX0_copyRow_6 (fun H locs G => ?_)
  exact c_vret F G dX0_copyRow_9 h
set_option maxHeartbeats 4000000 in
set_option maxRecDepth 100000 in
theorem kX1_C0_copyRow_12_9 {p : Program} {l : Launch} {e : Env} {s : State} {m : MethodId} {R : Room} {args : Array Value} {below : List Frame} {meth : Method} {c : Code} {D : va_G} {a : Nat → Nat} {d : Nat → ClassId} {A : Nat → Prop} {Q : State → Prop} {cc : ByteArray} {nL pc cells slots : Nat} {ret : Option FieldType} {ls : Array Slot} {rest : List Value}  {S : CS} {H : Heap} {locs : List Loc} {Q1 : CS → Prop} (F : FC p s m meth c args D a d A RX1 cc nL ret) (G : GC D a d A s.heap S H locs) (hsz : ls.size = nL) (hR : rmX0_copyRow_12_9.frames + 1 ≤ R.frames ∧ 8 + (2 + 11) + rmX0_copyRow_12_9.locals ≤ R.locals) (hc : cells + 0 ≤ R.cells ∧ slots + 0 ≤ R.slots) (hW : (rest.map fun v => v.category).sum ≤ 8) (hd : decode cc pc = .ok (.invokestatic 49, 3)) (h : C0_copyRow_12_9  S Q1) (k : ∀ (S1 : CS) (H : Heap) (locs : List Loc), GC D a d A s.heap S1 H locs → Q1 S1 → W p l e R s m args below meth c H locs cells slots Q (F0 m (pc + 3) ls rest)) : W p l e R s m args below meth c H locs cells slots Q (F0 m pc ls (.ref (a 9) :: .ref (a 12) :: rest)) := by
  obtain ⟨hx, hb, hr, hml, hown, hts, hlocks, hA, hK, hN⟩ := id F
  exact c_callv F G (va_runSN (As := [.ref (a 12), .ref (a 9)]) (rest := rest) ⟨hx, hb, hml, hown, hts⟩ (wC0_copyRow_12_9 H.size  S Q1 h) ⟨va_cnB 2 hts (lw_meth q967) rfl rfl rfl (hN.1 _ (List.mem_of_getElem? (i := 33) rfl)) (hts _ q82) (by decide +kernel) hR, hts _ q966, trivial⟩ ⟨PC_blind, c_pre F G⟩ rfl rfl hsz rfl (lv_room hW) hd hc) k
/-! StrokesHeard.copyRow -/
def C0_copyRow_16_13  (S : CS) (Q : CS → Prop) : Prop := ¬ (0 : Int32) < 0 ∧ ¬ (0 : Int32) < 0 ∧ ¬ (12 : Int32) < 0 ∧ (0 : Int32).toNatClampNeg + (12 : Int32).toNatClampNeg ≤ 12 ∧ (0 : Int32).toNatClampNeg + (12 : Int32).toNatClampNeg ≤ 12 ∧ (Q (u2 S.1 13 (va_cpy (S.1 16) (S.1 13) ((0 : Int32).toNatClampNeg) ((0 : Int32).toNatClampNeg) ((12 : Int32).toNatClampNeg)), S.2))
abbrev rmX0_copyRow_16_13 : Room := { frames := 1, cells := 0, slots := 0, locals := 40 }
set_option maxHeartbeats 4000000 in
set_option maxRecDepth 100000 in
theorem wC0_copyRow_16_13 {l : Launch} {D : va_G} {a : Nat → Nat} {d : Nat → ClassId} (sz : Nat)  (S : CS) (Q : CS → Prop) (h : C0_copyRow_16_13  S Q) : CMv l D a d yX0_copyRow cX0_copyRow 2 rmX0_copyRow_16_13 0 0 [.ref (a 16), .ref (a 13)] sz S Q := by
  refine c_enter (Qc := fun A => va_Qv Q (BC D a d A) A) RX0 (by decide +kernel) rfl (Nat.le_of_ble_eq_true rfl) ?_
  intro p e s m below meth c ls A hmn F hG hl
  have G := hG
  have hl : lv_has ls 2 [(0, .ref (a 16)), (1, .ref (a 13))] := hl
  obtain ⟨hx, hb, hr, hml, hown, hts, hlocks, hA, hK, hN⟩ := id F
  unfold C0_copyRow_16_13 at h
  refine lv_aload_n hx hb dX0_copyRow_0 rfl (lv_at hl 0 rfl) ?_
  refine lv_iconst (v := 0) hx hb dX0_copyRow_1 (by decide) ?_
  refine lv_aload_n hx hb dX0_copyRow_2 rfl (lv_at hl 1 rfl) ?_
  refine lv_iconst (v := 0) hx hb dX0_copyRow_3 (by decide) ?_
  refine lv_aload_n hx hb dX0_copyRow_4 rfl (lv_at hl 1 rfl) ?_
  refine c_len (v := 12) F G cI_13 ⟨_, rfl⟩ (by decide) dX0_copyRow_5 ?_
  obtain ⟨b_1, b_2, b_3, b_4, b_5, h⟩ := h
  refine c_copy_i_X0 F G cI_16 cI_13 hl.1 b_1 b_2 b_3 b_4 b_5 (Nat.le_of_ble_eq_true rfl) (by decide) dX0_copyRow_6 (fun H locs G => ?_)
  exact c_vret F G dX0_copyRow_9 h
set_option maxHeartbeats 4000000 in
set_option maxRecDepth 100000 in
theorem kX1_C0_copyRow_16_13 {p : Program} {l : Launch} {e : Env} {s : State} {m : MethodId} {R : Room} {args : Array Value} {below : List Frame} {meth : Method} {c : Code} {D : va_G} {a : Nat → Nat} {d : Nat → ClassId} {A : Nat → Prop} {Q : State → Prop} {cc : ByteArray} {nL pc cells slots : Nat} {ret : Option FieldType} {ls : Array Slot} {rest : List Value}  {S : CS} {H : Heap} {locs : List Loc} {Q1 : CS → Prop} (F : FC p s m meth c args D a d A RX1 cc nL ret) (G : GC D a d A s.heap S H locs) (hsz : ls.size = nL) (hR : rmX0_copyRow_16_13.frames + 1 ≤ R.frames ∧ 8 + (2 + 11) + rmX0_copyRow_16_13.locals ≤ R.locals) (hc : cells + 0 ≤ R.cells ∧ slots + 0 ≤ R.slots) (hW : (rest.map fun v => v.category).sum ≤ 8) (hd : decode cc pc = .ok (.invokestatic 49, 3)) (h : C0_copyRow_16_13  S Q1) (k : ∀ (S1 : CS) (H : Heap) (locs : List Loc), GC D a d A s.heap S1 H locs → Q1 S1 → W p l e R s m args below meth c H locs cells slots Q (F0 m (pc + 3) ls rest)) : W p l e R s m args below meth c H locs cells slots Q (F0 m pc ls (.ref (a 13) :: .ref (a 16) :: rest)) := by
  obtain ⟨hx, hb, hr, hml, hown, hts, hlocks, hA, hK, hN⟩ := id F
  exact c_callv F G (va_runSN (As := [.ref (a 16), .ref (a 13)]) (rest := rest) ⟨hx, hb, hml, hown, hts⟩ (wC0_copyRow_16_13 H.size  S Q1 h) ⟨va_cnB 2 hts (lw_meth q967) rfl rfl rfl (hN.1 _ (List.mem_of_getElem? (i := 33) rfl)) (hts _ q82) (by decide +kernel) hR, hts _ q966, trivial⟩ ⟨PC_blind, c_pre F G⟩ rfl rfl hsz rfl (lv_room hW) hd hc) k
/-! StrokesHeard$State.copyOf -/
def C1_copyOf_1_4_p71 (Q : CS → Prop) (K18 : Int32 → CS → Prop) (v2 : Int32) (S : CS) : Prop := vp_in v2 6 ∧ (∃ y_46 : Nat, (S.2.1 5 v2.toNatClampNeg) = some y_46 ∧ (vp_in v2 6 ∧ (∃ y_48 : Nat, (S.2.1 8 v2.toNatClampNeg) = some y_48 ∧ (∃ (κ_51 : Nat) (fs_52 : List Value), κ_51 < 6 ∧ has S y_46 (.inr (6 + κ_51, fs_52)) ∧ CV_takes κ_51 y_46 y_48 S (fun S_50 => K18 (v2 + 1) S_50)))))
def C1_copyOf_1_4_p56 (Q : CS → Prop) (K18 : Int32 → CS → Prop) (v2 : Int32) (S : CS) : Prop := vp_in v2 6 ∧ (∃ y_33 : Nat, (S.2.1 8 v2.toNatClampNeg) = some y_33 ∧ (∃ (κ_36 : Nat) (fs_37 : List Value), κ_36 < 6 ∧ has S y_33 (.inr (6 + κ_36, fs_37)) ∧ CV_another κ_36 y_33 S (fun y_34 S_35 => vp_in v2 6 ∧ ∃ (κ_43 : Nat) (fs_41 : List Value), κ_43 < 6 ∧ has S_35 y_34 (.inr (6 + κ_43, fs_41)) ∧ (C1_copyOf_1_4_p71 Q K18 v2 (cR S_35 5 v2 (some y_34))))))
def C1_copyOf_1_4_L18 (Q : CS → Prop)   : Nat → Int32 → CS → Prop
  | 0, _, _ => False
  | n + 1, v2, S => ((S.1 1 1) ≤ v2 → C0_copyRow_12_9  S (fun S_3 => C0_copyRow_16_13  (cF (cF (cF (cF S_3 1 4 (S_3.1 4 4)) 1 5 ((cF S_3 1 4 (S_3.1 4 4)).1 4 5)) 1 6 ((cF (cF S_3 1 4 (S_3.1 4 4)) 1 5 ((cF S_3 1 4 (S_3.1 4 4)).1 4 5)).1 4 6)) 1 7 ((cF (cF (cF S_3 1 4 (S_3.1 4 4)) 1 5 ((cF S_3 1 4 (S_3.1 4 4)).1 4 5)) 1 6 ((cF (cF S_3 1 4 (S_3.1 4 4)) 1 5 ((cF S_3 1 4 (S_3.1 4 4)).1 4 5)).1 4 6)).1 4 7)) (fun S_5 => ¬ (0 : Int32) < 0 ∧ ¬ (0 : Int32) < 0 ∧ ¬ (14 : Int32) < 0 ∧ (0 : Int32).toNatClampNeg + (14 : Int32).toNatClampNeg ≤ 14 ∧ (0 : Int32).toNatClampNeg + (14 : Int32).toNatClampNeg ≤ 14 ∧ (∀ i : Nat, i < (14 : Int32).toNatClampNeg → ∀ y : Nat, (cF (cF S_5 1 9 (S_5.1 4 9)) 1 10 ((cF S_5 1 9 (S_5.1 4 9)).1 4 10)).2.1 20 ((0 : Int32).toNatClampNeg + i) = some y → ∃ fs, has (cF (cF S_5 1 9 (S_5.1 4 9)) 1 10 ((cF S_5 1 9 (S_5.1 4 9)).1 4 10)) y (.inr (13, fs))) ∧ (Q ((cF (cF S_5 1 9 (S_5.1 4 9)) 1 10 ((cF S_5 1 9 (S_5.1 4 9)).1 4 10)).1, u2 (cF (cF S_5 1 9 (S_5.1 4 9)) 1 10 ((cF S_5 1 9 (S_5.1 4 9)).1 4 10)).2.1 17 (va_cpy ((cF (cF S_5 1 9 (S_5.1 4 9)) 1 10 ((cF S_5 1 9 (S_5.1 4 9)).1 4 10)).2.1 20) ((cF (cF S_5 1 9 (S_5.1 4 9)) 1 10 ((cF S_5 1 9 (S_5.1 4 9)).1 4 10)).2.1 17) ((0 : Int32).toNatClampNeg) ((0 : Int32).toNatClampNeg) ((14 : Int32).toNatClampNeg)), (cF (cF S_5 1 9 (S_5.1 4 9)) 1 10 ((cF S_5 1 9 (S_5.1 4 9)).1 4 10)).2.2))))) ∧ (¬ (S.1 1 1) ≤ v2 → vp_in v2 6 ∧ (((S.2.1 5 v2.toNatClampNeg) = none → C1_copyOf_1_4_p56 Q (fun v2_ S_ => C1_copyOf_1_4_L18 Q n v2_ S_) v2 S) ∧ (∀ y_14 : Nat, (S.2.1 5 v2.toNatClampNeg) = some y_14 → vp_in v2 6 ∧ (∃ y_16 : Nat, (S.2.1 5 v2.toNatClampNeg) = some y_16 ∧ (∃ (κ_19 : Nat) (fs_20 : List Value), κ_19 < 6 ∧ has S y_16 (.inr (6 + κ_19, fs_20)) ∧ CV_kind κ_19 y_16 S (fun r_17 S_18 => vp_in v2 6 ∧ (∃ y_24 : Nat, (S_18.2.1 8 v2.toNatClampNeg) = some y_24 ∧ (∃ (κ_27 : Nat) (fs_28 : List Value), κ_27 < 6 ∧ has S_18 y_24 (.inr (6 + κ_27, fs_28)) ∧ CV_kind κ_27 y_24 S_18 (fun r_25 S_26 => (r_17 = r_25 → C1_copyOf_1_4_p71 Q (fun v2_ S_ => C1_copyOf_1_4_L18 Q n v2_ S_) v2 S_26) ∧ (¬ r_17 = r_25 → C1_copyOf_1_4_p56 Q (fun v2_ S_ => C1_copyOf_1_4_L18 Q n v2_ S_) v2 S_26))))))))))
def C1_copyOf_1_4  (S : CS) (Q : CS → Prop) : Prop := ∃ k18, k18 ≤ 7 ∧ C1_copyOf_1_4_L18 Q k18 0 (cF (cF S 1 0 (S.1 4 0)) 1 1 ((cF S 1 0 (S.1 4 0)).1 4 1))
abbrev rmX1_copyOf_1_4 : Room := { frames := 5, cells := 7, slots := 14, locals := 100 }
set_option maxHeartbeats 4000000 in
set_option maxRecDepth 100000 in
theorem wC1_copyOf_1_4_p71 {p : Program} {l : Launch} {e : Env} {s : State} {m : MethodId} {args : Array Value} {below : List Frame} {meth : Method} {c : Code} {D : va_G} {a : Nat → Nat} {d : Nat → ClassId} {A : Nat → Prop} {Q : CS → Prop} {K18 : Int32 → CS → Prop} (F : FC p s m meth c args D a d A RX1 cX1_copyOf 3 none) (v2 : Int32) (S : CS) {nn : Nat} (hK18 : ∀ (v2 : Int32) (S : CS) (H : Heap) (locs : List Loc) (ls : Array Slot) (cells slots : Nat), cells + nn * 1 ≤ 7 → slots + nn * 2 ≤ 14 → GC D a d A s.heap S H locs → lv_has ls 3 [(0, .ref (a 1)), (1, .ref (a 4)), (2, .int v2)] → K18 v2 S → wCv p l e rmX1_copyOf_1_4 s m args below meth c D a d A Q 7 14 H locs cells slots (F0 m 18 ls [])) (cells slots : Nat) (hc1 : cells + nn * 1 + 0 ≤ 7) (hc2 : slots + nn * 2 + 0 ≤ 14) {H : Heap} {locs : List Loc} {ls : Array Slot} (G : GC D a d A s.heap S H locs) (hl : lv_has ls 3 [(0, .ref (a 1)), (1, .ref (a 4)), (2, .int v2)]) (h : C1_copyOf_1_4_p71 Q K18 v2 S) : wCv p l e rmX1_copyOf_1_4 s m args below meth c D a d A Q 7 14 H locs cells slots (F0 m 71 ls []) := by
  obtain ⟨hx, hb, hr, hml, hown, hts, hlocks, hA, hK, hN⟩ := id F
  unfold C1_copyOf_1_4_p71 at h
  refine lv_aload_n hx hb dX1_copyOf_71 rfl (lv_at hl 0 rfl) ?_
  refine cgX1_1_clock F G dX1_copyOf_72 ?_
  refine lv_iload_n hx hb dX1_copyOf_75 rfl (lv_at hl 2 rfl) ?_
  obtain ⟨b_45, h⟩ := h
  refine c_aaload F G cR_5 rfl b_45 dX1_copyOf_76 ?_
  obtain ⟨y_46, hy_46, h⟩ := h
  refine c_nn hy_46 ?_
  refine lv_aload_n hx hb dX1_copyOf_77 rfl (lv_at hl 1 rfl) ?_
  refine cgX1_4_clock F G dX1_copyOf_78 ?_
  refine lv_iload_n hx hb dX1_copyOf_81 rfl (lv_at hl 2 rfl) ?_
  obtain ⟨b_47, h⟩ := h
  refine c_aaload F G cR_8 rfl b_47 dX1_copyOf_82 ?_
  obtain ⟨y_48, hy_48, h⟩ := h
  refine c_nn hy_48 ?_
  obtain ⟨κ_51, fs_52, q_53, z_54, h⟩ := h
  refine kvX1_takes F G q_53 z_54 hl.1 ⟨(Nat.le_of_ble_eq_true rfl), (Nat.le_of_ble_eq_true rfl)⟩ ⟨show _ ≤ 7 by omega, show _ ≤ 14 by omega⟩ (Nat.le_of_ble_eq_true rfl) dX1_copyOf_83 h (fun S_50 H locs G h => ?_)
  refine lv_iinc (v := (v2 + 1)) (lv' := [(2, .int (v2 + 1)), (0, .ref (a 1)), (1, .ref (a 4))]) hx hb dX1_copyOf_86 hl (k := 2) rfl rfl (by decide) rfl (fun ls hl => ?_)
  refine lv_goto (tgt := 18) hx hb dX1_copyOf_89 (by decide) ?_
  exact hK18 (v2 + 1) S_50 _ _ _ cells slots (by omega) (by omega) G (lv_sub hl [1, 2, 0] rfl) h
set_option maxHeartbeats 4000000 in
set_option maxRecDepth 100000 in
theorem wC1_copyOf_1_4_p56 {p : Program} {l : Launch} {e : Env} {s : State} {m : MethodId} {args : Array Value} {below : List Frame} {meth : Method} {c : Code} {D : va_G} {a : Nat → Nat} {d : Nat → ClassId} {A : Nat → Prop} {Q : CS → Prop} {K18 : Int32 → CS → Prop} (F : FC p s m meth c args D a d A RX1 cX1_copyOf 3 none) (v2 : Int32) (S : CS) {nn : Nat} (hK18 : ∀ (v2 : Int32) (S : CS) (H : Heap) (locs : List Loc) (ls : Array Slot) (cells slots : Nat), cells + nn * 1 ≤ 7 → slots + nn * 2 ≤ 14 → GC D a d A s.heap S H locs → lv_has ls 3 [(0, .ref (a 1)), (1, .ref (a 4)), (2, .int v2)] → K18 v2 S → wCv p l e rmX1_copyOf_1_4 s m args below meth c D a d A Q 7 14 H locs cells slots (F0 m 18 ls [])) (cells slots : Nat) (hc1 : cells + nn * 1 + 1 ≤ 7) (hc2 : slots + nn * 2 + 2 ≤ 14) {H : Heap} {locs : List Loc} {ls : Array Slot} (G : GC D a d A s.heap S H locs) (hl : lv_has ls 3 [(0, .ref (a 1)), (1, .ref (a 4)), (2, .int v2)]) (h : C1_copyOf_1_4_p56 Q K18 v2 S) : wCv p l e rmX1_copyOf_1_4 s m args below meth c D a d A Q 7 14 H locs cells slots (F0 m 56 ls []) := by
  obtain ⟨hx, hb, hr, hml, hown, hts, hlocks, hA, hK, hN⟩ := id F
  unfold C1_copyOf_1_4_p56 at h
  refine lv_aload_n hx hb dX1_copyOf_56 rfl (lv_at hl 0 rfl) ?_
  refine cgX1_1_clock F G dX1_copyOf_57 ?_
  refine lv_iload_n hx hb dX1_copyOf_60 rfl (lv_at hl 2 rfl) ?_
  refine lv_aload_n hx hb dX1_copyOf_61 rfl (lv_at hl 1 rfl) ?_
  refine cgX1_4_clock F G dX1_copyOf_62 ?_
  refine lv_iload_n hx hb dX1_copyOf_65 rfl (lv_at hl 2 rfl) ?_
  obtain ⟨b_32, h⟩ := h
  refine c_aaload F G cR_8 rfl b_32 dX1_copyOf_66 ?_
  obtain ⟨y_33, hy_33, h⟩ := h
  refine c_nn hy_33 ?_
  obtain ⟨κ_36, fs_37, q_38, z_39, h⟩ := h
  refine kvX1_another F G q_38 z_39 hl.1 ⟨(Nat.le_of_ble_eq_true rfl), (Nat.le_of_ble_eq_true rfl)⟩ ⟨show _ ≤ 7 by omega, show _ ≤ 14 by omega⟩ (Nat.le_of_ble_eq_true rfl) dX1_copyOf_67 h (fun y_34 S_35 H locs G h => ?_)
  obtain ⟨b_40, κ_43, fs_41, q_44, z_42, h⟩ := h
  refine c_aastore F G cR_5 rfl (p_any_R F G q_44 z_42) b_40 dX1_copyOf_70 (fun H locs G => ?_)
  exact wC1_copyOf_1_4_p71 F v2 (cR S_35 5 v2 (some y_34)) hK18 (cells + 1) (slots + 2) (by omega) (by omega) G (lv_sub hl [0, 1, 2] rfl) h
set_option maxHeartbeats 4000000 in
set_option maxRecDepth 100000 in
theorem wC1_copyOf_1_4_L18 {p : Program} {l : Launch} {e : Env} {s : State} {m : MethodId} {args : Array Value} {below : List Frame} {meth : Method} {c : Code} {D : va_G} {a : Nat → Nat} {d : Nat → ClassId} {A : Nat → Prop} {Q : CS → Prop}  (F : FC p s m meth c args D a d A RX1 cX1_copyOf 3 none)   :
    ∀ (n : Nat) (v2 : Int32) (S : CS) (H : Heap) (locs : List Loc) (ls : Array Slot) (cells slots : Nat), cells + n * 1 ≤ 7 → slots + n * 2 ≤ 14 → GC D a d A s.heap S H locs → lv_has ls 3 [(0, .ref (a 1)), (1, .ref (a 4)), (2, .int v2)] → C1_copyOf_1_4_L18 Q n v2 S → wCv p l e rmX1_copyOf_1_4 s m args below meth c D a d A Q 7 14 H locs cells slots (F0 m 18 ls []) := by
  obtain ⟨hx, hb, hr, hml, hown, hts, hlocks, hA, hK, hN⟩ := id F
  intro n
  induction n with
  | zero => intro v2 S H locs ls cells slots hc1 hc2 G hl h; exact absurd h (fun q => q)
  | succ n ih =>
    intro v2 S H locs ls cells slots hc1 hc2 G hl h
    unfold C1_copyOf_1_4_L18 at h
    refine lv_iload_n hx hb dX1_copyOf_18 rfl (lv_at hl 2 rfl) ?_
    refine lv_aload_n hx hb dX1_copyOf_19 rfl (lv_at hl 0 rfl) ?_
    refine cgX1_1_many F G dX1_copyOf_20 ?_
    refine lv_icmp_ge (tgt := 92) hx hb dX1_copyOf_23 (by decide) (fun c_1 => ?_) (fun c_1 => ?_)
    · replace h := h.1 c_1
      refine lv_aload_n hx hb dX1_copyOf_92 rfl (lv_at hl 1 rfl) ?_
      refine cgX1_4_bed F G dX1_copyOf_93 ?_
      refine lv_aload_n hx hb dX1_copyOf_96 rfl (lv_at hl 0 rfl) ?_
      refine cgX1_1_bed F G dX1_copyOf_97 ?_
      refine kX1_C0_copyRow_12_9 F G hl.1 ⟨(Nat.le_of_ble_eq_true rfl), (Nat.le_of_ble_eq_true rfl)⟩ ⟨show _ ≤ 7 by omega, show _ ≤ 14 by omega⟩ (Nat.le_of_ble_eq_true rfl) dX1_copyOf_100 h (fun S_3 H locs G h => ?_)
      refine lv_aload_n hx hb dX1_copyOf_103 rfl (lv_at hl 0 rfl) ?_
      refine lv_aload_n hx hb dX1_copyOf_104 rfl (lv_at hl 1 rfl) ?_
      refine cgX1_4_heard F G dX1_copyOf_105 ?_
      refine cpX1_1_heard F G dX1_copyOf_108 (fun H locs G => ?_)
      refine lv_aload_n hx hb dX1_copyOf_111 rfl (lv_at hl 0 rfl) ?_
      refine lv_aload_n hx hb dX1_copyOf_112 rfl (lv_at hl 1 rfl) ?_
      refine cgX1_4_missed F G dX1_copyOf_113 ?_
      refine cpX1_1_missed F G dX1_copyOf_116 (fun H locs G => ?_)
      refine lv_aload_n hx hb dX1_copyOf_119 rfl (lv_at hl 0 rfl) ?_
      refine lv_aload_n hx hb dX1_copyOf_120 rfl (lv_at hl 1 rfl) ?_
      refine cgX1_4_mistaken F G dX1_copyOf_121 ?_
      refine cpX1_1_mistaken F G dX1_copyOf_124 (fun H locs G => ?_)
      refine lv_aload_n hx hb dX1_copyOf_127 rfl (lv_at hl 0 rfl) ?_
      refine lv_aload_n hx hb dX1_copyOf_128 rfl (lv_at hl 1 rfl) ?_
      refine cgX1_4_minute F G dX1_copyOf_129 ?_
      refine cpX1_1_minute F G dX1_copyOf_132 (fun H locs G => ?_)
      refine lv_aload_n hx hb dX1_copyOf_135 rfl (lv_at hl 1 rfl) ?_
      refine cgX1_4_note F G dX1_copyOf_136 ?_
      refine lv_aload_n hx hb dX1_copyOf_139 rfl (lv_at hl 0 rfl) ?_
      refine cgX1_1_note F G dX1_copyOf_140 ?_
      refine kX1_C0_copyRow_16_13 F G hl.1 ⟨(Nat.le_of_ble_eq_true rfl), (Nat.le_of_ble_eq_true rfl)⟩ ⟨show _ ≤ 7 by omega, show _ ≤ 14 by omega⟩ (Nat.le_of_ble_eq_true rfl) dX1_copyOf_143 h (fun S_5 H locs G h => ?_)
      refine lv_aload_n hx hb dX1_copyOf_146 rfl (lv_at hl 0 rfl) ?_
      refine lv_aload_n hx hb dX1_copyOf_147 rfl (lv_at hl 1 rfl) ?_
      refine cgX1_4_notes F G dX1_copyOf_148 ?_
      refine cpX1_1_notes F G dX1_copyOf_151 (fun H locs G => ?_)
      refine lv_aload_n hx hb dX1_copyOf_154 rfl (lv_at hl 0 rfl) ?_
      refine lv_aload_n hx hb dX1_copyOf_155 rfl (lv_at hl 1 rfl) ?_
      refine cgX1_4_texts F G dX1_copyOf_156 ?_
      refine cpX1_1_texts F G dX1_copyOf_159 (fun H locs G => ?_)
      refine lv_aload_n hx hb dX1_copyOf_162 rfl (lv_at hl 1 rfl) ?_
      refine cgX1_4_text F G dX1_copyOf_163 ?_
      refine lv_iconst (v := 0) hx hb dX1_copyOf_166 (by decide) ?_
      refine lv_aload_n hx hb dX1_copyOf_167 rfl (lv_at hl 0 rfl) ?_
      refine cgX1_1_text F G dX1_copyOf_168 ?_
      refine lv_iconst (v := 0) hx hb dX1_copyOf_171 (by decide) ?_
      refine lv_bipush (v := 14) hx hb dX1_copyOf_172 (by decide) ?_
      obtain ⟨b_6, b_7, b_8, b_9, b_10, b_11, h⟩ := h
      refine c_copy_r_X1 F G cR_20 cR_17 hl.1 b_6 b_7 b_8 b_9 b_10 b_11 (Nat.le_of_ble_eq_true rfl) (by decide) dX1_copyOf_174 (fun H locs G => ?_)
      refine W.widen (k := 7) (n := 14) (by omega) (by omega) ?_
      exact c_vret F G dX1_copyOf_177 h
    · replace h := h.2 c_1
      refine lv_aload_n hx hb dX1_copyOf_26 rfl (lv_at hl 0 rfl) ?_
      refine cgX1_1_clock F G dX1_copyOf_27 ?_
      refine lv_iload_n hx hb dX1_copyOf_30 rfl (lv_at hl 2 rfl) ?_
      obtain ⟨b_12, h⟩ := h
      refine c_aaload F G cR_5 rfl b_12 dX1_copyOf_31 ?_
      refine c_ifnull (tgt := 56) hx hb dX1_copyOf_32 (by decide) (fun c_13 => ?_) (fun y_14 c_13 => ?_)
      · replace h := h.1 c_13
        exact wC1_copyOf_1_4_p56 F v2 S ih cells slots (by omega) (by omega) G (lv_sub hl [0, 1, 2] rfl) h
      · replace h := h.2 y_14 c_13
        refine lv_aload_n hx hb dX1_copyOf_35 rfl (lv_at hl 0 rfl) ?_
        refine cgX1_1_clock F G dX1_copyOf_36 ?_
        refine lv_iload_n hx hb dX1_copyOf_39 rfl (lv_at hl 2 rfl) ?_
        obtain ⟨b_15, h⟩ := h
        refine c_aaload F G cR_5 rfl b_15 dX1_copyOf_40 ?_
        obtain ⟨y_16, hy_16, h⟩ := h
        refine c_nn hy_16 ?_
        obtain ⟨κ_19, fs_20, q_21, z_22, h⟩ := h
        refine kvX1_kind F G q_21 z_22 hl.1 ⟨(Nat.le_of_ble_eq_true rfl), (Nat.le_of_ble_eq_true rfl)⟩ ⟨show _ ≤ 7 by omega, show _ ≤ 14 by omega⟩ (Nat.le_of_ble_eq_true rfl) dX1_copyOf_41 h (fun r_17 S_18 H locs G h => ?_)
        refine lv_aload_n hx hb dX1_copyOf_44 rfl (lv_at hl 1 rfl) ?_
        refine cgX1_4_clock F G dX1_copyOf_45 ?_
        refine lv_iload_n hx hb dX1_copyOf_48 rfl (lv_at hl 2 rfl) ?_
        obtain ⟨b_23, h⟩ := h
        refine c_aaload F G cR_8 rfl b_23 dX1_copyOf_49 ?_
        obtain ⟨y_24, hy_24, h⟩ := h
        refine c_nn hy_24 ?_
        obtain ⟨κ_27, fs_28, q_29, z_30, h⟩ := h
        refine kvX1_kind F G q_29 z_30 hl.1 ⟨(Nat.le_of_ble_eq_true rfl), (Nat.le_of_ble_eq_true rfl)⟩ ⟨show _ ≤ 7 by omega, show _ ≤ 14 by omega⟩ (Nat.le_of_ble_eq_true rfl) dX1_copyOf_50 h (fun r_25 S_26 H locs G h => ?_)
        refine lv_icmp_eq (tgt := 71) hx hb dX1_copyOf_53 (by decide) (fun c_31 => ?_) (fun c_31 => ?_)
        · replace h := h.1 c_31
          exact wC1_copyOf_1_4_p71 F v2 S_26 ih cells slots (by omega) (by omega) G (lv_sub hl [0, 1, 2] rfl) h
        · replace h := h.2 c_31
          exact wC1_copyOf_1_4_p56 F v2 S_26 ih cells slots (by omega) (by omega) G (lv_sub hl [0, 1, 2] rfl) h
set_option maxHeartbeats 4000000 in
set_option maxRecDepth 100000 in
theorem wC1_copyOf_1_4 {l : Launch} {D : va_G} {a : Nat → Nat} {d : Nat → ClassId} (sz : Nat)  (S : CS) (Q : CS → Prop) (h : C1_copyOf_1_4  S Q) : CMv l D a d yX1_copyOf cX1_copyOf 3 rmX1_copyOf_1_4 7 14 [.ref (a 1), .ref (a 4)] sz S Q := by
  refine c_enter (Qc := fun A => va_Qv Q (BC D a d A) A) RX1 (by decide +kernel) rfl (Nat.le_of_ble_eq_true rfl) ?_
  intro p e s m below meth c ls A hmn F hG hl
  have G := hG
  have hl : lv_has ls 3 [(0, .ref (a 1)), (1, .ref (a 4))] := hl
  obtain ⟨hx, hb, hr, hml, hown, hts, hlocks, hA, hK, hN⟩ := id F
  unfold C1_copyOf_1_4 at h
  refine lv_aload_n hx hb dX1_copyOf_0 rfl (lv_at hl 0 rfl) ?_
  refine lv_aload_n hx hb dX1_copyOf_1 rfl (lv_at hl 1 rfl) ?_
  refine cgX1_4_z F G dX1_copyOf_2 ?_
  refine cpX1_1_z F G dX1_copyOf_5 (fun H locs G => ?_)
  refine lv_aload_n hx hb dX1_copyOf_8 rfl (lv_at hl 0 rfl) ?_
  refine lv_aload_n hx hb dX1_copyOf_9 rfl (lv_at hl 1 rfl) ?_
  refine cgX1_4_many F G dX1_copyOf_10 ?_
  refine cpX1_1_many F G dX1_copyOf_13 (fun H locs G => ?_)
  refine lv_iconst (v := 0) hx hb dX1_copyOf_16 (by decide) ?_
  refine lv_istore_n (lv' := [(2, .int 0), (0, .ref (a 1)), (1, .ref (a 4))]) hx hb dX1_copyOf_17 rfl hl (by decide) rfl (fun ls hl => ?_)
  obtain ⟨k18, hk18, h⟩ := h
  exact wC1_copyOf_1_4_L18 F   k18 0 (cF (cF S 1 0 (S.1 4 0)) 1 1 ((cF S 1 0 (S.1 4 0)).1 4 1)) _ _ _ 0 0 (by omega) (by omega) G (lv_sub hl [1, 2, 0] rfl) h
set_option maxHeartbeats 4000000 in
set_option maxRecDepth 100000 in
theorem kX0_C1_copyOf_1_4 {p : Program} {l : Launch} {e : Env} {s : State} {m : MethodId} {R : Room} {args : Array Value} {below : List Frame} {meth : Method} {c : Code} {D : va_G} {a : Nat → Nat} {d : Nat → ClassId} {A : Nat → Prop} {Q : State → Prop} {cc : ByteArray} {nL pc cells slots : Nat} {ret : Option FieldType} {ls : Array Slot} {rest : List Value}  {S : CS} {H : Heap} {locs : List Loc} {Q1 : CS → Prop} (F : FC p s m meth c args D a d A RX0 cc nL ret) (G : GC D a d A s.heap S H locs) (hsz : ls.size = nL) (hR : rmX1_copyOf_1_4.frames + 1 ≤ R.frames ∧ 8 + (3 + 11) + rmX1_copyOf_1_4.locals ≤ R.locals) (hc : cells + 7 ≤ R.cells ∧ slots + 14 ≤ R.slots) (hW : (rest.map fun v => v.category).sum ≤ 8) (hd : decode cc pc = .ok (.invokevirtual 403, 3)) (h : C1_copyOf_1_4  S Q1) (k : ∀ (S1 : CS) (H : Heap) (locs : List Loc), GC D a d A s.heap S1 H locs → Q1 S1 → W p l e R s m args below meth c H locs (cells + 7) (slots + 14) Q (F0 m (pc + 3) ls rest)) : W p l e R s m args below meth c H locs cells slots Q (F0 m pc ls (.ref (a 4) :: .ref (a 1) :: rest)) := by
  obtain ⟨hx, hb, hr, hml, hown, hts, hlocks, hA, hK, hN⟩ := id F
  exact c_callv F G (va_runV (As := [.ref (a 4)]) (rest := rest) ⟨hx, hb, hml, hown, hts⟩ (wC1_copyOf_1_4 H.size  S Q1 h) (cwV 1 hts (lw_V q927 q928 q929 q83 q930) rfl rfl rfl (by decide +kernel) hR) ⟨PC_blind, va_recv hK G.1 (ci := 1) (q0 := 1) rfl rfl, c_pre F G⟩ rfl rfl hsz rfl (lv_room hW) hd hc) k
/-! StrokesHeard.putsBack -/
def C0_putsBack  (S : CS) (Q : CS → Prop) : Prop := C1_copyOf_1_4  S (fun S_2 => Q S_2)
abbrev rmX0_putsBack : Room := { frames := 6, cells := 7, slots := 14, locals := 122 }
set_option maxHeartbeats 4000000 in
set_option maxRecDepth 100000 in
theorem wC0_putsBack {l : Launch} {D : va_G} {a : Nat → Nat} {d : Nat → ClassId} (sz : Nat)  (S : CS) (Q : CS → Prop) (h : C0_putsBack  S Q) : CMv l D a d yX0_putsBack cX0_putsBack 1 rmX0_putsBack 7 14 [.ref (a 0)] sz S Q := by
  refine c_enter (Qc := fun A => va_Qv Q (BC D a d A) A) RX0 (by decide +kernel) rfl (Nat.le_of_ble_eq_true rfl) ?_
  intro p e s m below meth c ls A hmn F hG hl
  have G := hG
  have hl : lv_has ls 1 [(0, .ref (a 0))] := hl
  obtain ⟨hx, hb, hr, hml, hown, hts, hlocks, hA, hK, hN⟩ := id F
  unfold C0_putsBack at h
  refine lv_aload_n hx hb dX0_putsBack_0 rfl (lv_at hl 0 rfl) ?_
  refine cgX0_0_now F G dX0_putsBack_1 ?_
  refine lv_aload_n hx hb dX0_putsBack_4 rfl (lv_at hl 0 rfl) ?_
  refine cgX0_0_before F G dX0_putsBack_5 ?_
  refine kX0_C1_copyOf_1_4 F G hl.1 ⟨(Nat.le_of_ble_eq_true rfl), (Nat.le_of_ble_eq_true rfl)⟩ ⟨(Nat.le_of_ble_eq_true rfl), (Nat.le_of_ble_eq_true rfl)⟩ (Nat.le_of_ble_eq_true rfl) dX0_putsBack_8 h (fun S_2 H locs G h => ?_)
  exact c_vret F G dX0_putsBack_11 h
set_option maxHeartbeats 4000000 in
set_option maxRecDepth 100000 in
theorem kX0_C0_putsBack {p : Program} {l : Launch} {e : Env} {s : State} {m : MethodId} {R : Room} {args : Array Value} {below : List Frame} {meth : Method} {c : Code} {D : va_G} {a : Nat → Nat} {d : Nat → ClassId} {A : Nat → Prop} {Q : State → Prop} {cc : ByteArray} {nL pc cells slots : Nat} {ret : Option FieldType} {ls : Array Slot} {rest : List Value}  {S : CS} {H : Heap} {locs : List Loc} {Q1 : CS → Prop} (F : FC p s m meth c args D a d A RX0 cc nL ret) (G : GC D a d A s.heap S H locs) (hsz : ls.size = nL) (hR : rmX0_putsBack.frames + 1 ≤ R.frames ∧ 8 + (1 + 11) + rmX0_putsBack.locals ≤ R.locals) (hc : cells + 7 ≤ R.cells ∧ slots + 14 ≤ R.slots) (hW : (rest.map fun v => v.category).sum ≤ 8) (hd : decode cc pc = .ok (.invokevirtual 410, 3)) (h : C0_putsBack  S Q1) (k : ∀ (S1 : CS) (H : Heap) (locs : List Loc), GC D a d A s.heap S1 H locs → Q1 S1 → W p l e R s m args below meth c H locs (cells + 7) (slots + 14) Q (F0 m (pc + 3) ls rest)) : W p l e R s m args below meth c H locs cells slots Q (F0 m pc ls (.ref (a 0) :: rest)) := by
  obtain ⟨hx, hb, hr, hml, hown, hts, hlocks, hA, hK, hN⟩ := id F
  exact c_callv F G (va_runV (As := []) (rest := rest) ⟨hx, hb, hml, hown, hts⟩ (wC0_putsBack H.size  S Q1 h) (cwV 0 hts (lw_V q969 q971 qs34 q82 q972) rfl rfl rfl (by decide +kernel) hR) ⟨PC_blind, va_recv hK G.1 (ci := 0) (q0 := 0) rfl rfl, c_pre F G⟩ rfl rfl hsz rfl (lv_room hW) hd hc) k
/-! StrokesHeard.behind -/
def C0_behind_p83 (Q : Int32 → CS → Prop)  (t0 : Int32) (S : CS) : Prop := C0_putsBack  S (fun S_19 => Q t0 S_19)
def C0_behind (v1 : Int32) (v2 : Int32) (S : CS) (Q : Int32 → CS → Prop) : Prop := C0_isIn v1 0 100 S (fun r_1 S_2 => (r_1 = 0 → Q (-1000000001) S_2) ∧ (¬ r_1 = 0 → C0_isIn v2 0 3 S_2 (fun r_4 S_5 => (¬ r_4 = 0 → C0_thinks  S_5 (fun S_8 => C0_goesOn v1 S_8 (fun S_10 => C0_addsUpAll  S_10 (fun S_12 => (¬ v2 = 0 → (¬ v2 = 1 → (¬ v2 = 2 → C0_holds  S_12 (fun r_16 S_17 => C0_behind_p83 Q r_16 S_17)) ∧ (v2 = 2 → C0_behind_p83 Q (S_12.1 1 6) S_12)) ∧ (v2 = 1 → C0_behind_p83 Q (S_12.1 1 5) S_12)) ∧ (v2 = 0 → C0_behind_p83 Q (S_12.1 1 4) S_12))))) ∧ (r_4 = 0 → Q (-1000000001) S_5))))
abbrev rmX0_behind : Room := { frames := 7, cells := 14, slots := 28, locals := 159 }
set_option maxHeartbeats 4000000 in
set_option maxRecDepth 100000 in
theorem wC0_behind_p83 {p : Program} {l : Launch} {e : Env} {s : State} {m : MethodId} {args : Array Value} {below : List Frame} {meth : Method} {c : Code} {D : va_G} {a : Nat → Nat} {d : Nat → ClassId} {A : Nat → Prop} {Q : Int32 → CS → Prop}  (F : FC p s m meth c args D a d A RX0 cX0_behind 4 (some .int)) (t0 : Int32) (S : CS)  {H : Heap} {locs : List Loc} {ls : Array Slot} (G : GC D a d A s.heap S H locs) (hl : lv_has ls 4 [(0, .ref (a 0))]) (h : C0_behind_p83 Q t0 S) : wCi p l e rmX0_behind s m args below meth c D a d A Q 14 28 H locs 7 14 (F0 m 83 ls [.int t0]) := by
  obtain ⟨hx, hb, hr, hml, hown, hts, hlocks, hA, hK, hN⟩ := id F
  unfold C0_behind_p83 at h
  refine lv_istore_n (lv' := [(3, .int t0), (0, .ref (a 0))]) hx hb dX0_behind_83 rfl hl (by decide) rfl (fun ls hl => ?_)
  refine lv_aload_n hx hb dX0_behind_84 rfl (lv_at hl 1 rfl) ?_
  refine kX0_C0_putsBack F G hl.1 ⟨(Nat.le_of_ble_eq_true rfl), (Nat.le_of_ble_eq_true rfl)⟩ ⟨(Nat.le_of_ble_eq_true rfl), (Nat.le_of_ble_eq_true rfl)⟩ (Nat.le_of_ble_eq_true rfl) dX0_behind_85 h (fun S_19 H locs G h => ?_)
  refine lv_iload_n hx hb dX0_behind_88 rfl (lv_at hl 0 rfl) ?_
  exact c_iret F G dX0_behind_89 h
set_option maxHeartbeats 4000000 in
set_option maxRecDepth 100000 in
theorem wC0_behind {l : Launch} {D : va_G} {a : Nat → Nat} {d : Nat → ClassId} (sz : Nat) (v1 : Int32) (v2 : Int32) (S : CS) (Q : Int32 → CS → Prop) (h : C0_behind v1 v2 S Q) : CMi l D a d yX0_behind cX0_behind 4 .int rmX0_behind 14 28 [.ref (a 0), .int v1, .int v2] sz S Q := by
  refine c_enter (Qc := fun A => va_Qi Q (BC D a d A) A) RX0 (by decide +kernel) rfl (Nat.le_of_ble_eq_true rfl) ?_
  intro p e s m below meth c ls A hmn F hG hl
  have G := hG
  have hl : lv_has ls 4 [(0, .ref (a 0)), (1, .int v1), (2, .int v2)] := hl
  obtain ⟨hx, hb, hr, hml, hown, hts, hlocks, hA, hK, hN⟩ := id F
  unfold C0_behind at h
  refine lv_iload_n hx hb dX0_behind_0 rfl (lv_at hl 1 rfl) ?_
  refine lv_iconst (v := 0) hx hb dX0_behind_1 (by decide) ?_
  refine lv_bipush (v := 100) hx hb dX0_behind_2 (by decide) ?_
  refine kX0_C0_isIn F G hl.1 ⟨(Nat.le_of_ble_eq_true rfl), (Nat.le_of_ble_eq_true rfl)⟩ ⟨(Nat.le_of_ble_eq_true rfl), (Nat.le_of_ble_eq_true rfl)⟩ (Nat.le_of_ble_eq_true rfl) dX0_behind_4 h (fun r_1 S_2 H locs G h => ?_)
  refine lv_if_eq (tgt := 19) hx hb dX0_behind_7 (by decide) (fun c_3 => ?_) (fun c_3 => ?_)
  · replace h := h.1 c_3
    refine lv_ldc hx hb hown (hts _ q368) dX0_behind_19 ?_
    refine W.widen (k := 14) (n := 28) (by decide) (by decide) ?_
    exact c_iret F G dX0_behind_21 h
  · replace h := h.2 c_3
    refine lv_iload_n hx hb dX0_behind_10 rfl (lv_at hl 2 rfl) ?_
    refine lv_iconst (v := 0) hx hb dX0_behind_11 (by decide) ?_
    refine lv_iconst (v := 3) hx hb dX0_behind_12 (by decide) ?_
    refine kX0_C0_isIn F G hl.1 ⟨(Nat.le_of_ble_eq_true rfl), (Nat.le_of_ble_eq_true rfl)⟩ ⟨(Nat.le_of_ble_eq_true rfl), (Nat.le_of_ble_eq_true rfl)⟩ (Nat.le_of_ble_eq_true rfl) dX0_behind_13 h (fun r_4 S_5 H locs G h => ?_)
    refine lv_if_ne (tgt := 22) hx hb dX0_behind_16 (by decide) (fun c_6 => ?_) (fun c_6 => ?_)
    · replace h := h.1 c_6
      refine lv_aload_n hx hb dX0_behind_22 rfl (lv_at hl 0 rfl) ?_
      refine kX0_C0_thinks F G hl.1 ⟨(Nat.le_of_ble_eq_true rfl), (Nat.le_of_ble_eq_true rfl)⟩ ⟨(Nat.le_of_ble_eq_true rfl), (Nat.le_of_ble_eq_true rfl)⟩ (Nat.le_of_ble_eq_true rfl) dX0_behind_23 h (fun S_8 H locs G h => ?_)
      refine lv_aload_n hx hb dX0_behind_26 rfl (lv_at hl 0 rfl) ?_
      refine lv_iload_n hx hb dX0_behind_27 rfl (lv_at hl 1 rfl) ?_
      refine kX0_C0_goesOn F G hl.1 ⟨(Nat.le_of_ble_eq_true rfl), (Nat.le_of_ble_eq_true rfl)⟩ ⟨(Nat.le_of_ble_eq_true rfl), (Nat.le_of_ble_eq_true rfl)⟩ (Nat.le_of_ble_eq_true rfl) dX0_behind_28 h (fun S_10 H locs G h => ?_)
      refine lv_aload_n hx hb dX0_behind_31 rfl (lv_at hl 0 rfl) ?_
      refine kX0_C0_addsUpAll F G hl.1 ⟨(Nat.le_of_ble_eq_true rfl), (Nat.le_of_ble_eq_true rfl)⟩ ⟨(Nat.le_of_ble_eq_true rfl), (Nat.le_of_ble_eq_true rfl)⟩ (Nat.le_of_ble_eq_true rfl) dX0_behind_32 h (fun S_12 H locs G h => ?_)
      refine lv_iload_n hx hb dX0_behind_35 rfl (lv_at hl 2 rfl) ?_
      refine lv_if_ne (tgt := 49) hx hb dX0_behind_36 (by decide) (fun c_13 => ?_) (fun c_13 => ?_)
      · replace h := h.1 c_13
        refine lv_iload_n hx hb dX0_behind_49 rfl (lv_at hl 2 rfl) ?_
        refine lv_iconst (v := 1) hx hb dX0_behind_50 (by decide) ?_
        refine lv_icmp_ne (tgt := 64) hx hb dX0_behind_51 (by decide) (fun c_14 => ?_) (fun c_14 => ?_)
        · replace h := h.1 c_14
          refine lv_iload_n hx hb dX0_behind_64 rfl (lv_at hl 2 rfl) ?_
          refine lv_iconst (v := 2) hx hb dX0_behind_65 (by decide) ?_
          refine lv_icmp_ne (tgt := 79) hx hb dX0_behind_66 (by decide) (fun c_15 => ?_) (fun c_15 => ?_)
          · replace h := h.1 c_15
            refine lv_aload_n hx hb dX0_behind_79 rfl (lv_at hl 0 rfl) ?_
            refine kX0_C0_holds F G hl.1 ⟨(Nat.le_of_ble_eq_true rfl), (Nat.le_of_ble_eq_true rfl)⟩ ⟨(Nat.le_of_ble_eq_true rfl), (Nat.le_of_ble_eq_true rfl)⟩ (Nat.le_of_ble_eq_true rfl) dX0_behind_80 h (fun r_16 S_17 H locs G h => ?_)
            exact wC0_behind_p83 F r_16 S_17  G (lv_sub hl [0] rfl) h
          · replace h := h.2 c_15
            refine lv_aload_n hx hb dX0_behind_69 rfl (lv_at hl 0 rfl) ?_
            refine cgX0_0_now F G dX0_behind_70 ?_
            refine cgX0_1_mistaken F G dX0_behind_73 ?_
            refine lv_goto (tgt := 83) hx hb dX0_behind_76 (by decide) ?_
            exact wC0_behind_p83 F (S_12.1 1 6) S_12  G (lv_sub hl [0] rfl) h
        · replace h := h.2 c_14
          refine lv_aload_n hx hb dX0_behind_54 rfl (lv_at hl 0 rfl) ?_
          refine cgX0_0_now F G dX0_behind_55 ?_
          refine cgX0_1_missed F G dX0_behind_58 ?_
          refine lv_goto (tgt := 83) hx hb dX0_behind_61 (by decide) ?_
          exact wC0_behind_p83 F (S_12.1 1 5) S_12  G (lv_sub hl [0] rfl) h
      · replace h := h.2 c_13
        refine lv_aload_n hx hb dX0_behind_39 rfl (lv_at hl 0 rfl) ?_
        refine cgX0_0_now F G dX0_behind_40 ?_
        refine cgX0_1_heard F G dX0_behind_43 ?_
        refine lv_goto (tgt := 83) hx hb dX0_behind_46 (by decide) ?_
        exact wC0_behind_p83 F (S_12.1 1 4) S_12  G (lv_sub hl [0] rfl) h
    · replace h := h.2 c_6
      refine lv_ldc hx hb hown (hts _ q368) dX0_behind_19 ?_
      refine W.widen (k := 14) (n := 28) (by decide) (by decide) ?_
      exact c_iret F G dX0_behind_21 h
/-! StrokesHeard.listen -/
def C0_listen_p29 (Q : Int32 → CS → Prop)  (v1 : Int32) (S : CS) : Prop := C0_putsBack  S (fun S_10 => (60 < v1 → Q (-1000000005) S_10) ∧ (¬ 60 < v1 → Q v1 S_10))
def C0_listen_L6 (Q : Int32 → CS → Prop)   : Nat → Int32 → CS → Prop
  | 0, _, _ => False
  | n + 1, v1, S => (60 < v1 → C0_listen_p29 Q v1 S) ∧ (¬ 60 < v1 → C0_isSure  S (fun r_4 S_5 => (¬ r_4 = 0 → C0_listen_p29 Q v1 S_5) ∧ (r_4 = 0 → C0_aMinute  S_5 (fun S_8 => C0_listen_L6 Q n (v1 + 1) S_8))))
def C0_listen  (S : CS) (Q : Int32 → CS → Prop) : Prop := C0_thinks  S (fun S_2 => ∃ k6, C0_listen_L6 Q k6 0 S_2)
abbrev rmX0_listen : Room := { frames := 8, cells := 14, slots := 28, locals := 177 }
set_option maxHeartbeats 4000000 in
set_option maxRecDepth 100000 in
theorem wC0_listen_p29 {p : Program} {l : Launch} {e : Env} {s : State} {m : MethodId} {args : Array Value} {below : List Frame} {meth : Method} {c : Code} {D : va_G} {a : Nat → Nat} {d : Nat → ClassId} {A : Nat → Prop} {Q : Int32 → CS → Prop}  (F : FC p s m meth c args D a d A RX0 cX0_listen 2 (some .int)) (v1 : Int32) (S : CS)  {H : Heap} {locs : List Loc} {ls : Array Slot} (G : GC D a d A s.heap S H locs) (hl : lv_has ls 2 [(0, .ref (a 0)), (1, .int v1)]) (h : C0_listen_p29 Q v1 S) : wCi p l e rmX0_listen s m args below meth c D a d A Q 14 28 H locs 7 14 (F0 m 29 ls []) := by
  obtain ⟨hx, hb, hr, hml, hown, hts, hlocks, hA, hK, hN⟩ := id F
  unfold C0_listen_p29 at h
  refine lv_aload_n hx hb dX0_listen_29 rfl (lv_at hl 0 rfl) ?_
  refine kX0_C0_putsBack F G hl.1 ⟨(Nat.le_of_ble_eq_true rfl), (Nat.le_of_ble_eq_true rfl)⟩ ⟨(Nat.le_of_ble_eq_true rfl), (Nat.le_of_ble_eq_true rfl)⟩ (Nat.le_of_ble_eq_true rfl) dX0_listen_30 h (fun S_10 H locs G h => ?_)
  refine lv_iload_n hx hb dX0_listen_33 rfl (lv_at hl 1 rfl) ?_
  refine lv_bipush (v := 60) hx hb dX0_listen_34 (by decide) ?_
  refine lv_icmp_gt (tgt := 43) hx hb dX0_listen_36 (by decide) (fun c_11 => ?_) (fun c_11 => ?_)
  · replace h := h.1 c_11
    refine lv_ldc hx hb hown (hts _ q547) dX0_listen_43 ?_
    exact c_iret F G dX0_listen_45 h
  · replace h := h.2 c_11
    refine lv_iload_n hx hb dX0_listen_39 rfl (lv_at hl 1 rfl) ?_
    refine lv_goto (tgt := 45) hx hb dX0_listen_40 (by decide) ?_
    exact c_iret F G dX0_listen_45 h
set_option maxHeartbeats 4000000 in
set_option maxRecDepth 100000 in
theorem wC0_listen_L6 {p : Program} {l : Launch} {e : Env} {s : State} {m : MethodId} {args : Array Value} {below : List Frame} {meth : Method} {c : Code} {D : va_G} {a : Nat → Nat} {d : Nat → ClassId} {A : Nat → Prop} {Q : Int32 → CS → Prop}  (F : FC p s m meth c args D a d A RX0 cX0_listen 2 (some .int))   :
    ∀ (n : Nat) (v1 : Int32) (S : CS) (H : Heap) (locs : List Loc) (ls : Array Slot), GC D a d A s.heap S H locs → lv_has ls 2 [(0, .ref (a 0)), (1, .int v1)] → C0_listen_L6 Q n v1 S → wCi p l e rmX0_listen s m args below meth c D a d A Q 14 28 H locs 7 14 (F0 m 6 ls []) := by
  obtain ⟨hx, hb, hr, hml, hown, hts, hlocks, hA, hK, hN⟩ := id F
  intro n
  induction n with
  | zero => intro v1 S H locs ls G hl h; exact absurd h (fun q => q)
  | succ n ih =>
    intro v1 S H locs ls G hl h
    unfold C0_listen_L6 at h
    refine lv_iload_n hx hb dX0_listen_6 rfl (lv_at hl 1 rfl) ?_
    refine lv_bipush (v := 60) hx hb dX0_listen_7 (by decide) ?_
    refine lv_icmp_gt (tgt := 29) hx hb dX0_listen_9 (by decide) (fun c_3 => ?_) (fun c_3 => ?_)
    · replace h := h.1 c_3
      exact wC0_listen_p29 F v1 S  G (lv_sub hl [0, 1] rfl) h
    · replace h := h.2 c_3
      refine lv_aload_n hx hb dX0_listen_12 rfl (lv_at hl 0 rfl) ?_
      refine kX0_C0_isSure F G hl.1 ⟨(Nat.le_of_ble_eq_true rfl), (Nat.le_of_ble_eq_true rfl)⟩ ⟨(Nat.le_of_ble_eq_true rfl), (Nat.le_of_ble_eq_true rfl)⟩ (Nat.le_of_ble_eq_true rfl) dX0_listen_13 h (fun r_4 S_5 H locs G h => ?_)
      refine lv_if_ne (tgt := 29) hx hb dX0_listen_16 (by decide) (fun c_6 => ?_) (fun c_6 => ?_)
      · replace h := h.1 c_6
        exact wC0_listen_p29 F v1 S_5  G (lv_sub hl [0, 1] rfl) h
      · replace h := h.2 c_6
        refine lv_aload_n hx hb dX0_listen_19 rfl (lv_at hl 0 rfl) ?_
        refine kX0_C0_aMinute F G hl.1 ⟨(Nat.le_of_ble_eq_true rfl), (Nat.le_of_ble_eq_true rfl)⟩ ⟨(Nat.le_of_ble_eq_true rfl), (Nat.le_of_ble_eq_true rfl)⟩ (Nat.le_of_ble_eq_true rfl) dX0_listen_20 h (fun S_8 H locs G h => ?_)
        refine lv_iinc (v := (v1 + 1)) (lv' := [(1, .int (v1 + 1)), (0, .ref (a 0))]) hx hb dX0_listen_23 hl (k := 1) rfl rfl (by decide) rfl (fun ls hl => ?_)
        refine lv_goto (tgt := 6) hx hb dX0_listen_26 (by decide) ?_
        exact ih (v1 + 1) S_8 _ _ _ G (lv_sub hl [1, 0] rfl) h
set_option maxHeartbeats 4000000 in
set_option maxRecDepth 100000 in
theorem wC0_listen {l : Launch} {D : va_G} {a : Nat → Nat} {d : Nat → ClassId} (sz : Nat)  (S : CS) (Q : Int32 → CS → Prop) (h : C0_listen  S Q) : CMi l D a d yX0_listen cX0_listen 2 .int rmX0_listen 14 28 [.ref (a 0)] sz S Q := by
  refine c_enter (Qc := fun A => va_Qi Q (BC D a d A) A) RX0 (by decide +kernel) rfl (Nat.le_of_ble_eq_true rfl) ?_
  intro p e s m below meth c ls A hmn F hG hl
  have G := hG
  have hl : lv_has ls 2 [(0, .ref (a 0))] := hl
  obtain ⟨hx, hb, hr, hml, hown, hts, hlocks, hA, hK, hN⟩ := id F
  unfold C0_listen at h
  refine lv_aload_n hx hb dX0_listen_0 rfl (lv_at hl 0 rfl) ?_
  refine kX0_C0_thinks F G hl.1 ⟨(Nat.le_of_ble_eq_true rfl), (Nat.le_of_ble_eq_true rfl)⟩ ⟨(Nat.le_of_ble_eq_true rfl), (Nat.le_of_ble_eq_true rfl)⟩ (Nat.le_of_ble_eq_true rfl) dX0_listen_1 h (fun S_2 H locs G h => ?_)
  refine lv_iconst (v := 0) hx hb dX0_listen_4 (by decide) ?_
  refine lv_istore_n (lv' := [(1, .int 0), (0, .ref (a 0))]) hx hb dX0_listen_5 rfl hl (by decide) rfl (fun ls hl => ?_)
  obtain ⟨k6, h⟩ := h
  exact wC0_listen_L6 F   k6 0 S_2 _ _ _ G (lv_sub hl [1, 0] rfl) h
/-! StrokesHeard.fee -/
def C0_fee  (S : CS) (Q : Int32 → CS → Prop) : Prop := C0_counts 1 S (fun r_1 S_2 => (¬ r_1 = (-1) → vp_in r_1 14 ∧ (∃ y_5 : Nat, ((cA (cA S_2 23 101 (S_2.1 1 4)) 23 109 ((cA S_2 23 101 (S_2.1 1 4)).1 1 5)).2.1 17 r_1.toNatClampNeg) = some y_5 ∧ (∃ (fs_6 : List Value) (y_9 : Nat), has (cA (cA S_2 23 101 (S_2.1 1 4)) 23 109 ((cA S_2 23 101 (S_2.1 1 4)).1 1 5)) y_5 (.inr (13, fs_6)) ∧ fs_6[1]? = some (.ref y_9) ∧ (C0_reckon y_9 (cA (cA S_2 23 101 (S_2.1 1 4)) 23 109 ((cA S_2 23 101 (S_2.1 1 4)).1 1 5)) (fun r_10 S_11 => Q r_10 S_11))))) ∧ (r_1 = (-1) → Q (S_2.1 1 4) S_2))
abbrev rmX0_fee : Room := { frames := 2, cells := 0, slots := 0, locals := 46 }
set_option maxHeartbeats 4000000 in
set_option maxRecDepth 100000 in
theorem wC0_fee {l : Launch} {D : va_G} {a : Nat → Nat} {d : Nat → ClassId} (sz : Nat)  (S : CS) (Q : Int32 → CS → Prop) (h : C0_fee  S Q) : CMi l D a d yX0_fee cX0_fee 2 .int rmX0_fee 0 0 [.ref (a 0)] sz S Q := by
  refine c_enter (Qc := fun A => va_Qi Q (BC D a d A) A) RX0 (by decide +kernel) rfl (Nat.le_of_ble_eq_true rfl) ?_
  intro p e s m below meth c ls A hmn F hG hl
  have G := hG
  have hl : lv_has ls 2 [(0, .ref (a 0))] := hl
  obtain ⟨hx, hb, hr, hml, hown, hts, hlocks, hA, hK, hN⟩ := id F
  unfold C0_fee at h
  refine lv_aload_n hx hb dX0_fee_0 rfl (lv_at hl 0 rfl) ?_
  refine lv_iconst (v := 1) hx hb dX0_fee_1 (by decide) ?_
  refine kX0_C0_counts F G hl.1 ⟨(Nat.le_of_ble_eq_true rfl), (Nat.le_of_ble_eq_true rfl)⟩ ⟨(Nat.le_of_ble_eq_true rfl), (Nat.le_of_ble_eq_true rfl)⟩ (Nat.le_of_ble_eq_true rfl) dX0_fee_2 h (fun r_1 S_2 H locs G h => ?_)
  refine lv_istore_n (lv' := [(1, .int r_1), (0, .ref (a 0))]) hx hb dX0_fee_5 rfl hl (by decide) rfl (fun ls hl => ?_)
  refine lv_iload_n hx hb dX0_fee_6 rfl (lv_at hl 0 rfl) ?_
  refine lv_iconst (v := (-1)) hx hb dX0_fee_7 (by decide) ?_
  refine lv_icmp_ne (tgt := 19) hx hb dX0_fee_8 (by decide) (fun c_3 => ?_) (fun c_3 => ?_)
  · replace h := h.1 c_3
    refine lv_aload_n hx hb dX0_fee_19 rfl (lv_at hl 1 rfl) ?_
    refine cgX0_0_named F G dX0_fee_20 ?_
    refine lv_bipush (v := 101) hx hb dX0_fee_23 (by decide) ?_
    refine lv_aload_n hx hb dX0_fee_25 rfl (lv_at hl 1 rfl) ?_
    refine cgX0_0_now F G dX0_fee_26 ?_
    refine cgX0_1_heard F G dX0_fee_29 ?_
    refine c_iastore F G cI_23 (by unfold vp_in; decide) dX0_fee_32 (fun H locs G => ?_)
    refine lv_aload_n hx hb dX0_fee_33 rfl (lv_at hl 1 rfl) ?_
    refine cgX0_0_named F G dX0_fee_34 ?_
    refine lv_bipush (v := 109) hx hb dX0_fee_37 (by decide) ?_
    refine lv_aload_n hx hb dX0_fee_39 rfl (lv_at hl 1 rfl) ?_
    refine cgX0_0_now F G dX0_fee_40 ?_
    refine cgX0_1_missed F G dX0_fee_43 ?_
    refine c_iastore F G cI_23 (by unfold vp_in; decide) dX0_fee_46 (fun H locs G => ?_)
    refine lv_aload_n hx hb dX0_fee_47 rfl (lv_at hl 1 rfl) ?_
    refine lv_aload_n hx hb dX0_fee_48 rfl (lv_at hl 1 rfl) ?_
    refine cgX0_0_now F G dX0_fee_49 ?_
    refine cgX0_1_text F G dX0_fee_52 ?_
    refine lv_iload_n hx hb dX0_fee_55 rfl (lv_at hl 0 rfl) ?_
    obtain ⟨b_4, h⟩ := h
    refine c_aaload F G cR_17 rfl b_4 dX0_fee_56 ?_
    obtain ⟨y_5, hy_5, h⟩ := h
    refine c_nn hy_5 ?_
    obtain ⟨fs_6, y_9, z_7, u_8, h⟩ := h
    refine pgX0_X13_words F G z_7 u_8 dX0_fee_57 ?_
    refine kX0_C0_reckon F G hl.1 ⟨(Nat.le_of_ble_eq_true rfl), (Nat.le_of_ble_eq_true rfl)⟩ ⟨(Nat.le_of_ble_eq_true rfl), (Nat.le_of_ble_eq_true rfl)⟩ (Nat.le_of_ble_eq_true rfl) dX0_fee_60 h (fun r_10 S_11 H locs G h => ?_)
    exact c_iret F G dX0_fee_63 h
  · replace h := h.2 c_3
    refine lv_aload_n hx hb dX0_fee_11 rfl (lv_at hl 1 rfl) ?_
    refine cgX0_0_now F G dX0_fee_12 ?_
    refine cgX0_1_heard F G dX0_fee_15 ?_
    exact c_iret F G dX0_fee_18 h
/-! StrokesHeard.fine -/
def C0_fine (v1 : Int32) (S : CS) (Q : Int32 → CS → Prop) : Prop := C0_isClock v1 S (fun r_1 S_2 => (¬ r_1 = 0 → vp_in v1 6 ∧ (∃ y_5 : Nat, (S_2.2.1 5 v1.toNatClampNeg) = some y_5 ∧ (C0_counts 2 S_2 (fun r_6 S_7 => (¬ r_6 = (-1) → ∃ (κ_12 : Nat) (fs_9 : List Value) (i_14 : Int32), κ_12 < 6 ∧ has S_7 y_5 (.inr (6 + κ_12, fs_9)) ∧ fs_9[0]? = some (.int i_14) ∧ (∃ (κ_18 : Nat) (fs_15 : List Value) (i_20 : Int32), κ_18 < 6 ∧ has (cA S_7 23 111 i_14) y_5 (.inr (6 + κ_18, fs_15)) ∧ fs_15[1]? = some (.int i_20) ∧ (vp_in r_6 14 ∧ (∃ y_22 : Nat, ((cA (cA S_7 23 111 i_14) 23 116 i_20).2.1 17 r_6.toNatClampNeg) = some y_22 ∧ (∃ (fs_23 : List Value) (y_26 : Nat), has (cA (cA S_7 23 111 i_14) 23 116 i_20) y_22 (.inr (13, fs_23)) ∧ fs_23[1]? = some (.ref y_26) ∧ (C0_reckon y_26 (cA (cA S_7 23 111 i_14) 23 116 i_20) (fun r_27 S_28 => Q r_27 S_28))))))) ∧ (r_6 = (-1) → ∃ (κ_32 : Nat) (fs_29 : List Value) (i_34 : Int32), κ_32 < 6 ∧ has S_7 y_5 (.inr (6 + κ_32, fs_29)) ∧ fs_29[0]? = some (.int i_34) ∧ (Q i_34 S_7)))))) ∧ (r_1 = 0 → Q (-1000000001) S_2))
abbrev rmX0_fine : Room := { frames := 2, cells := 0, slots := 0, locals := 46 }
set_option maxHeartbeats 4000000 in
set_option maxRecDepth 100000 in
theorem wC0_fine {l : Launch} {D : va_G} {a : Nat → Nat} {d : Nat → ClassId} (sz : Nat) (v1 : Int32) (S : CS) (Q : Int32 → CS → Prop) (h : C0_fine v1 S Q) : CMi l D a d yX0_fine cX0_fine 4 .int rmX0_fine 0 0 [.ref (a 0), .int v1] sz S Q := by
  refine c_enter (Qc := fun A => va_Qi Q (BC D a d A) A) RX0 (by decide +kernel) rfl (Nat.le_of_ble_eq_true rfl) ?_
  intro p e s m below meth c ls A hmn F hG hl
  have G := hG
  have hl : lv_has ls 4 [(0, .ref (a 0)), (1, .int v1)] := hl
  obtain ⟨hx, hb, hr, hml, hown, hts, hlocks, hA, hK, hN⟩ := id F
  unfold C0_fine at h
  refine lv_aload_n hx hb dX0_fine_0 rfl (lv_at hl 0 rfl) ?_
  refine lv_iload_n hx hb dX0_fine_1 rfl (lv_at hl 1 rfl) ?_
  refine kX0_C0_isClock F G hl.1 ⟨(Nat.le_of_ble_eq_true rfl), (Nat.le_of_ble_eq_true rfl)⟩ ⟨(Nat.le_of_ble_eq_true rfl), (Nat.le_of_ble_eq_true rfl)⟩ (Nat.le_of_ble_eq_true rfl) dX0_fine_2 h (fun r_1 S_2 H locs G h => ?_)
  refine lv_if_ne (tgt := 11) hx hb dX0_fine_5 (by decide) (fun c_3 => ?_) (fun c_3 => ?_)
  · replace h := h.1 c_3
    refine lv_aload_n hx hb dX0_fine_11 rfl (lv_at hl 0 rfl) ?_
    refine cgX0_0_now F G dX0_fine_12 ?_
    refine cgX0_1_clock F G dX0_fine_15 ?_
    refine lv_iload_n hx hb dX0_fine_18 rfl (lv_at hl 1 rfl) ?_
    obtain ⟨b_4, h⟩ := h
    refine c_aaload F G cR_5 rfl b_4 dX0_fine_19 ?_
    obtain ⟨y_5, hy_5, h⟩ := h
    refine c_nn hy_5 ?_
    refine lv_astore_n (lv' := [(2, .ref y_5), (0, .ref (a 0)), (1, .int v1)]) hx hb dX0_fine_20 rfl hl (by decide) rfl (fun ls hl => ?_)
    refine lv_aload_n hx hb dX0_fine_21 rfl (lv_at hl 1 rfl) ?_
    refine lv_iconst (v := 2) hx hb dX0_fine_22 (by decide) ?_
    refine kX0_C0_counts F G hl.1 ⟨(Nat.le_of_ble_eq_true rfl), (Nat.le_of_ble_eq_true rfl)⟩ ⟨(Nat.le_of_ble_eq_true rfl), (Nat.le_of_ble_eq_true rfl)⟩ (Nat.le_of_ble_eq_true rfl) dX0_fine_23 h (fun r_6 S_7 H locs G h => ?_)
    refine lv_istore_n (lv' := [(3, .int r_6), (2, .ref y_5), (0, .ref (a 0)), (1, .int v1)]) hx hb dX0_fine_26 rfl hl (by decide) rfl (fun ls hl => ?_)
    refine lv_iload_n hx hb dX0_fine_27 rfl (lv_at hl 0 rfl) ?_
    refine lv_iconst (v := (-1)) hx hb dX0_fine_28 (by decide) ?_
    refine lv_icmp_ne (tgt := 37) hx hb dX0_fine_29 (by decide) (fun c_8 => ?_) (fun c_8 => ?_)
    · replace h := h.1 c_8
      refine lv_aload_n hx hb dX0_fine_37 rfl (lv_at hl 2 rfl) ?_
      refine cgX0_0_named F G dX0_fine_38 ?_
      refine lv_bipush (v := 111) hx hb dX0_fine_41 (by decide) ?_
      refine lv_aload_n hx hb dX0_fine_43 rfl (lv_at hl 1 rfl) ?_
      obtain ⟨κ_12, fs_9, i_14, q_13, z_10, u_11, h⟩ := h
      refine pgX0_X6_off F G q_13 z_10 u_11 dX0_fine_44 ?_
      refine c_iastore F G cI_23 (by unfold vp_in; decide) dX0_fine_47 (fun H locs G => ?_)
      refine lv_aload_n hx hb dX0_fine_48 rfl (lv_at hl 2 rfl) ?_
      refine cgX0_0_named F G dX0_fine_49 ?_
      refine lv_bipush (v := 116) hx hb dX0_fine_52 (by decide) ?_
      refine lv_aload_n hx hb dX0_fine_54 rfl (lv_at hl 1 rfl) ?_
      obtain ⟨κ_18, fs_15, i_20, q_19, z_16, u_17, h⟩ := h
      refine pgX0_X6_tone F G q_19 z_16 u_17 dX0_fine_55 ?_
      refine c_iastore F G cI_23 (by unfold vp_in; decide) dX0_fine_58 (fun H locs G => ?_)
      refine lv_aload_n hx hb dX0_fine_59 rfl (lv_at hl 2 rfl) ?_
      refine lv_aload_n hx hb dX0_fine_60 rfl (lv_at hl 2 rfl) ?_
      refine cgX0_0_now F G dX0_fine_61 ?_
      refine cgX0_1_text F G dX0_fine_64 ?_
      refine lv_iload_n hx hb dX0_fine_67 rfl (lv_at hl 0 rfl) ?_
      obtain ⟨b_21, h⟩ := h
      refine c_aaload F G cR_17 rfl b_21 dX0_fine_68 ?_
      obtain ⟨y_22, hy_22, h⟩ := h
      refine c_nn hy_22 ?_
      obtain ⟨fs_23, y_26, z_24, u_25, h⟩ := h
      refine pgX0_X13_words F G z_24 u_25 dX0_fine_69 ?_
      refine kX0_C0_reckon F G hl.1 ⟨(Nat.le_of_ble_eq_true rfl), (Nat.le_of_ble_eq_true rfl)⟩ ⟨(Nat.le_of_ble_eq_true rfl), (Nat.le_of_ble_eq_true rfl)⟩ (Nat.le_of_ble_eq_true rfl) dX0_fine_72 h (fun r_27 S_28 H locs G h => ?_)
      exact c_iret F G dX0_fine_75 h
    · replace h := h.2 c_8
      refine lv_aload_n hx hb dX0_fine_32 rfl (lv_at hl 1 rfl) ?_
      obtain ⟨κ_32, fs_29, i_34, q_33, z_30, u_31, h⟩ := h
      refine pgX0_X6_off F G q_33 z_30 u_31 dX0_fine_33 ?_
      exact c_iret F G dX0_fine_36 h
  · replace h := h.2 c_3
    refine lv_ldc hx hb hown (hts _ q368) dX0_fine_8 ?_
    exact c_iret F G dX0_fine_10 h
/-! StrokesHeard.isSheet -/
def C0_isSheet (v0 : Int32) (S : CS) (Q : Int32 → CS → Prop) : Prop := C0_isIn v0 0 3 S (fun r_1 S_2 => zb r_1 ∧ Q r_1 S_2)
abbrev rmX0_isSheet : Room := { frames := 1, cells := 0, slots := 0, locals := 22 }
set_option maxHeartbeats 4000000 in
set_option maxRecDepth 100000 in
theorem wC0_isSheet {l : Launch} {D : va_G} {a : Nat → Nat} {d : Nat → ClassId} (sz : Nat) (v0 : Int32) (S : CS) (Q : Int32 → CS → Prop) (h : C0_isSheet v0 S Q) : CMi l D a d yX0_isSheet cX0_isSheet 1 .boolean rmX0_isSheet 0 0 [.int v0] sz S Q := by
  refine c_enter (Qc := fun A => va_Qi Q (BC D a d A) A) RX0 (by decide +kernel) rfl (Nat.le_of_ble_eq_true rfl) ?_
  intro p e s m below meth c ls A hmn F hG hl
  have G := hG
  have hl : lv_has ls 1 [(0, .int v0)] := hl
  obtain ⟨hx, hb, hr, hml, hown, hts, hlocks, hA, hK, hN⟩ := id F
  unfold C0_isSheet at h
  refine lv_iload_n hx hb dX0_isSheet_0 rfl (lv_at hl 0 rfl) ?_
  refine lv_iconst (v := 0) hx hb dX0_isSheet_1 (by decide) ?_
  refine lv_iconst (v := 3) hx hb dX0_isSheet_2 (by decide) ?_
  refine kX0_C0_isIn F G hl.1 ⟨(Nat.le_of_ble_eq_true rfl), (Nat.le_of_ble_eq_true rfl)⟩ ⟨(Nat.le_of_ble_eq_true rfl), (Nat.le_of_ble_eq_true rfl)⟩ (Nat.le_of_ble_eq_true rfl) dX0_isSheet_3 h (fun r_1 S_2 H locs G h => ?_)
  exact c_zret h.1 F G dX0_isSheet_6 h.2
/-! StrokesHeard.rowOf -/
def C0_rowOf (v0 : Int32) (v1 : Int32) (S : CS) (Q : Nat → CS → Prop) : Prop := (v0 = 0 → ¬ v1 < 0 ∧ v1.toNatClampNeg ≤ 24 ∧ (∀ y_2 : Nat, y_2 ∉ S.2.2.1 → Q y_2 (cN S y_2 (.inl (7, v1.toNatClampNeg, .inl (fun _ => 0)))))) ∧ (¬ v0 = 0 → ¬ v1 < 0 ∧ v1.toNatClampNeg ≤ 24 ∧ (∀ y_6 : Nat, y_6 ∉ S.2.2.1 → Q y_6 (cN S y_6 (.inl (6, v1.toNatClampNeg, .inr (.inr (.inl (fun _ => 0))))))))
abbrev rmX0_rowOf : Room := { frames := 0, cells := 1, slots := 24, locals := 0 }
set_option maxHeartbeats 4000000 in
set_option maxRecDepth 100000 in
theorem wC0_rowOf {l : Launch} {D : va_G} {a : Nat → Nat} {d : Nat → ClassId} (sz : Nat) (v0 : Int32) (v1 : Int32) (S : CS) (Q : Nat → CS → Prop) (h : C0_rowOf v0 v1 S Q) : CMr l D a d yX0_rowOf cX0_rowOf 2 (.object "java/lang/Object") rmX0_rowOf 1 24 [.int v0, .int v1] sz S Q := by
  refine c_enter (Qc := fun A => QRy Q (BC D a d A) A) RX0 (by decide +kernel) rfl (Nat.le_of_ble_eq_true rfl) ?_
  intro p e s m below meth c ls A hmn F hG hl
  have G := hG
  have hl : lv_has ls 2 [(0, .int v0), (1, .int v1)] := hl
  obtain ⟨hx, hb, hr, hml, hown, hts, hlocks, hA, hK, hN⟩ := id F
  unfold C0_rowOf at h
  refine lv_iload_n hx hb dX0_rowOf_0 rfl (lv_at hl 0 rfl) ?_
  refine lv_if_eq (tgt := 8) hx hb dX0_rowOf_1 (by decide) (fun c_1 => ?_) (fun c_1 => ?_)
  · replace h := h.1 c_1
    refine lv_iload_n hx hb dX0_rowOf_8 rfl (lv_at hl 1 rfl) ?_
    obtain ⟨b_4, b_5, h⟩ := h
    refine p_new_short (N := 24) F G b_4 b_5 (by decide) ⟨(Nat.le_of_ble_eq_true rfl), (Nat.le_of_ble_eq_true rfl)⟩ dX0_rowOf_9 (fun y_2 H q_3 G => ?_)
    replace h := h y_2 q_3
    exact c_aret F G dX0_rowOf_11 h
  · replace h := h.2 c_1
    refine lv_iload_n hx hb dX0_rowOf_4 rfl (lv_at hl 1 rfl) ?_
    obtain ⟨b_8, b_9, h⟩ := h
    refine p_new_float (N := 24) F G b_8 b_9 (by decide) ⟨(Nat.le_of_ble_eq_true rfl), (Nat.le_of_ble_eq_true rfl)⟩ dX0_rowOf_5 (fun y_6 H q_7 G => ?_)
    replace h := h y_6 q_7
    exact c_aret F G dX0_rowOf_7 h
set_option maxHeartbeats 4000000 in
set_option maxRecDepth 100000 in
theorem kX0_C0_isSheet {p : Program} {l : Launch} {e : Env} {s : State} {m : MethodId} {R : Room} {args : Array Value} {below : List Frame} {meth : Method} {c : Code} {D : va_G} {a : Nat → Nat} {d : Nat → ClassId} {A : Nat → Prop} {Q : State → Prop} {cc : ByteArray} {nL pc cells slots : Nat} {ret : Option FieldType} {ls : Array Slot} {rest : List Value} {v0 : Int32} {S : CS} {H : Heap} {locs : List Loc} {Q1 : Int32 → CS → Prop} (F : FC p s m meth c args D a d A RX0 cc nL ret) (G : GC D a d A s.heap S H locs) (hsz : ls.size = nL) (hR : rmX0_isSheet.frames + 1 ≤ R.frames ∧ 8 + (1 + 11) + rmX0_isSheet.locals ≤ R.locals) (hc : cells + 0 ≤ R.cells ∧ slots + 0 ≤ R.slots) (hW : (rest.map fun v => v.category).sum ≤ 8) (hd : decode cc pc = .ok (.invokestatic 413, 3)) (h : C0_isSheet v0 S Q1) (k : ∀ (r : Int32) (S1 : CS) (H : Heap) (locs : List Loc), GC D a d A s.heap S1 H locs → Q1 r S1 → W p l e R s m args below meth c H locs cells slots Q (F0 m (pc + 3) ls (.int r :: rest))) : W p l e R s m args below meth c H locs cells slots Q (F0 m pc ls (.int v0 :: rest)) := by
  obtain ⟨hx, hb, hr, hml, hown, hts, hlocks, hA, hK, hN⟩ := id F
  exact c_calli F G (va_runS (As := [.int v0]) (rest := rest) ⟨hx, hb, hml, hown, hts⟩ (wC0_isSheet H.size v0 S Q1 h) (va_cwS 1 hts (lw_S q1003 q1004 q82 q1005) rfl rfl rfl (by decide +kernel) hR) ⟨PC_blind, c_pre F G⟩ rfl rfl hsz rfl (lv_room hW) hd hc) k
/-! StrokesHeard$Sheet.isThere -/
def C3_isThere (y0 : Nat) (S : CS) (Q : Int32 → CS → Prop) : Prop := ∃ (fs_1 : List Value) (o_4 : Option Nat), has S y0 (.inr (3, fs_1)) ∧ fs_1[0]? = some (va_rf o_4) ∧ ((o_4 = none → Q 0 S) ∧ (∀ y_6 : Nat, o_4 = some y_6 → Q 1 S))
abbrev rmX3_isThere : Room := { frames := 0, cells := 0, slots := 0, locals := 0 }
set_option maxHeartbeats 4000000 in
set_option maxRecDepth 100000 in
theorem wC3_isThere {l : Launch} {D : va_G} {a : Nat → Nat} {d : Nat → ClassId} (sz : Nat) (y0 : Nat) (S : CS) (Q : Int32 → CS → Prop) (h : C3_isThere y0 S Q) : CMi l D a d yX3_isThere cX3_isThere 1 .boolean rmX3_isThere 0 0 [.ref y0] sz S Q := by
  refine c_enter (Qc := fun A => va_Qi Q (BC D a d A) A) RX3 (by decide +kernel) rfl (Nat.le_of_ble_eq_true rfl) ?_
  intro p e s m below meth c ls A hmn F hG hl
  have G := hG
  have hl : lv_has ls 1 [(0, .ref y0)] := hl
  obtain ⟨hx, hb, hr, hml, hown, hts, hlocks, hA, hK, hN⟩ := id F
  unfold C3_isThere at h
  refine lv_aload_n hx hb dX3_isThere_0 rfl (lv_at hl 0 rfl) ?_
  obtain ⟨fs_1, o_4, z_2, u_3, h⟩ := h
  refine pgX3_X3_row F G z_2 u_3 dX3_isThere_1 ?_
  refine c_ifnull (tgt := 11) hx hb dX3_isThere_4 (by decide) (fun c_5 => ?_) (fun y_6 c_5 => ?_)
  · replace h := h.1 c_5
    refine lv_iconst (v := 0) hx hb dX3_isThere_11 (by decide) ?_
    exact c_zret rfl F G dX3_isThere_12 h
  · replace h := h.2 y_6 c_5
    refine lv_iconst (v := 1) hx hb dX3_isThere_7 (by decide) ?_
    refine lv_goto (tgt := 12) hx hb dX3_isThere_8 (by decide) ?_
    exact c_zret rfl F G dX3_isThere_12 h
set_option maxHeartbeats 4000000 in
set_option maxRecDepth 100000 in
theorem kX0_C3_isThere {p : Program} {l : Launch} {e : Env} {s : State} {m : MethodId} {R : Room} {args : Array Value} {below : List Frame} {meth : Method} {c : Code} {D : va_G} {a : Nat → Nat} {d : Nat → ClassId} {A : Nat → Prop} {Q : State → Prop} {cc : ByteArray} {nL pc cells slots : Nat} {ret : Option FieldType} {ls : Array Slot} {rest : List Value} {y0 : Nat} {S : CS} {H : Heap} {locs : List Loc} {Q1 : Int32 → CS → Prop} (F : FC p s m meth c args D a d A RX0 cc nL ret) (G : GC D a d A s.heap S H locs) {fs0 : List Value} (hy : has S y0 (.inr (3, fs0))) (hsz : ls.size = nL) (hR : rmX3_isThere.frames + 1 ≤ R.frames ∧ 8 + (1 + 11) + rmX3_isThere.locals ≤ R.locals) (hc : cells + 0 ≤ R.cells ∧ slots + 0 ≤ R.slots) (hW : (rest.map fun v => v.category).sum ≤ 8) (hd : decode cc pc = .ok (.invokevirtual 438, 3)) (h : C3_isThere y0 S Q1) (k : ∀ (r : Int32) (S1 : CS) (H : Heap) (locs : List Loc), GC D a d A s.heap S1 H locs → Q1 r S1 → W p l e R s m args below meth c H locs cells slots Q (F0 m (pc + 3) ls (.int r :: rest))) : W p l e R s m args below meth c H locs cells slots Q (F0 m pc ls (.ref y0 :: rest)) := by
  obtain ⟨hx, hb, hr, hml, hown, hts, hlocks, hA, hK, hN⟩ := id F
  exact c_calli F G (va_runV (As := []) (rest := rest) ⟨hx, hb, hml, hown, hts⟩ (wC3_isThere H.size y0 S Q1 h) (cwV 0 hts (lw_V q1015 q1016 q1017 q88 q1018) rfl rfl rfl (by decide +kernel) hR) ⟨PC_blind, p_recv_X3 F G hy, c_pre F G⟩ rfl rfl hsz rfl (lv_room hW) hd hc) k
/-! StrokesHeard$Sheet.isFloats -/
def C3_isFloats (y0 : Nat) (S : CS) (Q : Int32 → CS → Prop) : Prop := ∃ (fs_1 : List Value) (o_4 : Option Nat), has S y0 (.inr (3, fs_1)) ∧ fs_1[0]? = some (va_rf o_4) ∧ (∃ y_5 : Nat, o_4 = some y_5 ∧ ((∃ x_6 : vp_A, has S y_5 (.inl (6, x_6)) ∧ (Q 1 S)) ∨ (∃ x_6 : vp_A, has S y_5 (.inl (7, x_6)) ∧ (Q 0 S))))
abbrev rmX3_isFloats : Room := { frames := 0, cells := 0, slots := 0, locals := 0 }
set_option maxHeartbeats 4000000 in
set_option maxRecDepth 100000 in
theorem wC3_isFloats {l : Launch} {D : va_G} {a : Nat → Nat} {d : Nat → ClassId} (sz : Nat) (y0 : Nat) (S : CS) (Q : Int32 → CS → Prop) (h : C3_isFloats y0 S Q) : CMi l D a d yX3_isFloats cX3_isFloats 1 .boolean rmX3_isFloats 0 0 [.ref y0] sz S Q := by
  refine c_enter (Qc := fun A => va_Qi Q (BC D a d A) A) RX3 (by decide +kernel) rfl (Nat.le_of_ble_eq_true rfl) ?_
  intro p e s m below meth c ls A hmn F hG hl
  have G := hG
  have hl : lv_has ls 1 [(0, .ref y0)] := hl
  obtain ⟨hx, hb, hr, hml, hown, hts, hlocks, hA, hK, hN⟩ := id F
  unfold C3_isFloats at h
  refine lv_aload_n hx hb dX3_isFloats_0 rfl (lv_at hl 0 rfl) ?_
  obtain ⟨fs_1, o_4, z_2, u_3, h⟩ := h
  refine pgX3_X3_row F G z_2 u_3 dX3_isFloats_1 ?_
  obtain ⟨y_5, hy_5, h⟩ := h
  refine c_nn hy_5 ?_
  rcases h with ⟨x_6, z_7, h⟩ | ⟨x_6, z_7, h⟩
  · refine p_instF_X3 F G z_7 dX3_isFloats_4 ?_
    exact c_zret rfl F G dX3_isFloats_7 h
  · refine p_instS_X3 F G z_7 dX3_isFloats_4 ?_
    exact c_zret rfl F G dX3_isFloats_7 h
set_option maxHeartbeats 4000000 in
set_option maxRecDepth 100000 in
theorem kX3_C3_isFloats {p : Program} {l : Launch} {e : Env} {s : State} {m : MethodId} {R : Room} {args : Array Value} {below : List Frame} {meth : Method} {c : Code} {D : va_G} {a : Nat → Nat} {d : Nat → ClassId} {A : Nat → Prop} {Q : State → Prop} {cc : ByteArray} {nL pc cells slots : Nat} {ret : Option FieldType} {ls : Array Slot} {rest : List Value} {y0 : Nat} {S : CS} {H : Heap} {locs : List Loc} {Q1 : Int32 → CS → Prop} (F : FC p s m meth c args D a d A RX3 cc nL ret) (G : GC D a d A s.heap S H locs) {fs0 : List Value} (hy : has S y0 (.inr (3, fs0))) (hsz : ls.size = nL) (hR : rmX3_isFloats.frames + 1 ≤ R.frames ∧ 8 + (1 + 11) + rmX3_isFloats.locals ≤ R.locals) (hc : cells + 0 ≤ R.cells ∧ slots + 0 ≤ R.slots) (hW : (rest.map fun v => v.category).sum ≤ 8) (hd : decode cc pc = .ok (.invokevirtual 15, 3)) (h : C3_isFloats y0 S Q1) (k : ∀ (r : Int32) (S1 : CS) (H : Heap) (locs : List Loc), GC D a d A s.heap S1 H locs → Q1 r S1 → W p l e R s m args below meth c H locs cells slots Q (F0 m (pc + 3) ls (.int r :: rest))) : W p l e R s m args below meth c H locs cells slots Q (F0 m pc ls (.ref y0 :: rest)) := by
  obtain ⟨hx, hb, hr, hml, hown, hts, hlocks, hA, hK, hN⟩ := id F
  exact c_calli F G (va_runV (As := []) (rest := rest) ⟨hx, hb, hml, hown, hts⟩ (wC3_isFloats H.size y0 S Q1 h) (cwV 0 hts (lw_V q1024 q1025 q1026 q88 q1027) rfl rfl rfl (by decide +kernel) hR) ⟨PC_blind, p_recv_X3 F G hy, c_pre F G⟩ rfl rfl hsz rfl (lv_room hW) hd hc) k
/-! StrokesHeard$Sheet.size -/
def C3_size (y0 : Nat) (S : CS) (Q : Int32 → CS → Prop) : Prop := ∃ fs_3 : List Value, has S y0 (.inr (3, fs_3)) ∧ (C3_isFloats y0 S (fun r_1 S_2 => (r_1 = 0 → ∃ (fs_6 : List Value) (o_9 : Option Nat), has S_2 y0 (.inr (3, fs_6)) ∧ fs_6[0]? = some (va_rf o_9) ∧ (∃ y_10 : Nat, o_9 = some y_10 ∧ (∃ x_11 : vp_A, has S_2 y_10 (.inl (7, x_11)) ∧ (∃ x_13 : vp_A, has S_2 y_10 (.inl (7, x_13)) ∧ (Q (Int32.ofNat x_13.1) S_2))))) ∧ (¬ r_1 = 0 → ∃ (fs_15 : List Value) (o_18 : Option Nat), has S_2 y0 (.inr (3, fs_15)) ∧ fs_15[0]? = some (va_rf o_18) ∧ (∃ y_19 : Nat, o_18 = some y_19 ∧ (∃ x_20 : vp_A, has S_2 y_19 (.inl (6, x_20)) ∧ (∃ x_22 : vp_A, has S_2 y_19 (.inl (6, x_22)) ∧ (Q (Int32.ofNat x_22.1) S_2)))))))
abbrev rmX3_size : Room := { frames := 1, cells := 0, slots := 0, locals := 20 }
set_option maxHeartbeats 4000000 in
set_option maxRecDepth 100000 in
theorem wC3_size {l : Launch} {D : va_G} {a : Nat → Nat} {d : Nat → ClassId} (sz : Nat) (y0 : Nat) (S : CS) (Q : Int32 → CS → Prop) (h : C3_size y0 S Q) : CMi l D a d yX3_size cX3_size 1 .int rmX3_size 0 0 [.ref y0] sz S Q := by
  refine c_enter (Qc := fun A => va_Qi Q (BC D a d A) A) RX3 (by decide +kernel) rfl (Nat.le_of_ble_eq_true rfl) ?_
  intro p e s m below meth c ls A hmn F hG hl
  have G := hG
  have hl : lv_has ls 1 [(0, .ref y0)] := hl
  obtain ⟨hx, hb, hr, hml, hown, hts, hlocks, hA, hK, hN⟩ := id F
  unfold C3_size at h
  refine lv_aload_n hx hb dX3_size_0 rfl (lv_at hl 0 rfl) ?_
  obtain ⟨fs_3, z_4, h⟩ := h
  refine kX3_C3_isFloats F G z_4 hl.1 ⟨(Nat.le_of_ble_eq_true rfl), (Nat.le_of_ble_eq_true rfl)⟩ ⟨(Nat.le_of_ble_eq_true rfl), (Nat.le_of_ble_eq_true rfl)⟩ (Nat.le_of_ble_eq_true rfl) dX3_size_1 h (fun r_1 S_2 H locs G h => ?_)
  refine lv_if_eq (tgt := 18) hx hb dX3_size_4 (by decide) (fun c_5 => ?_) (fun c_5 => ?_)
  · replace h := h.1 c_5
    refine lv_aload_n hx hb dX3_size_18 rfl (lv_at hl 0 rfl) ?_
    obtain ⟨fs_6, o_9, z_7, u_8, h⟩ := h
    refine pgX3_X3_row F G z_7 u_8 dX3_size_19 ?_
    obtain ⟨y_10, hy_10, h⟩ := h
    refine c_nn hy_10 ?_
    obtain ⟨x_11, z_12, h⟩ := h
    refine p_castS_X3 F G z_12 dX3_size_22 ?_
    obtain ⟨x_13, z_14, h⟩ := h
    refine p_len (ty := .short) (t := 7) (n := 0) F G z_14 rfl dX3_size_25 ?_
    exact c_iret F G dX3_size_26 h
  · replace h := h.2 c_5
    refine lv_aload_n hx hb dX3_size_7 rfl (lv_at hl 0 rfl) ?_
    obtain ⟨fs_15, o_18, z_16, u_17, h⟩ := h
    refine pgX3_X3_row F G z_16 u_17 dX3_size_8 ?_
    obtain ⟨y_19, hy_19, h⟩ := h
    refine c_nn hy_19 ?_
    obtain ⟨x_20, z_21, h⟩ := h
    refine p_castF_X3 F G z_21 dX3_size_11 ?_
    obtain ⟨x_22, z_23, h⟩ := h
    refine p_len (ty := .float) (t := 6) (n := 0) F G z_23 rfl dX3_size_14 ?_
    refine lv_goto (tgt := 26) hx hb dX3_size_15 (by decide) ?_
    exact c_iret F G dX3_size_26 h
set_option maxHeartbeats 4000000 in
set_option maxRecDepth 100000 in
theorem kX0_C3_size {p : Program} {l : Launch} {e : Env} {s : State} {m : MethodId} {R : Room} {args : Array Value} {below : List Frame} {meth : Method} {c : Code} {D : va_G} {a : Nat → Nat} {d : Nat → ClassId} {A : Nat → Prop} {Q : State → Prop} {cc : ByteArray} {nL pc cells slots : Nat} {ret : Option FieldType} {ls : Array Slot} {rest : List Value} {y0 : Nat} {S : CS} {H : Heap} {locs : List Loc} {Q1 : Int32 → CS → Prop} (F : FC p s m meth c args D a d A RX0 cc nL ret) (G : GC D a d A s.heap S H locs) {fs0 : List Value} (hy : has S y0 (.inr (3, fs0))) (hsz : ls.size = nL) (hR : rmX3_size.frames + 1 ≤ R.frames ∧ 8 + (1 + 11) + rmX3_size.locals ≤ R.locals) (hc : cells + 0 ≤ R.cells ∧ slots + 0 ≤ R.slots) (hW : (rest.map fun v => v.category).sum ≤ 8) (hd : decode cc pc = .ok (.invokevirtual 442, 3)) (h : C3_size y0 S Q1) (k : ∀ (r : Int32) (S1 : CS) (H : Heap) (locs : List Loc), GC D a d A s.heap S1 H locs → Q1 r S1 → W p l e R s m args below meth c H locs cells slots Q (F0 m (pc + 3) ls (.int r :: rest))) : W p l e R s m args below meth c H locs cells slots Q (F0 m pc ls (.ref y0 :: rest)) := by
  obtain ⟨hx, hb, hr, hml, hown, hts, hlocks, hA, hK, hN⟩ := id F
  exact c_calli F G (va_runV (As := []) (rest := rest) ⟨hx, hb, hml, hown, hts⟩ (wC3_size H.size y0 S Q1 h) (cwV 0 hts (lw_V q1020 q1021 q1022 q88 q1023) rfl rfl rfl (by decide +kernel) hR) ⟨PC_blind, p_recv_X3 F G hy, c_pre F G⟩ rfl rfl hsz rfl (lv_room hW) hd hc) k
set_option maxHeartbeats 4000000 in
set_option maxRecDepth 100000 in
theorem kX0_C3_isFloats {p : Program} {l : Launch} {e : Env} {s : State} {m : MethodId} {R : Room} {args : Array Value} {below : List Frame} {meth : Method} {c : Code} {D : va_G} {a : Nat → Nat} {d : Nat → ClassId} {A : Nat → Prop} {Q : State → Prop} {cc : ByteArray} {nL pc cells slots : Nat} {ret : Option FieldType} {ls : Array Slot} {rest : List Value} {y0 : Nat} {S : CS} {H : Heap} {locs : List Loc} {Q1 : Int32 → CS → Prop} (F : FC p s m meth c args D a d A RX0 cc nL ret) (G : GC D a d A s.heap S H locs) {fs0 : List Value} (hy : has S y0 (.inr (3, fs0))) (hsz : ls.size = nL) (hR : rmX3_isFloats.frames + 1 ≤ R.frames ∧ 8 + (1 + 11) + rmX3_isFloats.locals ≤ R.locals) (hc : cells + 0 ≤ R.cells ∧ slots + 0 ≤ R.slots) (hW : (rest.map fun v => v.category).sum ≤ 8) (hd : decode cc pc = .ok (.invokevirtual 427, 3)) (h : C3_isFloats y0 S Q1) (k : ∀ (r : Int32) (S1 : CS) (H : Heap) (locs : List Loc), GC D a d A s.heap S1 H locs → Q1 r S1 → W p l e R s m args below meth c H locs cells slots Q (F0 m (pc + 3) ls (.int r :: rest))) : W p l e R s m args below meth c H locs cells slots Q (F0 m pc ls (.ref y0 :: rest)) := by
  obtain ⟨hx, hb, hr, hml, hown, hts, hlocks, hA, hK, hN⟩ := id F
  exact c_calli F G (va_runV (As := []) (rest := rest) ⟨hx, hb, hml, hown, hts⟩ (wC3_isFloats H.size y0 S Q1 h) (cwV 0 hts (lw_V q1033 q1025 q1026 q88 q1027) rfl rfl rfl (by decide +kernel) hR) ⟨PC_blind, p_recv_X3 F G hy, c_pre F G⟩ rfl rfl hsz rfl (lv_room hW) hd hc) k
/-! StrokesHeard$Sheet.put -/
def C3_put (y0 : Nat) (v1 : Int32) (v2 : Int32) (S : CS) (Q : CS → Prop) : Prop := ∃ fs_3 : List Value, has S y0 (.inr (3, fs_3)) ∧ (C3_isFloats y0 S (fun r_1 S_2 => (r_1 = 0 → ∃ (fs_6 : List Value) (o_9 : Option Nat), has S_2 y0 (.inr (3, fs_6)) ∧ fs_6[0]? = some (va_rf o_9) ∧ (∃ y_10 : Nat, o_9 = some y_10 ∧ (∃ x_11 : vp_A, has S_2 y_10 (.inl (7, x_11)) ∧ (∃ (n_13 : Nat) (f_14 : Nat → Int32), has S_2 y_10 (.inl (7, n_13, .inl f_14)) ∧ vp_in v1 n_13 ∧ (Q (cP S_2 y_10 (.inl (7, n_13, .inl (upd f_14 (v1.toNatClampNeg) (vp_nar .short v2.toInt16.toInt32)))))))))) ∧ (¬ r_1 = 0 → ∃ (fs_17 : List Value) (o_20 : Option Nat), has S_2 y0 (.inr (3, fs_17)) ∧ fs_17[0]? = some (va_rf o_20) ∧ (∃ y_21 : Nat, o_20 = some y_21 ∧ (∃ x_22 : vp_A, has S_2 y_21 (.inl (6, x_22)) ∧ (∃ (n_24 : Nat) (f_25 : Nat → UInt32), has S_2 y_21 (.inl (6, n_24, .inr (.inr (.inl f_25)))) ∧ vp_in v1 n_24 ∧ (Q (cP S_2 y_21 (.inl (6, n_24, .inr (.inr (.inl (vf_upd f_25 (v1.toNatClampNeg) (FP.i2f v2))))))))))))))
abbrev rmX3_put : Room := { frames := 1, cells := 0, slots := 0, locals := 20 }
set_option maxHeartbeats 4000000 in
set_option maxRecDepth 100000 in
theorem wC3_put {l : Launch} {D : va_G} {a : Nat → Nat} {d : Nat → ClassId} (sz : Nat) (y0 : Nat) (v1 : Int32) (v2 : Int32) (S : CS) (Q : CS → Prop) (h : C3_put y0 v1 v2 S Q) : CMv l D a d yX3_put cX3_put 3 rmX3_put 0 0 [.ref y0, .int v1, .int v2] sz S Q := by
  refine c_enter (Qc := fun A => va_Qv Q (BC D a d A) A) RX3 (by decide +kernel) rfl (Nat.le_of_ble_eq_true rfl) ?_
  intro p e s m below meth c ls A hmn F hG hl
  have G := hG
  have hl : lv_has ls 3 [(0, .ref y0), (1, .int v1), (2, .int v2)] := hl
  obtain ⟨hx, hb, hr, hml, hown, hts, hlocks, hA, hK, hN⟩ := id F
  unfold C3_put at h
  refine lv_aload_n hx hb dX3_put_0 rfl (lv_at hl 0 rfl) ?_
  obtain ⟨fs_3, z_4, h⟩ := h
  refine kX3_C3_isFloats F G z_4 hl.1 ⟨(Nat.le_of_ble_eq_true rfl), (Nat.le_of_ble_eq_true rfl)⟩ ⟨(Nat.le_of_ble_eq_true rfl), (Nat.le_of_ble_eq_true rfl)⟩ (Nat.le_of_ble_eq_true rfl) dX3_put_1 h (fun r_1 S_2 H locs G h => ?_)
  refine lv_if_eq (tgt := 21) hx hb dX3_put_4 (by decide) (fun c_5 => ?_) (fun c_5 => ?_)
  · replace h := h.1 c_5
    refine lv_aload_n hx hb dX3_put_21 rfl (lv_at hl 0 rfl) ?_
    obtain ⟨fs_6, o_9, z_7, u_8, h⟩ := h
    refine pgX3_X3_row F G z_7 u_8 dX3_put_22 ?_
    obtain ⟨y_10, hy_10, h⟩ := h
    refine c_nn hy_10 ?_
    obtain ⟨x_11, z_12, h⟩ := h
    refine p_castS_X3 F G z_12 dX3_put_25 ?_
    refine lv_iload_n hx hb dX3_put_28 rfl (lv_at hl 1 rfl) ?_
    refine lv_iload_n hx hb dX3_put_29 rfl (lv_at hl 2 rfl) ?_
    refine lv_i2s (v := v2.toInt16.toInt32) hx hb dX3_put_30 rfl ?_
    obtain ⟨n_13, f_14, z_15, b_16, h⟩ := h
    refine p_sastore F G z_15 b_16 dX3_put_31 (fun H locs G => ?_)
    exact c_vret F G dX3_put_32 h
  · replace h := h.2 c_5
    refine lv_aload_n hx hb dX3_put_7 rfl (lv_at hl 0 rfl) ?_
    obtain ⟨fs_17, o_20, z_18, u_19, h⟩ := h
    refine pgX3_X3_row F G z_18 u_19 dX3_put_8 ?_
    obtain ⟨y_21, hy_21, h⟩ := h
    refine c_nn hy_21 ?_
    obtain ⟨x_22, z_23, h⟩ := h
    refine p_castF_X3 F G z_23 dX3_put_11 ?_
    refine lv_iload_n hx hb dX3_put_14 rfl (lv_at hl 1 rfl) ?_
    refine lv_iload_n hx hb dX3_put_15 rfl (lv_at hl 2 rfl) ?_
    refine lv_i2f hx hb dX3_put_16 ?_
    obtain ⟨n_24, f_25, z_26, b_27, h⟩ := h
    refine p_fastore F G z_26 b_27 dX3_put_17 (fun H locs G => ?_)
    refine lv_goto (tgt := 32) hx hb dX3_put_18 (by decide) ?_
    exact c_vret F G dX3_put_32 h
set_option maxHeartbeats 4000000 in
set_option maxRecDepth 100000 in
theorem kX0_C3_put {p : Program} {l : Launch} {e : Env} {s : State} {m : MethodId} {R : Room} {args : Array Value} {below : List Frame} {meth : Method} {c : Code} {D : va_G} {a : Nat → Nat} {d : Nat → ClassId} {A : Nat → Prop} {Q : State → Prop} {cc : ByteArray} {nL pc cells slots : Nat} {ret : Option FieldType} {ls : Array Slot} {rest : List Value} {y0 : Nat} {v1 : Int32} {v2 : Int32} {S : CS} {H : Heap} {locs : List Loc} {Q1 : CS → Prop} (F : FC p s m meth c args D a d A RX0 cc nL ret) (G : GC D a d A s.heap S H locs) {fs0 : List Value} (hy : has S y0 (.inr (3, fs0))) (hsz : ls.size = nL) (hR : rmX3_put.frames + 1 ≤ R.frames ∧ 8 + (3 + 11) + rmX3_put.locals ≤ R.locals) (hc : cells + 0 ≤ R.cells ∧ slots + 0 ≤ R.slots) (hW : (rest.map fun v => v.category).sum ≤ 8) (hd : decode cc pc = .ok (.invokevirtual 435, 3)) (h : C3_put y0 v1 v2 S Q1) (k : ∀ (S1 : CS) (H : Heap) (locs : List Loc), GC D a d A s.heap S1 H locs → Q1 S1 → W p l e R s m args below meth c H locs cells slots Q (F0 m (pc + 3) ls rest)) : W p l e R s m args below meth c H locs cells slots Q (F0 m pc ls (.int v2 :: .int v1 :: .ref y0 :: rest)) := by
  obtain ⟨hx, hb, hr, hml, hown, hts, hlocks, hA, hK, hN⟩ := id F
  exact c_callv F G (va_runV (As := [.int v1, .int v2]) (rest := rest) ⟨hx, hb, hml, hown, hts⟩ (wC3_put H.size y0 v1 v2 S Q1 h) (cwV 2 hts (lw_V q1037 q1038 q1039 q88 q1040) rfl rfl rfl (by decide +kernel) hR) ⟨PC_blind, p_recv_X3 F G hy, c_pre F G⟩ rfl rfl hsz rfl (lv_room hW) hd hc) k
/-! StrokesHeard.markIn -/
def C0_markIn_p54 (Q : Int32 → CS → Prop)  (y0 : Nat) (v1 : Int32) (v2 : Int32) (S : CS) : Prop := ∃ fs_28 : List Value, has S y0 (.inr (3, fs_28)) ∧ (C3_put y0 v1 v2 S (fun S_27 => Q 1 S_27))
def C0_markIn (y0 : Nat) (v1 : Int32) (v2 : Int32) (S : CS) (Q : Int32 → CS → Prop) : Prop := (¬ v2 = (-1000000005) → ∃ fs_4 : List Value, has S y0 (.inr (3, fs_4)) ∧ (C3_isFloats y0 S (fun r_2 S_3 => (r_2 = 0 → C0_markIn_p54 Q y0 v1 v2 S_3) ∧ (¬ r_2 = 0 → C0_isIn v2 (-99999) 99999 S_3 (fun r_7 S_8 => (¬ r_7 = 0 → C0_markIn_p54 Q y0 v1 v2 S_8) ∧ (r_7 = 0 → Q (-1000000001) S_8)))))) ∧ (v2 = (-1000000005) → ∃ fs_12 : List Value, has S y0 (.inr (3, fs_12)) ∧ (C3_isFloats y0 S (fun r_10 S_11 => (¬ r_10 = 0 → ∃ (fs_15 : List Value) (o_18 : Option Nat), has S_11 y0 (.inr (3, fs_15)) ∧ fs_15[0]? = some (va_rf o_18) ∧ (∃ y_19 : Nat, o_18 = some y_19 ∧ (∃ x_20 : vp_A, has S_11 y_19 (.inl (6, x_20)) ∧ (∃ (n_22 : Nat) (f_23 : Nat → UInt32), has S_11 y_19 (.inl (6, n_22, .inr (.inr (.inl f_23)))) ∧ vp_in v1 n_22 ∧ (Q 1 (cP S_11 y_19 (.inl (6, n_22, .inr (.inr (.inl (vf_upd f_23 (v1.toNatClampNeg) (2143289344 : UInt32)))))))))))) ∧ (r_10 = 0 → Q (-1000000012) S_11))))
abbrev rmX0_markIn : Room := { frames := 2, cells := 0, slots := 0, locals := 42 }
set_option maxHeartbeats 4000000 in
set_option maxRecDepth 100000 in
theorem wC0_markIn_p54 {p : Program} {l : Launch} {e : Env} {s : State} {m : MethodId} {args : Array Value} {below : List Frame} {meth : Method} {c : Code} {D : va_G} {a : Nat → Nat} {d : Nat → ClassId} {A : Nat → Prop} {Q : Int32 → CS → Prop}  (F : FC p s m meth c args D a d A RX0 cX0_markIn 3 (some .int)) (y0 : Nat) (v1 : Int32) (v2 : Int32) (S : CS)  {H : Heap} {locs : List Loc} {ls : Array Slot} (G : GC D a d A s.heap S H locs) (hl : lv_has ls 3 [(0, .ref y0), (1, .int v1), (2, .int v2)]) (h : C0_markIn_p54 Q y0 v1 v2 S) : wCi p l e rmX0_markIn s m args below meth c D a d A Q 0 0 H locs 0 0 (F0 m 54 ls []) := by
  obtain ⟨hx, hb, hr, hml, hown, hts, hlocks, hA, hK, hN⟩ := id F
  unfold C0_markIn_p54 at h
  refine lv_aload_n hx hb dX0_markIn_54 rfl (lv_at hl 0 rfl) ?_
  refine lv_iload_n hx hb dX0_markIn_55 rfl (lv_at hl 1 rfl) ?_
  refine lv_iload_n hx hb dX0_markIn_56 rfl (lv_at hl 2 rfl) ?_
  obtain ⟨fs_28, z_29, h⟩ := h
  refine kX0_C3_put F G z_29 hl.1 ⟨(Nat.le_of_ble_eq_true rfl), (Nat.le_of_ble_eq_true rfl)⟩ ⟨(Nat.le_of_ble_eq_true rfl), (Nat.le_of_ble_eq_true rfl)⟩ (Nat.le_of_ble_eq_true rfl) dX0_markIn_57 h (fun S_27 H locs G h => ?_)
  refine lv_iconst (v := 1) hx hb dX0_markIn_60 (by decide) ?_
  exact c_iret F G dX0_markIn_61 h
set_option maxHeartbeats 4000000 in
set_option maxRecDepth 100000 in
theorem wC0_markIn {l : Launch} {D : va_G} {a : Nat → Nat} {d : Nat → ClassId} (sz : Nat) (y0 : Nat) (v1 : Int32) (v2 : Int32) (S : CS) (Q : Int32 → CS → Prop) (h : C0_markIn y0 v1 v2 S Q) : CMi l D a d yX0_markIn cX0_markIn 3 .int rmX0_markIn 0 0 [.ref y0, .int v1, .int v2] sz S Q := by
  refine c_enter (Qc := fun A => va_Qi Q (BC D a d A) A) RX0 (by decide +kernel) rfl (Nat.le_of_ble_eq_true rfl) ?_
  intro p e s m below meth c ls A hmn F hG hl
  have G := hG
  have hl : lv_has ls 3 [(0, .ref y0), (1, .int v1), (2, .int v2)] := hl
  obtain ⟨hx, hb, hr, hml, hown, hts, hlocks, hA, hK, hN⟩ := id F
  unfold C0_markIn at h
  refine lv_iload_n hx hb dX0_markIn_0 rfl (lv_at hl 2 rfl) ?_
  refine lv_ldc hx hb hown (hts _ q547) dX0_markIn_1 ?_
  refine lv_icmp_ne (tgt := 31) hx hb dX0_markIn_3 (by decide) (fun c_1 => ?_) (fun c_1 => ?_)
  · replace h := h.1 c_1
    refine lv_aload_n hx hb dX0_markIn_31 rfl (lv_at hl 0 rfl) ?_
    obtain ⟨fs_4, z_5, h⟩ := h
    refine kX0_C3_isFloats F G z_5 hl.1 ⟨(Nat.le_of_ble_eq_true rfl), (Nat.le_of_ble_eq_true rfl)⟩ ⟨(Nat.le_of_ble_eq_true rfl), (Nat.le_of_ble_eq_true rfl)⟩ (Nat.le_of_ble_eq_true rfl) dX0_markIn_32 h (fun r_2 S_3 H locs G h => ?_)
    refine lv_if_eq (tgt := 54) hx hb dX0_markIn_35 (by decide) (fun c_6 => ?_) (fun c_6 => ?_)
    · replace h := h.1 c_6
      exact wC0_markIn_p54 F y0 v1 v2 S_3  G (lv_sub hl [0, 1, 2] rfl) h
    · replace h := h.2 c_6
      refine lv_iload_n hx hb dX0_markIn_38 rfl (lv_at hl 2 rfl) ?_
      refine lv_ldcw hx hb hown (hts _ q1036) dX0_markIn_39 ?_
      refine lv_ldcw hx hb hown (hts _ q914) dX0_markIn_42 ?_
      refine kX0_C0_isIn F G hl.1 ⟨(Nat.le_of_ble_eq_true rfl), (Nat.le_of_ble_eq_true rfl)⟩ ⟨(Nat.le_of_ble_eq_true rfl), (Nat.le_of_ble_eq_true rfl)⟩ (Nat.le_of_ble_eq_true rfl) dX0_markIn_45 h (fun r_7 S_8 H locs G h => ?_)
      refine lv_if_ne (tgt := 54) hx hb dX0_markIn_48 (by decide) (fun c_9 => ?_) (fun c_9 => ?_)
      · replace h := h.1 c_9
        exact wC0_markIn_p54 F y0 v1 v2 S_8  G (lv_sub hl [0, 1, 2] rfl) h
      · replace h := h.2 c_9
        refine lv_ldc hx hb hown (hts _ q368) dX0_markIn_51 ?_
        exact c_iret F G dX0_markIn_53 h
  · replace h := h.2 c_1
    refine lv_aload_n hx hb dX0_markIn_6 rfl (lv_at hl 0 rfl) ?_
    obtain ⟨fs_12, z_13, h⟩ := h
    refine kX0_C3_isFloats F G z_13 hl.1 ⟨(Nat.le_of_ble_eq_true rfl), (Nat.le_of_ble_eq_true rfl)⟩ ⟨(Nat.le_of_ble_eq_true rfl), (Nat.le_of_ble_eq_true rfl)⟩ (Nat.le_of_ble_eq_true rfl) dX0_markIn_7 h (fun r_10 S_11 H locs G h => ?_)
    refine lv_if_ne (tgt := 17) hx hb dX0_markIn_10 (by decide) (fun c_14 => ?_) (fun c_14 => ?_)
    · replace h := h.1 c_14
      refine lv_aload_n hx hb dX0_markIn_17 rfl (lv_at hl 0 rfl) ?_
      obtain ⟨fs_15, o_18, z_16, u_17, h⟩ := h
      refine pgX0_X3_row F G z_16 u_17 dX0_markIn_18 ?_
      obtain ⟨y_19, hy_19, h⟩ := h
      refine c_nn hy_19 ?_
      obtain ⟨x_20, z_21, h⟩ := h
      refine p_castF_X0 F G z_21 dX0_markIn_21 ?_
      refine lv_iload_n hx hb dX0_markIn_24 rfl (lv_at hl 1 rfl) ?_
      refine c_ldcwf hx hb hown (hts _ q1035) dX0_markIn_25 ?_
      obtain ⟨n_22, f_23, z_24, b_25, h⟩ := h
      refine p_fastore F G z_24 b_25 dX0_markIn_28 (fun H locs G => ?_)
      refine lv_iconst (v := 1) hx hb dX0_markIn_29 (by decide) ?_
      exact c_iret F G dX0_markIn_30 h
    · replace h := h.2 c_14
      refine lv_ldcw hx hb hown (hts _ q785) dX0_markIn_13 ?_
      exact c_iret F G dX0_markIn_16 h
set_option maxHeartbeats 4000000 in
set_option maxRecDepth 100000 in
theorem kX0_C0_markIn {p : Program} {l : Launch} {e : Env} {s : State} {m : MethodId} {R : Room} {args : Array Value} {below : List Frame} {meth : Method} {c : Code} {D : va_G} {a : Nat → Nat} {d : Nat → ClassId} {A : Nat → Prop} {Q : State → Prop} {cc : ByteArray} {nL pc cells slots : Nat} {ret : Option FieldType} {ls : Array Slot} {rest : List Value} {y0 : Nat} {v1 : Int32} {v2 : Int32} {S : CS} {H : Heap} {locs : List Loc} {Q1 : Int32 → CS → Prop} (F : FC p s m meth c args D a d A RX0 cc nL ret) (G : GC D a d A s.heap S H locs) (hsz : ls.size = nL) (hR : rmX0_markIn.frames + 1 ≤ R.frames ∧ 8 + (3 + 11) + rmX0_markIn.locals ≤ R.locals) (hc : cells + 0 ≤ R.cells ∧ slots + 0 ≤ R.slots) (hW : (rest.map fun v => v.category).sum ≤ 8) (hd : decode cc pc = .ok (.invokestatic 445, 3)) (h : C0_markIn y0 v1 v2 S Q1) (k : ∀ (r : Int32) (S1 : CS) (H : Heap) (locs : List Loc), GC D a d A s.heap S1 H locs → Q1 r S1 → W p l e R s m args below meth c H locs cells slots Q (F0 m (pc + 3) ls (.int r :: rest))) : W p l e R s m args below meth c H locs cells slots Q (F0 m pc ls (.int v2 :: .int v1 :: .ref y0 :: rest)) := by
  obtain ⟨hx, hb, hr, hml, hown, hts, hlocks, hA, hK, hN⟩ := id F
  exact c_calli F G (va_runS (As := [.ref y0, .int v1, .int v2]) (rest := rest) ⟨hx, hb, hml, hown, hts⟩ (wC0_markIn H.size y0 v1 v2 S Q1 h) (va_cwS 3 hts (lw_S q1030 q1031 q82 q1032) rfl rfl rfl (by decide +kernel) hR) ⟨PC_blind, c_pre F G⟩ rfl rfl hsz rfl (lv_room hW) hd hc) k
/-! StrokesHeard.mark -/
def C0_mark (v1 : Int32) (v2 : Int32) (v3 : Int32) (S : CS) (Q : Int32 → CS → Prop) : Prop := C0_isSheet v1 S (fun r_1 S_2 => (¬ r_1 = 0 → vp_in v1 4 ∧ (∃ y_5 : Nat, (S_2.2.1 25 v1.toNatClampNeg) = some y_5 ∧ (∃ fs_8 : List Value, has S_2 y_5 (.inr (3, fs_8)) ∧ (C3_isThere y_5 S_2 (fun r_6 S_7 => (¬ r_6 = 0 → ∃ fs_13 : List Value, has S_7 y_5 (.inr (3, fs_13)) ∧ (C3_size y_5 S_7 (fun r_11 S_12 => C0_isIn v2 0 (r_11 - 1) S_12 (fun r_15 S_16 => (r_15 = 0 → Q (-1000000013) S_16) ∧ (¬ r_15 = 0 → C0_markIn y_5 v2 v3 S_16 (fun r_18 S_19 => Q r_18 S_19)))))) ∧ (r_6 = 0 → Q (-1000000011) S_7)))))) ∧ (r_1 = 0 → Q (-1000000001) S_2))
abbrev rmX0_mark : Room := { frames := 3, cells := 0, slots := 0, locals := 64 }
set_option maxHeartbeats 4000000 in
set_option maxRecDepth 100000 in
theorem wC0_mark {l : Launch} {D : va_G} {a : Nat → Nat} {d : Nat → ClassId} (sz : Nat) (v1 : Int32) (v2 : Int32) (v3 : Int32) (S : CS) (Q : Int32 → CS → Prop) (h : C0_mark v1 v2 v3 S Q) : CMi l D a d yX0_mark cX0_mark 5 .int rmX0_mark 0 0 [.ref (a 0), .int v1, .int v2, .int v3] sz S Q := by
  refine c_enter (Qc := fun A => va_Qi Q (BC D a d A) A) RX0 (by decide +kernel) rfl (Nat.le_of_ble_eq_true rfl) ?_
  intro p e s m below meth c ls A hmn F hG hl
  have G := hG
  have hl : lv_has ls 5 [(0, .ref (a 0)), (1, .int v1), (2, .int v2), (3, .int v3)] := hl
  obtain ⟨hx, hb, hr, hml, hown, hts, hlocks, hA, hK, hN⟩ := id F
  unfold C0_mark at h
  refine lv_iload_n hx hb dX0_mark_0 rfl (lv_at hl 1 rfl) ?_
  refine kX0_C0_isSheet F G hl.1 ⟨(Nat.le_of_ble_eq_true rfl), (Nat.le_of_ble_eq_true rfl)⟩ ⟨(Nat.le_of_ble_eq_true rfl), (Nat.le_of_ble_eq_true rfl)⟩ (Nat.le_of_ble_eq_true rfl) dX0_mark_1 h (fun r_1 S_2 H locs G h => ?_)
  refine lv_if_ne (tgt := 10) hx hb dX0_mark_4 (by decide) (fun c_3 => ?_) (fun c_3 => ?_)
  · replace h := h.1 c_3
    refine lv_aload_n hx hb dX0_mark_10 rfl (lv_at hl 0 rfl) ?_
    refine cgX0_0_sheets F G dX0_mark_11 ?_
    refine lv_iload_n hx hb dX0_mark_14 rfl (lv_at hl 1 rfl) ?_
    obtain ⟨b_4, h⟩ := h
    refine c_aaload F G cR_25 rfl b_4 dX0_mark_15 ?_
    obtain ⟨y_5, hy_5, h⟩ := h
    refine c_nn hy_5 ?_
    refine lv_astore (lv' := [(4, .ref y_5), (0, .ref (a 0)), (1, .int v1), (2, .int v2), (3, .int v3)]) hx hb dX0_mark_16 hl (by decide) rfl (fun ls hl => ?_)
    refine lv_aload hx hb dX0_mark_18 (lv_at hl 0 rfl) ?_
    obtain ⟨fs_8, z_9, h⟩ := h
    refine kX0_C3_isThere F G z_9 hl.1 ⟨(Nat.le_of_ble_eq_true rfl), (Nat.le_of_ble_eq_true rfl)⟩ ⟨(Nat.le_of_ble_eq_true rfl), (Nat.le_of_ble_eq_true rfl)⟩ (Nat.le_of_ble_eq_true rfl) dX0_mark_20 h (fun r_6 S_7 H locs G h => ?_)
    refine lv_if_ne (tgt := 30) hx hb dX0_mark_23 (by decide) (fun c_10 => ?_) (fun c_10 => ?_)
    · replace h := h.1 c_10
      refine lv_iload_n hx hb dX0_mark_30 rfl (lv_at hl 3 rfl) ?_
      refine lv_iconst (v := 0) hx hb dX0_mark_31 (by decide) ?_
      refine lv_aload hx hb dX0_mark_32 (lv_at hl 0 rfl) ?_
      obtain ⟨fs_13, z_14, h⟩ := h
      refine kX0_C3_size F G z_14 hl.1 ⟨(Nat.le_of_ble_eq_true rfl), (Nat.le_of_ble_eq_true rfl)⟩ ⟨(Nat.le_of_ble_eq_true rfl), (Nat.le_of_ble_eq_true rfl)⟩ (Nat.le_of_ble_eq_true rfl) dX0_mark_34 h (fun r_11 S_12 H locs G h => ?_)
      refine lv_iconst (v := 1) hx hb dX0_mark_37 (by decide) ?_
      refine lv_isub hx hb dX0_mark_38 ?_
      refine kX0_C0_isIn F G hl.1 ⟨(Nat.le_of_ble_eq_true rfl), (Nat.le_of_ble_eq_true rfl)⟩ ⟨(Nat.le_of_ble_eq_true rfl), (Nat.le_of_ble_eq_true rfl)⟩ (Nat.le_of_ble_eq_true rfl) dX0_mark_39 h (fun r_15 S_16 H locs G h => ?_)
      refine lv_if_eq (tgt := 55) hx hb dX0_mark_42 (by decide) (fun c_17 => ?_) (fun c_17 => ?_)
      · replace h := h.1 c_17
        refine lv_ldcw hx hb hown (hts _ q1041) dX0_mark_55 ?_
        exact c_iret F G dX0_mark_58 h
      · replace h := h.2 c_17
        refine lv_aload hx hb dX0_mark_45 (lv_at hl 0 rfl) ?_
        refine lv_iload_n hx hb dX0_mark_47 rfl (lv_at hl 3 rfl) ?_
        refine lv_iload_n hx hb dX0_mark_48 rfl (lv_at hl 4 rfl) ?_
        refine kX0_C0_markIn F G hl.1 ⟨(Nat.le_of_ble_eq_true rfl), (Nat.le_of_ble_eq_true rfl)⟩ ⟨(Nat.le_of_ble_eq_true rfl), (Nat.le_of_ble_eq_true rfl)⟩ (Nat.le_of_ble_eq_true rfl) dX0_mark_49 h (fun r_18 S_19 H locs G h => ?_)
        refine lv_goto (tgt := 58) hx hb dX0_mark_52 (by decide) ?_
        exact c_iret F G dX0_mark_58 h
    · replace h := h.2 c_10
      refine lv_ldcw hx hb hown (hts _ q1019) dX0_mark_26 ?_
      exact c_iret F G dX0_mark_29 h
  · replace h := h.2 c_3
    refine lv_ldc hx hb hown (hts _ q368) dX0_mark_7 ?_
    exact c_iret F G dX0_mark_9 h
/-! StrokesHeard$Sheet.isNumber -/
def C3_isNumber_p29 (Q : Int32 → CS → Prop)   (S : CS) : Prop := Q 1 S
def C3_isNumber (y0 : Nat) (v1 : Int32) (S : CS) (Q : Int32 → CS → Prop) : Prop := ∃ fs_3 : List Value, has S y0 (.inr (3, fs_3)) ∧ (C3_isFloats y0 S (fun r_1 S_2 => (r_1 = 0 → C3_isNumber_p29 Q  S_2) ∧ (¬ r_1 = 0 → ∃ (fs_6 : List Value) (o_9 : Option Nat), has S_2 y0 (.inr (3, fs_6)) ∧ fs_6[0]? = some (va_rf o_9) ∧ (∃ y_10 : Nat, o_9 = some y_10 ∧ (∃ x_11 : vp_A, has S_2 y_10 (.inl (6, x_11)) ∧ (∃ (n_13 : Nat) (f_14 : Nat → UInt32), has S_2 y_10 (.inl (6, n_13, .inr (.inr (.inl f_14)))) ∧ vp_in v1 n_13 ∧ (∃ (fs_17 : List Value) (o_20 : Option Nat), has S_2 y0 (.inr (3, fs_17)) ∧ fs_17[0]? = some (va_rf o_20) ∧ (∃ y_21 : Nat, o_20 = some y_21 ∧ (∃ x_22 : vp_A, has S_2 y_21 (.inl (6, x_22)) ∧ (∃ (n_24 : Nat) (f_25 : Nat → UInt32), has S_2 y_21 (.inl (6, n_24, .inr (.inr (.inl f_25)))) ∧ vp_in v1 n_24 ∧ ((¬ (Op.cmpValue (FP.fcmp (f_14 (v1.toNatClampNeg)) (f_25 (v1.toNatClampNeg))) .l) = 0 → Q 0 S_2) ∧ ((Op.cmpValue (FP.fcmp (f_14 (v1.toNatClampNeg)) (f_25 (v1.toNatClampNeg))) .l) = 0 → C3_isNumber_p29 Q  S_2))))))))))))
abbrev rmX3_isNumber : Room := { frames := 1, cells := 0, slots := 0, locals := 20 }
set_option maxHeartbeats 4000000 in
set_option maxRecDepth 100000 in
theorem wC3_isNumber_p29 {p : Program} {l : Launch} {e : Env} {s : State} {m : MethodId} {args : Array Value} {below : List Frame} {meth : Method} {c : Code} {D : va_G} {a : Nat → Nat} {d : Nat → ClassId} {A : Nat → Prop} {Q : Int32 → CS → Prop}  (F : FC p s m meth c args D a d A RX3 cX3_isNumber 2 (some .boolean))  (S : CS)  {H : Heap} {locs : List Loc} {ls : Array Slot} (G : GC D a d A s.heap S H locs) (hl : lv_has ls 2 []) (h : C3_isNumber_p29 Q S) : wCi p l e rmX3_isNumber s m args below meth c D a d A Q 0 0 H locs 0 0 (F0 m 29 ls []) := by
  obtain ⟨hx, hb, hr, hml, hown, hts, hlocks, hA, hK, hN⟩ := id F
  unfold C3_isNumber_p29 at h
  refine lv_iconst (v := 1) hx hb dX3_isNumber_29 (by decide) ?_
  refine lv_goto (tgt := 34) hx hb dX3_isNumber_30 (by decide) ?_
  exact c_zret rfl F G dX3_isNumber_34 h
set_option maxHeartbeats 4000000 in
set_option maxRecDepth 100000 in
theorem wC3_isNumber {l : Launch} {D : va_G} {a : Nat → Nat} {d : Nat → ClassId} (sz : Nat) (y0 : Nat) (v1 : Int32) (S : CS) (Q : Int32 → CS → Prop) (h : C3_isNumber y0 v1 S Q) : CMi l D a d yX3_isNumber cX3_isNumber 2 .boolean rmX3_isNumber 0 0 [.ref y0, .int v1] sz S Q := by
  refine c_enter (Qc := fun A => va_Qi Q (BC D a d A) A) RX3 (by decide +kernel) rfl (Nat.le_of_ble_eq_true rfl) ?_
  intro p e s m below meth c ls A hmn F hG hl
  have G := hG
  have hl : lv_has ls 2 [(0, .ref y0), (1, .int v1)] := hl
  obtain ⟨hx, hb, hr, hml, hown, hts, hlocks, hA, hK, hN⟩ := id F
  unfold C3_isNumber at h
  refine lv_aload_n hx hb dX3_isNumber_0 rfl (lv_at hl 0 rfl) ?_
  obtain ⟨fs_3, z_4, h⟩ := h
  refine kX3_C3_isFloats F G z_4 hl.1 ⟨(Nat.le_of_ble_eq_true rfl), (Nat.le_of_ble_eq_true rfl)⟩ ⟨(Nat.le_of_ble_eq_true rfl), (Nat.le_of_ble_eq_true rfl)⟩ (Nat.le_of_ble_eq_true rfl) dX3_isNumber_1 h (fun r_1 S_2 H locs G h => ?_)
  refine lv_if_eq (tgt := 29) hx hb dX3_isNumber_4 (by decide) (fun c_5 => ?_) (fun c_5 => ?_)
  · replace h := h.1 c_5
    exact wC3_isNumber_p29 F  S_2  G (lv_sub hl [] rfl) h
  · replace h := h.2 c_5
    refine lv_aload_n hx hb dX3_isNumber_7 rfl (lv_at hl 0 rfl) ?_
    obtain ⟨fs_6, o_9, z_7, u_8, h⟩ := h
    refine pgX3_X3_row F G z_7 u_8 dX3_isNumber_8 ?_
    obtain ⟨y_10, hy_10, h⟩ := h
    refine c_nn hy_10 ?_
    obtain ⟨x_11, z_12, h⟩ := h
    refine p_castF_X3 F G z_12 dX3_isNumber_11 ?_
    refine lv_iload_n hx hb dX3_isNumber_14 rfl (lv_at hl 1 rfl) ?_
    obtain ⟨n_13, f_14, z_15, b_16, h⟩ := h
    refine p_faload F G z_15 b_16 dX3_isNumber_15 ?_
    refine lv_aload_n hx hb dX3_isNumber_16 rfl (lv_at hl 0 rfl) ?_
    obtain ⟨fs_17, o_20, z_18, u_19, h⟩ := h
    refine pgX3_X3_row F G z_18 u_19 dX3_isNumber_17 ?_
    obtain ⟨y_21, hy_21, h⟩ := h
    refine c_nn hy_21 ?_
    obtain ⟨x_22, z_23, h⟩ := h
    refine p_castF_X3 F G z_23 dX3_isNumber_20 ?_
    refine lv_iload_n hx hb dX3_isNumber_23 rfl (lv_at hl 1 rfl) ?_
    obtain ⟨n_24, f_25, z_26, b_27, h⟩ := h
    refine p_faload F G z_26 b_27 dX3_isNumber_24 ?_
    refine lv_fcmp hx hb dX3_isNumber_25 ?_
    refine lv_if_ne (tgt := 33) hx hb dX3_isNumber_26 (by decide) (fun c_28 => ?_) (fun c_28 => ?_)
    · replace h := h.1 c_28
      refine lv_iconst (v := 0) hx hb dX3_isNumber_33 (by decide) ?_
      exact c_zret rfl F G dX3_isNumber_34 h
    · replace h := h.2 c_28
      exact wC3_isNumber_p29 F  S_2  G (lv_sub hl [] rfl) h
set_option maxHeartbeats 4000000 in
set_option maxRecDepth 100000 in
theorem kX0_C3_isNumber {p : Program} {l : Launch} {e : Env} {s : State} {m : MethodId} {R : Room} {args : Array Value} {below : List Frame} {meth : Method} {c : Code} {D : va_G} {a : Nat → Nat} {d : Nat → ClassId} {A : Nat → Prop} {Q : State → Prop} {cc : ByteArray} {nL pc cells slots : Nat} {ret : Option FieldType} {ls : Array Slot} {rest : List Value} {y0 : Nat} {v1 : Int32} {S : CS} {H : Heap} {locs : List Loc} {Q1 : Int32 → CS → Prop} (F : FC p s m meth c args D a d A RX0 cc nL ret) (G : GC D a d A s.heap S H locs) {fs0 : List Value} (hy : has S y0 (.inr (3, fs0))) (hsz : ls.size = nL) (hR : rmX3_isNumber.frames + 1 ≤ R.frames ∧ 8 + (2 + 11) + rmX3_isNumber.locals ≤ R.locals) (hc : cells + 0 ≤ R.cells ∧ slots + 0 ≤ R.slots) (hW : (rest.map fun v => v.category).sum ≤ 8) (hd : decode cc pc = .ok (.invokevirtual 450, 3)) (h : C3_isNumber y0 v1 S Q1) (k : ∀ (r : Int32) (S1 : CS) (H : Heap) (locs : List Loc), GC D a d A s.heap S1 H locs → Q1 r S1 → W p l e R s m args below meth c H locs cells slots Q (F0 m (pc + 3) ls (.int r :: rest))) : W p l e R s m args below meth c H locs cells slots Q (F0 m pc ls (.int v1 :: .ref y0 :: rest)) := by
  obtain ⟨hx, hb, hr, hml, hown, hts, hlocks, hA, hK, hN⟩ := id F
  exact c_calli F G (va_runV (As := [.int v1]) (rest := rest) ⟨hx, hb, hml, hown, hts⟩ (wC3_isNumber H.size y0 v1 S Q1 h) (cwV 1 hts (lw_V q1046 q1047 q1048 q88 q1049) rfl rfl rfl (by decide +kernel) hR) ⟨PC_blind, p_recv_X3 F G hy, c_pre F G⟩ rfl rfl hsz rfl (lv_room hW) hd hc) k
/-! StrokesHeard$Sheet.at -/
def C3_at (y0 : Nat) (v1 : Int32) (S : CS) (Q : Int32 → CS → Prop) : Prop := ∃ fs_3 : List Value, has S y0 (.inr (3, fs_3)) ∧ (C3_isFloats y0 S (fun r_1 S_2 => (r_1 = 0 → ∃ (fs_6 : List Value) (o_9 : Option Nat), has S_2 y0 (.inr (3, fs_6)) ∧ fs_6[0]? = some (va_rf o_9) ∧ (∃ y_10 : Nat, o_9 = some y_10 ∧ (∃ x_11 : vp_A, has S_2 y_10 (.inl (7, x_11)) ∧ (∃ (n_13 : Nat) (f_14 : Nat → Int32), has S_2 y_10 (.inl (7, n_13, .inl f_14)) ∧ vp_in v1 n_13 ∧ (Q (f_14 (v1.toNatClampNeg)) S_2))))) ∧ (¬ r_1 = 0 → ∃ (fs_17 : List Value) (o_20 : Option Nat), has S_2 y0 (.inr (3, fs_17)) ∧ fs_17[0]? = some (va_rf o_20) ∧ (∃ y_21 : Nat, o_20 = some y_21 ∧ (∃ x_22 : vp_A, has S_2 y_21 (.inl (6, x_22)) ∧ (∃ (n_24 : Nat) (f_25 : Nat → UInt32), has S_2 y_21 (.inl (6, n_24, .inr (.inr (.inl f_25)))) ∧ vp_in v1 n_24 ∧ (Q (FP.f2i (f_25 (v1.toNatClampNeg))) S_2)))))))
abbrev rmX3_at : Room := { frames := 1, cells := 0, slots := 0, locals := 20 }
set_option maxHeartbeats 4000000 in
set_option maxRecDepth 100000 in
theorem wC3_at {l : Launch} {D : va_G} {a : Nat → Nat} {d : Nat → ClassId} (sz : Nat) (y0 : Nat) (v1 : Int32) (S : CS) (Q : Int32 → CS → Prop) (h : C3_at y0 v1 S Q) : CMi l D a d yX3_at cX3_at 2 .int rmX3_at 0 0 [.ref y0, .int v1] sz S Q := by
  refine c_enter (Qc := fun A => va_Qi Q (BC D a d A) A) RX3 (by decide +kernel) rfl (Nat.le_of_ble_eq_true rfl) ?_
  intro p e s m below meth c ls A hmn F hG hl
  have G := hG
  have hl : lv_has ls 2 [(0, .ref y0), (1, .int v1)] := hl
  obtain ⟨hx, hb, hr, hml, hown, hts, hlocks, hA, hK, hN⟩ := id F
  unfold C3_at at h
  refine lv_aload_n hx hb dX3_at_0 rfl (lv_at hl 0 rfl) ?_
  obtain ⟨fs_3, z_4, h⟩ := h
  refine kX3_C3_isFloats F G z_4 hl.1 ⟨(Nat.le_of_ble_eq_true rfl), (Nat.le_of_ble_eq_true rfl)⟩ ⟨(Nat.le_of_ble_eq_true rfl), (Nat.le_of_ble_eq_true rfl)⟩ (Nat.le_of_ble_eq_true rfl) dX3_at_1 h (fun r_1 S_2 H locs G h => ?_)
  refine lv_if_eq (tgt := 20) hx hb dX3_at_4 (by decide) (fun c_5 => ?_) (fun c_5 => ?_)
  · replace h := h.1 c_5
    refine lv_aload_n hx hb dX3_at_20 rfl (lv_at hl 0 rfl) ?_
    obtain ⟨fs_6, o_9, z_7, u_8, h⟩ := h
    refine pgX3_X3_row F G z_7 u_8 dX3_at_21 ?_
    obtain ⟨y_10, hy_10, h⟩ := h
    refine c_nn hy_10 ?_
    obtain ⟨x_11, z_12, h⟩ := h
    refine p_castS_X3 F G z_12 dX3_at_24 ?_
    refine lv_iload_n hx hb dX3_at_27 rfl (lv_at hl 1 rfl) ?_
    obtain ⟨n_13, f_14, z_15, b_16, h⟩ := h
    refine p_saload F G z_15 b_16 dX3_at_28 ?_
    exact c_iret F G dX3_at_29 h
  · replace h := h.2 c_5
    refine lv_aload_n hx hb dX3_at_7 rfl (lv_at hl 0 rfl) ?_
    obtain ⟨fs_17, o_20, z_18, u_19, h⟩ := h
    refine pgX3_X3_row F G z_18 u_19 dX3_at_8 ?_
    obtain ⟨y_21, hy_21, h⟩ := h
    refine c_nn hy_21 ?_
    obtain ⟨x_22, z_23, h⟩ := h
    refine p_castF_X3 F G z_23 dX3_at_11 ?_
    refine lv_iload_n hx hb dX3_at_14 rfl (lv_at hl 1 rfl) ?_
    obtain ⟨n_24, f_25, z_26, b_27, h⟩ := h
    refine p_faload F G z_26 b_27 dX3_at_15 ?_
    refine lv_f2i hx hb dX3_at_16 ?_
    refine lv_goto (tgt := 29) hx hb dX3_at_17 (by decide) ?_
    exact c_iret F G dX3_at_29 h
set_option maxHeartbeats 4000000 in
set_option maxRecDepth 100000 in
theorem kX0_C3_at {p : Program} {l : Launch} {e : Env} {s : State} {m : MethodId} {R : Room} {args : Array Value} {below : List Frame} {meth : Method} {c : Code} {D : va_G} {a : Nat → Nat} {d : Nat → ClassId} {A : Nat → Prop} {Q : State → Prop} {cc : ByteArray} {nL pc cells slots : Nat} {ret : Option FieldType} {ls : Array Slot} {rest : List Value} {y0 : Nat} {v1 : Int32} {S : CS} {H : Heap} {locs : List Loc} {Q1 : Int32 → CS → Prop} (F : FC p s m meth c args D a d A RX0 cc nL ret) (G : GC D a d A s.heap S H locs) {fs0 : List Value} (hy : has S y0 (.inr (3, fs0))) (hsz : ls.size = nL) (hR : rmX3_at.frames + 1 ≤ R.frames ∧ 8 + (2 + 11) + rmX3_at.locals ≤ R.locals) (hc : cells + 0 ≤ R.cells ∧ slots + 0 ≤ R.slots) (hW : (rest.map fun v => v.category).sum ≤ 8) (hd : decode cc pc = .ok (.invokevirtual 453, 3)) (h : C3_at y0 v1 S Q1) (k : ∀ (r : Int32) (S1 : CS) (H : Heap) (locs : List Loc), GC D a d A s.heap S1 H locs → Q1 r S1 → W p l e R s m args below meth c H locs cells slots Q (F0 m (pc + 3) ls (.int r :: rest))) : W p l e R s m args below meth c H locs cells slots Q (F0 m pc ls (.int v1 :: .ref y0 :: rest)) := by
  obtain ⟨hx, hb, hr, hml, hown, hts, hlocks, hA, hK, hN⟩ := id F
  exact c_calli F G (va_runV (As := [.int v1]) (rest := rest) ⟨hx, hb, hml, hown, hts⟩ (wC3_at H.size y0 v1 S Q1 h) (cwV 1 hts (lw_V q1050 q1051 q1052 q88 q1053) rfl rfl rfl (by decide +kernel) hR) ⟨PC_blind, p_recv_X3 F G hy, c_pre F G⟩ rfl rfl hsz rfl (lv_room hW) hd hc) k
/-! StrokesHeard.pour -/
def C0_pour_p120 (Q : Int32 → CS → Prop) (K33 : Int32 → Int32 → CS → Prop) (y2 : Nat) (v4 : Int32) (t0 : Int32) (t1 : Int32) (S : CS) : Prop := ∀ x_41 : Int32, x_41 = (t1 + t0) → K33 x_41 (v4 + 1) S
def C0_pour_p91 (Q : Int32 → CS → Prop) (K33 : Int32 → Int32 → CS → Prop) (y2 : Nat) (v3 : Int32) (v4 : Int32) (t0 : Int32) (S : CS) : Prop := vp_in v4 6 ∧ (∃ y_37 : Nat, (S.2.1 5 v4.toNatClampNeg) = some y_37 ∧ (C0_becomes y_37 1 t0 S (fun r_38 S_39 => (¬ r_38 = t0 → C0_pour_p120 Q K33 y2 v4 1 v3 S_39) ∧ (r_38 = t0 → C0_pour_p120 Q K33 y2 v4 0 v3 S_39))))
def C0_pour_L33 (Q : Int32 → CS → Prop)  (y2 : Nat) : Nat → Int32 → Int32 → CS → Prop
  | 0, _, _, _ => False
  | n + 1, v3, v4, S => ((S.1 1 1) ≤ v4 → Q v3 S) ∧ (¬ (S.1 1 1) ≤ v4 → ∃ fs_14 : List Value, has S y2 (.inr (3, fs_14)) ∧ (C3_size y2 S (fun r_12 S_13 => (r_12 ≤ v4 → Q v3 S_13) ∧ (¬ r_12 ≤ v4 → ∃ fs_19 : List Value, has S_13 y2 (.inr (3, fs_19)) ∧ (C3_isNumber y2 v4 S_13 (fun r_17 S_18 => (r_17 = 0 → vp_in v4 6 ∧ (∃ y_23 : Nat, (S_18.2.1 5 v4.toNatClampNeg) = some y_23 ∧ (∃ (κ_27 : Nat) (fs_24 : List Value) (i_29 : Int32), κ_27 < 6 ∧ has S_18 y_23 (.inr (6 + κ_27, fs_24)) ∧ fs_24[0]? = some (.int i_29) ∧ (C0_pour_p91 Q (fun v3_ v4_ S_ => C0_pour_L33 Q y2 n v3_ v4_ S_) y2 v3 v4 i_29 S_18)))) ∧ (¬ r_17 = 0 → ∃ fs_32 : List Value, has S_18 y2 (.inr (3, fs_32)) ∧ (C3_at y2 v4 S_18 (fun r_30 S_31 => C0_within r_30 0 59 S_31 (fun r_34 S_35 => C0_pour_p91 Q (fun v3_ v4_ S_ => C0_pour_L33 Q y2 n v3_ v4_ S_) y2 v3 v4 r_34 S_35))))))))))
def C0_pour (v1 : Int32) (S : CS) (Q : Int32 → CS → Prop) : Prop := C0_isSheet v1 S (fun r_1 S_2 => (¬ r_1 = 0 → vp_in v1 4 ∧ (∃ y_5 : Nat, (S_2.2.1 25 v1.toNatClampNeg) = some y_5 ∧ (∃ fs_8 : List Value, has S_2 y_5 (.inr (3, fs_8)) ∧ (C3_isThere y_5 S_2 (fun r_6 S_7 => (¬ r_6 = 0 → ∃ k33, C0_pour_L33 Q y_5 k33 0 0 S_7) ∧ (r_6 = 0 → Q (-1000000011) S_7)))))) ∧ (r_1 = 0 → Q (-1000000001) S_2))
abbrev rmX0_pour : Room := { frames := 2, cells := 0, slots := 0, locals := 43 }
set_option maxHeartbeats 4000000 in
set_option maxRecDepth 100000 in
theorem wC0_pour_p120 {p : Program} {l : Launch} {e : Env} {s : State} {m : MethodId} {args : Array Value} {below : List Frame} {meth : Method} {c : Code} {D : va_G} {a : Nat → Nat} {d : Nat → ClassId} {A : Nat → Prop} {Q : Int32 → CS → Prop} {K33 : Int32 → Int32 → CS → Prop} (F : FC p s m meth c args D a d A RX0 cX0_pour 6 (some .int)) (y2 : Nat) (v4 : Int32) (t0 : Int32) (t1 : Int32) (S : CS) (hK33 : ∀ (v3 : Int32) (v4 : Int32) (S : CS) (H : Heap) (locs : List Loc) (ls : Array Slot), GC D a d A s.heap S H locs → lv_has ls 6 [(0, .ref (a 0)), (2, .ref y2), (3, .int v3), (4, .int v4)] → K33 v3 v4 S → wCi p l e rmX0_pour s m args below meth c D a d A Q 0 0 H locs 0 0 (F0 m 33 ls [])) {H : Heap} {locs : List Loc} {ls : Array Slot} (G : GC D a d A s.heap S H locs) (hl : lv_has ls 6 [(0, .ref (a 0)), (2, .ref y2), (4, .int v4)]) (h : C0_pour_p120 Q K33 y2 v4 t0 t1 S) : wCi p l e rmX0_pour s m args below meth c D a d A Q 0 0 H locs 0 0 (F0 m 120 ls [.int t0, .int t1]) := by
  obtain ⟨hx, hb, hr, hml, hown, hts, hlocks, hA, hK, hN⟩ := id F
  unfold C0_pour_p120 at h
  refine lv_iadd hx hb dX0_pour_120 ?_
  refine lv_topi (fun x_41 ex_41 => ?_)
  replace h := h x_41 ex_41
  refine lv_istore_n (lv' := [(3, .int x_41), (0, .ref (a 0)), (2, .ref y2), (4, .int v4)]) hx hb dX0_pour_121 rfl hl (by decide) rfl (fun ls hl => ?_)
  refine lv_iinc (v := (v4 + 1)) (lv' := [(4, .int (v4 + 1)), (3, .int x_41), (0, .ref (a 0)), (2, .ref y2)]) hx hb dX0_pour_122 hl (k := 3) rfl rfl (by decide) rfl (fun ls hl => ?_)
  refine lv_goto (tgt := 33) hx hb dX0_pour_125 (by decide) ?_
  exact hK33 x_41 (v4 + 1) S _ _ _ G (lv_sub hl [2, 3, 1, 0] rfl) h
set_option maxHeartbeats 4000000 in
set_option maxRecDepth 100000 in
theorem wC0_pour_p91 {p : Program} {l : Launch} {e : Env} {s : State} {m : MethodId} {args : Array Value} {below : List Frame} {meth : Method} {c : Code} {D : va_G} {a : Nat → Nat} {d : Nat → ClassId} {A : Nat → Prop} {Q : Int32 → CS → Prop} {K33 : Int32 → Int32 → CS → Prop} (F : FC p s m meth c args D a d A RX0 cX0_pour 6 (some .int)) (y2 : Nat) (v3 : Int32) (v4 : Int32) (t0 : Int32) (S : CS) (hK33 : ∀ (v3 : Int32) (v4 : Int32) (S : CS) (H : Heap) (locs : List Loc) (ls : Array Slot), GC D a d A s.heap S H locs → lv_has ls 6 [(0, .ref (a 0)), (2, .ref y2), (3, .int v3), (4, .int v4)] → K33 v3 v4 S → wCi p l e rmX0_pour s m args below meth c D a d A Q 0 0 H locs 0 0 (F0 m 33 ls [])) {H : Heap} {locs : List Loc} {ls : Array Slot} (G : GC D a d A s.heap S H locs) (hl : lv_has ls 6 [(0, .ref (a 0)), (2, .ref y2), (3, .int v3), (4, .int v4)]) (h : C0_pour_p91 Q K33 y2 v3 v4 t0 S) : wCi p l e rmX0_pour s m args below meth c D a d A Q 0 0 H locs 0 0 (F0 m 91 ls [.int t0]) := by
  obtain ⟨hx, hb, hr, hml, hown, hts, hlocks, hA, hK, hN⟩ := id F
  unfold C0_pour_p91 at h
  refine lv_istore (lv' := [(5, .int t0), (0, .ref (a 0)), (2, .ref y2), (3, .int v3), (4, .int v4)]) hx hb dX0_pour_91 hl (by decide) rfl (fun ls hl => ?_)
  refine lv_iload_n hx hb dX0_pour_93 rfl (lv_at hl 3 rfl) ?_
  refine lv_aload_n hx hb dX0_pour_94 rfl (lv_at hl 1 rfl) ?_
  refine cgX0_0_now F G dX0_pour_95 ?_
  refine cgX0_1_clock F G dX0_pour_98 ?_
  refine lv_iload hx hb dX0_pour_101 (lv_at hl 4 rfl) ?_
  obtain ⟨b_36, h⟩ := h
  refine c_aaload F G cR_5 rfl b_36 dX0_pour_103 ?_
  obtain ⟨y_37, hy_37, h⟩ := h
  refine c_nn hy_37 ?_
  refine lv_iconst (v := 1) hx hb dX0_pour_104 (by decide) ?_
  refine lv_iload hx hb dX0_pour_105 (lv_at hl 0 rfl) ?_
  refine kX0_C0_becomes F G hl.1 ⟨(Nat.le_of_ble_eq_true rfl), (Nat.le_of_ble_eq_true rfl)⟩ ⟨(Nat.le_of_ble_eq_true rfl), (Nat.le_of_ble_eq_true rfl)⟩ (Nat.le_of_ble_eq_true rfl) dX0_pour_107 h (fun r_38 S_39 H locs G h => ?_)
  refine lv_iload hx hb dX0_pour_110 (lv_at hl 0 rfl) ?_
  refine lv_icmp_ne (tgt := 119) hx hb dX0_pour_112 (by decide) (fun c_40 => ?_) (fun c_40 => ?_)
  · replace h := h.1 c_40
    refine lv_iconst (v := 1) hx hb dX0_pour_119 (by decide) ?_
    exact wC0_pour_p120 F y2 v4 1 v3 S_39 hK33 G (lv_sub hl [1, 2, 4] rfl) h
  · replace h := h.2 c_40
    refine lv_iconst (v := 0) hx hb dX0_pour_115 (by decide) ?_
    refine lv_goto (tgt := 120) hx hb dX0_pour_116 (by decide) ?_
    exact wC0_pour_p120 F y2 v4 0 v3 S_39 hK33 G (lv_sub hl [1, 2, 4] rfl) h
set_option maxHeartbeats 4000000 in
set_option maxRecDepth 100000 in
theorem wC0_pour_L33 {p : Program} {l : Launch} {e : Env} {s : State} {m : MethodId} {args : Array Value} {below : List Frame} {meth : Method} {c : Code} {D : va_G} {a : Nat → Nat} {d : Nat → ClassId} {A : Nat → Prop} {Q : Int32 → CS → Prop}  (F : FC p s m meth c args D a d A RX0 cX0_pour 6 (some .int)) (y2 : Nat)  :
    ∀ (n : Nat) (v3 : Int32) (v4 : Int32) (S : CS) (H : Heap) (locs : List Loc) (ls : Array Slot), GC D a d A s.heap S H locs → lv_has ls 6 [(0, .ref (a 0)), (2, .ref y2), (3, .int v3), (4, .int v4)] → C0_pour_L33 Q y2 n v3 v4 S → wCi p l e rmX0_pour s m args below meth c D a d A Q 0 0 H locs 0 0 (F0 m 33 ls []) := by
  obtain ⟨hx, hb, hr, hml, hown, hts, hlocks, hA, hK, hN⟩ := id F
  intro n
  induction n with
  | zero => intro v3 v4 S H locs ls G hl h; exact absurd h (fun q => q)
  | succ n ih =>
    intro v3 v4 S H locs ls G hl h
    unfold C0_pour_L33 at h
    refine lv_iload hx hb dX0_pour_33 (lv_at hl 3 rfl) ?_
    refine lv_aload_n hx hb dX0_pour_35 rfl (lv_at hl 0 rfl) ?_
    refine cgX0_0_now F G dX0_pour_36 ?_
    refine cgX0_1_many F G dX0_pour_39 ?_
    refine lv_icmp_ge (tgt := 128) hx hb dX0_pour_42 (by decide) (fun c_11 => ?_) (fun c_11 => ?_)
    · replace h := h.1 c_11
      refine lv_iload_n hx hb dX0_pour_128 rfl (lv_at hl 2 rfl) ?_
      exact c_iret F G dX0_pour_129 h
    · replace h := h.2 c_11
      refine lv_iload hx hb dX0_pour_45 (lv_at hl 3 rfl) ?_
      refine lv_aload_n hx hb dX0_pour_47 rfl (lv_at hl 1 rfl) ?_
      obtain ⟨fs_14, z_15, h⟩ := h
      refine kX0_C3_size F G z_15 hl.1 ⟨(Nat.le_of_ble_eq_true rfl), (Nat.le_of_ble_eq_true rfl)⟩ ⟨(Nat.le_of_ble_eq_true rfl), (Nat.le_of_ble_eq_true rfl)⟩ (Nat.le_of_ble_eq_true rfl) dX0_pour_48 h (fun r_12 S_13 H locs G h => ?_)
      refine lv_icmp_ge (tgt := 128) hx hb dX0_pour_51 (by decide) (fun c_16 => ?_) (fun c_16 => ?_)
      · replace h := h.1 c_16
        refine lv_iload_n hx hb dX0_pour_128 rfl (lv_at hl 2 rfl) ?_
        exact c_iret F G dX0_pour_129 h
      · replace h := h.2 c_16
        refine lv_aload_n hx hb dX0_pour_54 rfl (lv_at hl 1 rfl) ?_
        refine lv_iload hx hb dX0_pour_55 (lv_at hl 3 rfl) ?_
        obtain ⟨fs_19, z_20, h⟩ := h
        refine kX0_C3_isNumber F G z_20 hl.1 ⟨(Nat.le_of_ble_eq_true rfl), (Nat.le_of_ble_eq_true rfl)⟩ ⟨(Nat.le_of_ble_eq_true rfl), (Nat.le_of_ble_eq_true rfl)⟩ (Nat.le_of_ble_eq_true rfl) dX0_pour_57 h (fun r_17 S_18 H locs G h => ?_)
        refine lv_if_eq (tgt := 78) hx hb dX0_pour_60 (by decide) (fun c_21 => ?_) (fun c_21 => ?_)
        · replace h := h.1 c_21
          refine lv_aload_n hx hb dX0_pour_78 rfl (lv_at hl 0 rfl) ?_
          refine cgX0_0_now F G dX0_pour_79 ?_
          refine cgX0_1_clock F G dX0_pour_82 ?_
          refine lv_iload hx hb dX0_pour_85 (lv_at hl 3 rfl) ?_
          obtain ⟨b_22, h⟩ := h
          refine c_aaload F G cR_5 rfl b_22 dX0_pour_87 ?_
          obtain ⟨y_23, hy_23, h⟩ := h
          refine c_nn hy_23 ?_
          obtain ⟨κ_27, fs_24, i_29, q_28, z_25, u_26, h⟩ := h
          refine pgX0_X6_off F G q_28 z_25 u_26 dX0_pour_88 ?_
          exact wC0_pour_p91 F y2 v3 v4 i_29 S_18 ih G (lv_sub hl [0, 1, 2, 3] rfl) h
        · replace h := h.2 c_21
          refine lv_aload_n hx hb dX0_pour_63 rfl (lv_at hl 1 rfl) ?_
          refine lv_iload hx hb dX0_pour_64 (lv_at hl 3 rfl) ?_
          obtain ⟨fs_32, z_33, h⟩ := h
          refine kX0_C3_at F G z_33 hl.1 ⟨(Nat.le_of_ble_eq_true rfl), (Nat.le_of_ble_eq_true rfl)⟩ ⟨(Nat.le_of_ble_eq_true rfl), (Nat.le_of_ble_eq_true rfl)⟩ (Nat.le_of_ble_eq_true rfl) dX0_pour_66 h (fun r_30 S_31 H locs G h => ?_)
          refine lv_iconst (v := 0) hx hb dX0_pour_69 (by decide) ?_
          refine lv_bipush (v := 59) hx hb dX0_pour_70 (by decide) ?_
          refine kX0_C0_within F G hl.1 ⟨(Nat.le_of_ble_eq_true rfl), (Nat.le_of_ble_eq_true rfl)⟩ ⟨(Nat.le_of_ble_eq_true rfl), (Nat.le_of_ble_eq_true rfl)⟩ (Nat.le_of_ble_eq_true rfl) dX0_pour_72 h (fun r_34 S_35 H locs G h => ?_)
          refine lv_goto (tgt := 91) hx hb dX0_pour_75 (by decide) ?_
          exact wC0_pour_p91 F y2 v3 v4 r_34 S_35 ih G (lv_sub hl [0, 1, 2, 3] rfl) h
set_option maxHeartbeats 4000000 in
set_option maxRecDepth 100000 in
theorem wC0_pour {l : Launch} {D : va_G} {a : Nat → Nat} {d : Nat → ClassId} (sz : Nat) (v1 : Int32) (S : CS) (Q : Int32 → CS → Prop) (h : C0_pour v1 S Q) : CMi l D a d yX0_pour cX0_pour 6 .int rmX0_pour 0 0 [.ref (a 0), .int v1] sz S Q := by
  refine c_enter (Qc := fun A => va_Qi Q (BC D a d A) A) RX0 (by decide +kernel) rfl (Nat.le_of_ble_eq_true rfl) ?_
  intro p e s m below meth c ls A hmn F hG hl
  have G := hG
  have hl : lv_has ls 6 [(0, .ref (a 0)), (1, .int v1)] := hl
  obtain ⟨hx, hb, hr, hml, hown, hts, hlocks, hA, hK, hN⟩ := id F
  unfold C0_pour at h
  refine lv_iload_n hx hb dX0_pour_0 rfl (lv_at hl 1 rfl) ?_
  refine kX0_C0_isSheet F G hl.1 ⟨(Nat.le_of_ble_eq_true rfl), (Nat.le_of_ble_eq_true rfl)⟩ ⟨(Nat.le_of_ble_eq_true rfl), (Nat.le_of_ble_eq_true rfl)⟩ (Nat.le_of_ble_eq_true rfl) dX0_pour_1 h (fun r_1 S_2 H locs G h => ?_)
  refine lv_if_ne (tgt := 10) hx hb dX0_pour_4 (by decide) (fun c_3 => ?_) (fun c_3 => ?_)
  · replace h := h.1 c_3
    refine lv_aload_n hx hb dX0_pour_10 rfl (lv_at hl 0 rfl) ?_
    refine cgX0_0_sheets F G dX0_pour_11 ?_
    refine lv_iload_n hx hb dX0_pour_14 rfl (lv_at hl 1 rfl) ?_
    obtain ⟨b_4, h⟩ := h
    refine c_aaload F G cR_25 rfl b_4 dX0_pour_15 ?_
    obtain ⟨y_5, hy_5, h⟩ := h
    refine c_nn hy_5 ?_
    refine lv_astore_n (lv' := [(2, .ref y_5), (0, .ref (a 0)), (1, .int v1)]) hx hb dX0_pour_16 rfl hl (by decide) rfl (fun ls hl => ?_)
    refine lv_aload_n hx hb dX0_pour_17 rfl (lv_at hl 0 rfl) ?_
    obtain ⟨fs_8, z_9, h⟩ := h
    refine kX0_C3_isThere F G z_9 hl.1 ⟨(Nat.le_of_ble_eq_true rfl), (Nat.le_of_ble_eq_true rfl)⟩ ⟨(Nat.le_of_ble_eq_true rfl), (Nat.le_of_ble_eq_true rfl)⟩ (Nat.le_of_ble_eq_true rfl) dX0_pour_18 h (fun r_6 S_7 H locs G h => ?_)
    refine lv_if_ne (tgt := 28) hx hb dX0_pour_21 (by decide) (fun c_10 => ?_) (fun c_10 => ?_)
    · replace h := h.1 c_10
      refine lv_iconst (v := 0) hx hb dX0_pour_28 (by decide) ?_
      refine lv_istore_n (lv' := [(3, .int 0), (2, .ref y_5), (0, .ref (a 0)), (1, .int v1)]) hx hb dX0_pour_29 rfl hl (by decide) rfl (fun ls hl => ?_)
      refine lv_iconst (v := 0) hx hb dX0_pour_30 (by decide) ?_
      refine lv_istore (lv' := [(4, .int 0), (3, .int 0), (2, .ref y_5), (0, .ref (a 0)), (1, .int v1)]) hx hb dX0_pour_31 hl (by decide) rfl (fun ls hl => ?_)
      obtain ⟨k33, h⟩ := h
      exact wC0_pour_L33 F y_5  k33 0 0 S_7 _ _ _ G (lv_sub hl [3, 2, 1, 0] rfl) h
    · replace h := h.2 c_10
      refine lv_ldcw hx hb hown (hts _ q1019) dX0_pour_24 ?_
      exact c_iret F G dX0_pour_27 h
  · replace h := h.2 c_3
    refine lv_ldc hx hb hown (hts _ q368) dX0_pour_7 ?_
    exact c_iret F G dX0_pour_9 h
/-! StrokesHeard.reads -/
def C0_reads_p81 (Q : Int32 → CS → Prop) (K30 : Int32 → CS → Prop) (y2 : Nat) (v3 : Int32) (S : CS) : Prop := K30 (v3 + 1) S
def C0_reads_L30 (Q : Int32 → CS → Prop)  (y2 : Nat) : Nat → Int32 → CS → Prop
  | 0, _, _ => False
  | n + 1, v3, S => ∃ fs_13 : List Value, has S y2 (.inr (3, fs_13)) ∧ (C3_size y2 S (fun r_11 S_12 => (r_11 ≤ v3 → Q (-1000000005) S_12) ∧ (¬ r_11 ≤ v3 → ∃ fs_18 : List Value, has S_12 y2 (.inr (3, fs_18)) ∧ (C3_isNumber y2 v3 S_12 (fun r_16 S_17 => (r_16 = 0 → C0_reads_p81 Q (fun v3_ S_ => C0_reads_L30 Q y2 n v3_ S_) y2 v3 S_17) ∧ (¬ r_16 = 0 → C0_isClock v3 S_17 (fun r_21 S_22 => (r_21 = 0 → Q v3 S_22) ∧ (¬ r_21 = 0 → ∃ fs_26 : List Value, has S_22 y2 (.inr (3, fs_26)) ∧ (C3_at y2 v3 S_22 (fun r_24 S_25 => vp_in v3 6 ∧ (∃ y_29 : Nat, (S_25.2.1 5 v3.toNatClampNeg) = some y_29 ∧ (C0_timeNow  S_25 (fun r_30 S_31 => C0_strokesOf y_29 r_30 S_31 (fun r_32 S_33 => (r_24 = r_32 → C0_reads_p81 Q (fun v3_ S_ => C0_reads_L30 Q y2 n v3_ S_) y2 v3 S_33) ∧ (¬ r_24 = r_32 → Q v3 S_33)))))))))))))))
def C0_reads (v1 : Int32) (S : CS) (Q : Int32 → CS → Prop) : Prop := C0_isSheet v1 S (fun r_1 S_2 => (¬ r_1 = 0 → vp_in v1 4 ∧ (∃ y_5 : Nat, (S_2.2.1 25 v1.toNatClampNeg) = some y_5 ∧ (∃ fs_8 : List Value, has S_2 y_5 (.inr (3, fs_8)) ∧ (C3_isThere y_5 S_2 (fun r_6 S_7 => (¬ r_6 = 0 → ∃ k30, C0_reads_L30 Q y_5 k30 0 S_7) ∧ (r_6 = 0 → Q (-1000000011) S_7)))))) ∧ (r_1 = 0 → Q (-1000000001) S_2))
abbrev rmX0_reads : Room := { frames := 5, cells := 0, slots := 0, locals := 113 }
set_option maxHeartbeats 4000000 in
set_option maxRecDepth 100000 in
theorem wC0_reads_p81 {p : Program} {l : Launch} {e : Env} {s : State} {m : MethodId} {args : Array Value} {below : List Frame} {meth : Method} {c : Code} {D : va_G} {a : Nat → Nat} {d : Nat → ClassId} {A : Nat → Prop} {Q : Int32 → CS → Prop} {K30 : Int32 → CS → Prop} (F : FC p s m meth c args D a d A RX0 cX0_reads 4 (some .int)) (y2 : Nat) (v3 : Int32) (S : CS) (hK30 : ∀ (v3 : Int32) (S : CS) (H : Heap) (locs : List Loc) (ls : Array Slot), GC D a d A s.heap S H locs → lv_has ls 4 [(0, .ref (a 0)), (2, .ref y2), (3, .int v3)] → K30 v3 S → wCi p l e rmX0_reads s m args below meth c D a d A Q 0 0 H locs 0 0 (F0 m 30 ls [])) {H : Heap} {locs : List Loc} {ls : Array Slot} (G : GC D a d A s.heap S H locs) (hl : lv_has ls 4 [(0, .ref (a 0)), (2, .ref y2), (3, .int v3)]) (h : C0_reads_p81 Q K30 y2 v3 S) : wCi p l e rmX0_reads s m args below meth c D a d A Q 0 0 H locs 0 0 (F0 m 81 ls []) := by
  obtain ⟨hx, hb, hr, hml, hown, hts, hlocks, hA, hK, hN⟩ := id F
  unfold C0_reads_p81 at h
  refine lv_iinc (v := (v3 + 1)) (lv' := [(3, .int (v3 + 1)), (0, .ref (a 0)), (2, .ref y2)]) hx hb dX0_reads_81 hl (k := 2) rfl rfl (by decide) rfl (fun ls hl => ?_)
  refine lv_goto (tgt := 30) hx hb dX0_reads_84 (by decide) ?_
  exact hK30 (v3 + 1) S _ _ _ G (lv_sub hl [1, 2, 0] rfl) h
set_option maxHeartbeats 4000000 in
set_option maxRecDepth 100000 in
theorem wC0_reads_L30 {p : Program} {l : Launch} {e : Env} {s : State} {m : MethodId} {args : Array Value} {below : List Frame} {meth : Method} {c : Code} {D : va_G} {a : Nat → Nat} {d : Nat → ClassId} {A : Nat → Prop} {Q : Int32 → CS → Prop}  (F : FC p s m meth c args D a d A RX0 cX0_reads 4 (some .int)) (y2 : Nat)  :
    ∀ (n : Nat) (v3 : Int32) (S : CS) (H : Heap) (locs : List Loc) (ls : Array Slot), GC D a d A s.heap S H locs → lv_has ls 4 [(0, .ref (a 0)), (2, .ref y2), (3, .int v3)] → C0_reads_L30 Q y2 n v3 S → wCi p l e rmX0_reads s m args below meth c D a d A Q 0 0 H locs 0 0 (F0 m 30 ls []) := by
  obtain ⟨hx, hb, hr, hml, hown, hts, hlocks, hA, hK, hN⟩ := id F
  intro n
  induction n with
  | zero => intro v3 S H locs ls G hl h; exact absurd h (fun q => q)
  | succ n ih =>
    intro v3 S H locs ls G hl h
    unfold C0_reads_L30 at h
    refine lv_iload_n hx hb dX0_reads_30 rfl (lv_at hl 2 rfl) ?_
    refine lv_aload_n hx hb dX0_reads_31 rfl (lv_at hl 1 rfl) ?_
    obtain ⟨fs_13, z_14, h⟩ := h
    refine kX0_C3_size F G z_14 hl.1 ⟨(Nat.le_of_ble_eq_true rfl), (Nat.le_of_ble_eq_true rfl)⟩ ⟨(Nat.le_of_ble_eq_true rfl), (Nat.le_of_ble_eq_true rfl)⟩ (Nat.le_of_ble_eq_true rfl) dX0_reads_32 h (fun r_11 S_12 H locs G h => ?_)
    refine lv_icmp_ge (tgt := 87) hx hb dX0_reads_35 (by decide) (fun c_15 => ?_) (fun c_15 => ?_)
    · replace h := h.1 c_15
      refine lv_ldc hx hb hown (hts _ q547) dX0_reads_87 ?_
      exact c_iret F G dX0_reads_89 h
    · replace h := h.2 c_15
      refine lv_aload_n hx hb dX0_reads_38 rfl (lv_at hl 1 rfl) ?_
      refine lv_iload_n hx hb dX0_reads_39 rfl (lv_at hl 2 rfl) ?_
      obtain ⟨fs_18, z_19, h⟩ := h
      refine kX0_C3_isNumber F G z_19 hl.1 ⟨(Nat.le_of_ble_eq_true rfl), (Nat.le_of_ble_eq_true rfl)⟩ ⟨(Nat.le_of_ble_eq_true rfl), (Nat.le_of_ble_eq_true rfl)⟩ (Nat.le_of_ble_eq_true rfl) dX0_reads_40 h (fun r_16 S_17 H locs G h => ?_)
      refine lv_if_eq (tgt := 81) hx hb dX0_reads_43 (by decide) (fun c_20 => ?_) (fun c_20 => ?_)
      · replace h := h.1 c_20
        exact wC0_reads_p81 F y2 v3 S_17 ih G (lv_sub hl [0, 1, 2] rfl) h
      · replace h := h.2 c_20
        refine lv_aload_n hx hb dX0_reads_46 rfl (lv_at hl 0 rfl) ?_
        refine lv_iload_n hx hb dX0_reads_47 rfl (lv_at hl 2 rfl) ?_
        refine kX0_C0_isClock F G hl.1 ⟨(Nat.le_of_ble_eq_true rfl), (Nat.le_of_ble_eq_true rfl)⟩ ⟨(Nat.le_of_ble_eq_true rfl), (Nat.le_of_ble_eq_true rfl)⟩ (Nat.le_of_ble_eq_true rfl) dX0_reads_48 h (fun r_21 S_22 H locs G h => ?_)
        refine lv_if_eq (tgt := 79) hx hb dX0_reads_51 (by decide) (fun c_23 => ?_) (fun c_23 => ?_)
        · replace h := h.1 c_23
          refine lv_iload_n hx hb dX0_reads_79 rfl (lv_at hl 2 rfl) ?_
          exact c_iret F G dX0_reads_80 h
        · replace h := h.2 c_23
          refine lv_aload_n hx hb dX0_reads_54 rfl (lv_at hl 1 rfl) ?_
          refine lv_iload_n hx hb dX0_reads_55 rfl (lv_at hl 2 rfl) ?_
          obtain ⟨fs_26, z_27, h⟩ := h
          refine kX0_C3_at F G z_27 hl.1 ⟨(Nat.le_of_ble_eq_true rfl), (Nat.le_of_ble_eq_true rfl)⟩ ⟨(Nat.le_of_ble_eq_true rfl), (Nat.le_of_ble_eq_true rfl)⟩ (Nat.le_of_ble_eq_true rfl) dX0_reads_56 h (fun r_24 S_25 H locs G h => ?_)
          refine lv_aload_n hx hb dX0_reads_59 rfl (lv_at hl 0 rfl) ?_
          refine lv_aload_n hx hb dX0_reads_60 rfl (lv_at hl 0 rfl) ?_
          refine cgX0_0_now F G dX0_reads_61 ?_
          refine cgX0_1_clock F G dX0_reads_64 ?_
          refine lv_iload_n hx hb dX0_reads_67 rfl (lv_at hl 2 rfl) ?_
          obtain ⟨b_28, h⟩ := h
          refine c_aaload F G cR_5 rfl b_28 dX0_reads_68 ?_
          obtain ⟨y_29, hy_29, h⟩ := h
          refine c_nn hy_29 ?_
          refine lv_aload_n hx hb dX0_reads_69 rfl (lv_at hl 0 rfl) ?_
          refine kX0_C0_timeNow F G hl.1 ⟨(Nat.le_of_ble_eq_true rfl), (Nat.le_of_ble_eq_true rfl)⟩ ⟨(Nat.le_of_ble_eq_true rfl), (Nat.le_of_ble_eq_true rfl)⟩ (Nat.le_of_ble_eq_true rfl) dX0_reads_70 h (fun r_30 S_31 H locs G h => ?_)
          refine kX0_C0_strokesOf F G hl.1 ⟨(Nat.le_of_ble_eq_true rfl), (Nat.le_of_ble_eq_true rfl)⟩ ⟨(Nat.le_of_ble_eq_true rfl), (Nat.le_of_ble_eq_true rfl)⟩ (Nat.le_of_ble_eq_true rfl) dX0_reads_73 h (fun r_32 S_33 H locs G h => ?_)
          refine lv_icmp_eq (tgt := 81) hx hb dX0_reads_76 (by decide) (fun c_34 => ?_) (fun c_34 => ?_)
          · replace h := h.1 c_34
            exact wC0_reads_p81 F y2 v3 S_33 ih G (lv_sub hl [0, 1, 2] rfl) h
          · replace h := h.2 c_34
            refine lv_iload_n hx hb dX0_reads_79 rfl (lv_at hl 2 rfl) ?_
            exact c_iret F G dX0_reads_80 h
set_option maxHeartbeats 4000000 in
set_option maxRecDepth 100000 in
theorem wC0_reads {l : Launch} {D : va_G} {a : Nat → Nat} {d : Nat → ClassId} (sz : Nat) (v1 : Int32) (S : CS) (Q : Int32 → CS → Prop) (h : C0_reads v1 S Q) : CMi l D a d yX0_reads cX0_reads 4 .int rmX0_reads 0 0 [.ref (a 0), .int v1] sz S Q := by
  refine c_enter (Qc := fun A => va_Qi Q (BC D a d A) A) RX0 (by decide +kernel) rfl (Nat.le_of_ble_eq_true rfl) ?_
  intro p e s m below meth c ls A hmn F hG hl
  have G := hG
  have hl : lv_has ls 4 [(0, .ref (a 0)), (1, .int v1)] := hl
  obtain ⟨hx, hb, hr, hml, hown, hts, hlocks, hA, hK, hN⟩ := id F
  unfold C0_reads at h
  refine lv_iload_n hx hb dX0_reads_0 rfl (lv_at hl 1 rfl) ?_
  refine kX0_C0_isSheet F G hl.1 ⟨(Nat.le_of_ble_eq_true rfl), (Nat.le_of_ble_eq_true rfl)⟩ ⟨(Nat.le_of_ble_eq_true rfl), (Nat.le_of_ble_eq_true rfl)⟩ (Nat.le_of_ble_eq_true rfl) dX0_reads_1 h (fun r_1 S_2 H locs G h => ?_)
  refine lv_if_ne (tgt := 10) hx hb dX0_reads_4 (by decide) (fun c_3 => ?_) (fun c_3 => ?_)
  · replace h := h.1 c_3
    refine lv_aload_n hx hb dX0_reads_10 rfl (lv_at hl 0 rfl) ?_
    refine cgX0_0_sheets F G dX0_reads_11 ?_
    refine lv_iload_n hx hb dX0_reads_14 rfl (lv_at hl 1 rfl) ?_
    obtain ⟨b_4, h⟩ := h
    refine c_aaload F G cR_25 rfl b_4 dX0_reads_15 ?_
    obtain ⟨y_5, hy_5, h⟩ := h
    refine c_nn hy_5 ?_
    refine lv_astore_n (lv' := [(2, .ref y_5), (0, .ref (a 0)), (1, .int v1)]) hx hb dX0_reads_16 rfl hl (by decide) rfl (fun ls hl => ?_)
    refine lv_aload_n hx hb dX0_reads_17 rfl (lv_at hl 0 rfl) ?_
    obtain ⟨fs_8, z_9, h⟩ := h
    refine kX0_C3_isThere F G z_9 hl.1 ⟨(Nat.le_of_ble_eq_true rfl), (Nat.le_of_ble_eq_true rfl)⟩ ⟨(Nat.le_of_ble_eq_true rfl), (Nat.le_of_ble_eq_true rfl)⟩ (Nat.le_of_ble_eq_true rfl) dX0_reads_18 h (fun r_6 S_7 H locs G h => ?_)
    refine lv_if_ne (tgt := 28) hx hb dX0_reads_21 (by decide) (fun c_10 => ?_) (fun c_10 => ?_)
    · replace h := h.1 c_10
      refine lv_iconst (v := 0) hx hb dX0_reads_28 (by decide) ?_
      refine lv_istore_n (lv' := [(3, .int 0), (2, .ref y_5), (0, .ref (a 0)), (1, .int v1)]) hx hb dX0_reads_29 rfl hl (by decide) rfl (fun ls hl => ?_)
      obtain ⟨k30, h⟩ := h
      exact wC0_reads_L30 F y_5  k30 0 S_7 _ _ _ G (lv_sub hl [2, 1, 0] rfl) h
    · replace h := h.2 c_10
      refine lv_ldcw hx hb hown (hts _ q1019) dX0_reads_24 ?_
      exact c_iret F G dX0_reads_27 h
  · replace h := h.2 c_3
    refine lv_ldc hx hb hown (hts _ q368) dX0_reads_7 ?_
    exact c_iret F G dX0_reads_9 h
/-! java/lang/Math.abs -/
def CJ3_abs (w0 : Int64) (S : CS) (Q : Int64 → CS → Prop) : Prop := (0 ≤ (lg_cmp w0 0) → Q w0 S) ∧ (¬ 0 ≤ (lg_cmp w0 0) → Q (-w0) S)
abbrev rmJ3_abs : Room := { frames := 0, cells := 0, slots := 0, locals := 0 }
set_option maxHeartbeats 4000000 in
set_option maxRecDepth 100000 in
theorem wCJ3_abs {l : Launch} {D : va_G} {a : Nat → Nat} {d : Nat → ClassId} (sz : Nat) (w0 : Int64) (S : CS) (Q : Int64 → CS → Prop) (h : CJ3_abs w0 S Q) : CMl l D a d yJ3_abs cJ3_abs 2 .long rmJ3_abs 0 0 [.long w0] sz S Q := by
  refine c_enterF (Qc := fun A => va_Ql Q (BC D a d A) A) RJ3 (by decide +kernel) rfl (Nat.le_of_ble_eq_true rfl) ?_
  intro p e s m below meth c ls A hmn F hG hl
  have G := hG
  have hl : lv_has ls 2 [(0, .long w0)] := hl
  obtain ⟨hx, hb, hr, hml, hown, hts, hlocks, hA, hK, hN⟩ := id F
  unfold CJ3_abs at h
  refine lv_lload_n hx hb dJ3_abs_0 rfl (lv_at hl 0 rfl) ?_
  refine lv_lconst (v := 0) hx hb dJ3_abs_1 (by decide) ?_
  refine W.lcmp hx hb dJ3_abs_2 ?_
  refine lv_if_ge (tgt := 11) hx hb dJ3_abs_3 (by decide) (fun c_1 => ?_) (fun c_1 => ?_)
  · replace h := h.1 c_1
    refine lv_lload_n hx hb dJ3_abs_11 rfl (lv_at hl 0 rfl) ?_
    exact c_lret F G dJ3_abs_12 h
  · replace h := h.2 c_1
    refine lv_lload_n hx hb dJ3_abs_6 rfl (lv_at hl 0 rfl) ?_
    refine lv_lneg hx hb dJ3_abs_7 ?_
    refine lv_goto (tgt := 12) hx hb dJ3_abs_8 (by decide) ?_
    exact c_lret F G dJ3_abs_12 h
set_option maxHeartbeats 4000000 in
set_option maxRecDepth 100000 in
theorem kX0_CJ3_abs {p : Program} {l : Launch} {e : Env} {s : State} {m : MethodId} {R : Room} {args : Array Value} {below : List Frame} {meth : Method} {c : Code} {D : va_G} {a : Nat → Nat} {d : Nat → ClassId} {A : Nat → Prop} {Q : State → Prop} {cc : ByteArray} {nL pc cells slots : Nat} {ret : Option FieldType} {ls : Array Slot} {rest : List Value} {w0 : Int64} {S : CS} {H : Heap} {locs : List Loc} {Q1 : Int64 → CS → Prop} (F : FC p s m meth c args D a d A RX0 cc nL ret) (G : GC D a d A s.heap S H locs) (hsz : ls.size = nL) (hR : rmJ3_abs.frames + 1 ≤ R.frames ∧ 8 + (2 + 11) + rmJ3_abs.locals ≤ R.locals) (hc : cells + 0 ≤ R.cells ∧ slots + 0 ≤ R.slots) (hW : (rest.map fun v => v.category).sum ≤ 8) (hd : decode cc pc = .ok (.invokestatic 460, 3)) (h : CJ3_abs w0 S Q1) (k : ∀ (r : Int64) (S1 : CS) (H : Heap) (locs : List Loc), GC D a d A s.heap S1 H locs → Q1 r S1 → W p l e R s m args below meth c H locs cells slots Q (F0 m (pc + 3) ls (.long r :: rest))) : W p l e R s m args below meth c H locs cells slots Q (F0 m pc ls (.long w0 :: rest)) := by
  obtain ⟨hx, hb, hr, hml, hown, hts, hlocks, hA, hK, hN⟩ := id F
  exact c_calll F G (va_runS (As := [.long w0]) (rest := rest) ⟨hx, hb, hml, hown, hts⟩ (wCJ3_abs H.size w0 S Q1 h) (va_cwS 1 hts (lw_S q1063 q1064 q97 q1065) rfl rfl rfl (by decide +kernel) hR) ⟨PC_blind, c_pre F G⟩ rfl rfl hsz rfl (lv_room hW) hd hc) k
/-! java/lang/Math.min -/
def CJ3_min_2 (w0 : Int64) (w2 : Int64) (S : CS) (Q : Int64 → CS → Prop) : Prop := (0 < (lg_cmp w0 w2) → Q w2 S) ∧ (¬ 0 < (lg_cmp w0 w2) → Q w0 S)
abbrev rmJ3_min_2 : Room := { frames := 0, cells := 0, slots := 0, locals := 0 }
set_option maxHeartbeats 4000000 in
set_option maxRecDepth 100000 in
theorem wCJ3_min_2 {l : Launch} {D : va_G} {a : Nat → Nat} {d : Nat → ClassId} (sz : Nat) (w0 : Int64) (w2 : Int64) (S : CS) (Q : Int64 → CS → Prop) (h : CJ3_min_2 w0 w2 S Q) : CMl l D a d yJ3_min_2 cJ3_min_2 4 .long rmJ3_min_2 0 0 [.long w0, .long w2] sz S Q := by
  refine c_enterF (Qc := fun A => va_Ql Q (BC D a d A) A) RJ3 (by decide +kernel) rfl (Nat.le_of_ble_eq_true rfl) ?_
  intro p e s m below meth c ls A hmn F hG hl
  have G := hG
  have hl : lv_has ls 4 [(0, .long w0), (2, .long w2)] := hl
  obtain ⟨hx, hb, hr, hml, hown, hts, hlocks, hA, hK, hN⟩ := id F
  unfold CJ3_min_2 at h
  refine lv_lload_n hx hb dJ3_min_2_0 rfl (lv_at hl 0 rfl) ?_
  refine lv_lload_n hx hb dJ3_min_2_1 rfl (lv_at hl 1 rfl) ?_
  refine W.lcmp hx hb dJ3_min_2_2 ?_
  refine lv_if_gt (tgt := 10) hx hb dJ3_min_2_3 (by decide) (fun c_1 => ?_) (fun c_1 => ?_)
  · replace h := h.1 c_1
    refine lv_lload_n hx hb dJ3_min_2_10 rfl (lv_at hl 1 rfl) ?_
    exact c_lret F G dJ3_min_2_11 h
  · replace h := h.2 c_1
    refine lv_lload_n hx hb dJ3_min_2_6 rfl (lv_at hl 0 rfl) ?_
    refine lv_goto (tgt := 11) hx hb dJ3_min_2_7 (by decide) ?_
    exact c_lret F G dJ3_min_2_11 h
set_option maxHeartbeats 4000000 in
set_option maxRecDepth 100000 in
theorem kX0_CJ3_min_2 {p : Program} {l : Launch} {e : Env} {s : State} {m : MethodId} {R : Room} {args : Array Value} {below : List Frame} {meth : Method} {c : Code} {D : va_G} {a : Nat → Nat} {d : Nat → ClassId} {A : Nat → Prop} {Q : State → Prop} {cc : ByteArray} {nL pc cells slots : Nat} {ret : Option FieldType} {ls : Array Slot} {rest : List Value} {w0 : Int64} {w2 : Int64} {S : CS} {H : Heap} {locs : List Loc} {Q1 : Int64 → CS → Prop} (F : FC p s m meth c args D a d A RX0 cc nL ret) (G : GC D a d A s.heap S H locs) (hsz : ls.size = nL) (hR : rmJ3_min_2.frames + 1 ≤ R.frames ∧ 8 + (4 + 11) + rmJ3_min_2.locals ≤ R.locals) (hc : cells + 0 ≤ R.cells ∧ slots + 0 ≤ R.slots) (hW : (rest.map fun v => v.category).sum ≤ 8) (hd : decode cc pc = .ok (.invokestatic 464, 3)) (h : CJ3_min_2 w0 w2 S Q1) (k : ∀ (r : Int64) (S1 : CS) (H : Heap) (locs : List Loc), GC D a d A s.heap S1 H locs → Q1 r S1 → W p l e R s m args below meth c H locs cells slots Q (F0 m (pc + 3) ls (.long r :: rest))) : W p l e R s m args below meth c H locs cells slots Q (F0 m pc ls (.long w2 :: .long w0 :: rest)) := by
  obtain ⟨hx, hb, hr, hml, hown, hts, hlocks, hA, hK, hN⟩ := id F
  exact c_calll F G (va_runS (As := [.long w0, .long w2]) (rest := rest) ⟨hx, hb, hml, hown, hts⟩ (wCJ3_min_2 H.size w0 w2 S Q1 h) (va_cwS 2 hts (lw_S q1066 q1067 q97 q1068) rfl rfl rfl (by decide +kernel) hR) ⟨PC_blind, c_pre F G⟩ rfl rfl hsz rfl (lv_room hW) hd hc) k
/-! StrokesHeard.like -/
def C0_like_p140 (Q : Int32 → CS → Prop) (K52 : Int32 → Int64 → Int32 → CS → Prop) (v2 : Int32) (y3 : Nat) (w5 : Int64) (v7 : Int32) (w8 : Int64) (t0 : Int32) (S : CS) : Prop := CJ3_min_2 w5 w8 S (fun r_36 S_37 => K52 t0 r_36 (v7 + 1) S_37)
def C0_like_p116 (Q : Int32 → CS → Prop) (K52 : Int32 → Int64 → Int32 → CS → Prop) (K66 : Int64 → Int32 → CS → Prop) (v2 : Int32) (y3 : Nat) (v4 : Int32) (w5 : Int64) (v7 : Int32) (v10 : Int32) (t0 : Int64) (t1 : Int64) (S : CS) : Prop := ∀ x_38 : Int64, x_38 = (t1 + t0) → K66 x_38 (v10 + 1) S
def C0_like_L66 (Q : Int32 → CS → Prop) (K52 : Int32 → Int64 → Int32 → CS → Prop) (v2 : Int32) (y3 : Nat) (v4 : Int32) (w5 : Int64) (v7 : Int32) : Nat → Int64 → Int32 → CS → Prop
  | 0, _, _, _ => False
  | n + 1, w8, v10, S => ∃ fs_20 : List Value, has S y3 (.inr (3, fs_20)) ∧ (C3_size y3 S (fun r_18 S_19 => (r_18 ≤ v10 → (0 ≤ (lg_cmp w8 w5) → C0_like_p140 Q K52 v2 y3 w5 v7 w8 v4 S_19) ∧ (¬ 0 ≤ (lg_cmp w8 w5) → C0_like_p140 Q K52 v2 y3 w5 v7 w8 v7 S_19)) ∧ (¬ r_18 ≤ v10 → ∃ fs_26 : List Value, has S_19 y3 (.inr (3, fs_26)) ∧ (C3_isNumber y3 v10 S_19 (fun r_24 S_25 => (r_24 = 0 → C0_like_p116 Q K52 (fun w8_ v10_ S_ => C0_like_L66 Q K52 v2 y3 v4 w5 v7 n w8_ v10_ S_) v2 y3 v4 w5 v7 v10 0 w8 S_25) ∧ (¬ r_24 = 0 → ∃ fs_31 : List Value, has S_25 y3 (.inr (3, fs_31)) ∧ (C3_at y3 v10 S_25 (fun r_29 S_30 => vp_in ((v7 + v10) - (v7 + v10) / 720 * 720) 720 ∧ (CJ3_abs (r_29.toInt64 - (S_30.1 24 (((v7 + v10) - (v7 + v10) / 720 * 720).toNatClampNeg)).toInt64) S_30 (fun r_34 S_35 => C0_like_p116 Q K52 (fun w8_ v10_ S_ => C0_like_L66 Q K52 v2 y3 v4 w5 v7 n w8_ v10_ S_) v2 y3 v4 w5 v7 v10 r_34 w8 S_35))))))))))
def C0_like_L52 (Q : Int32 → CS → Prop)  (v2 : Int32) (y3 : Nat) : Nat → Int32 → Int64 → Int32 → CS → Prop
  | 0, _, _, _, _ => False
  | n + 1, v4, w5, v7, S => (720 ≤ v7 → (¬ v2 = 0 → Q w5.toInt32 S) ∧ (v2 = 0 → Q v4 S)) ∧ (¬ 720 ≤ v7 → ∃ k66, C0_like_L66 Q (fun v4_ w5_ v7_ S_ => C0_like_L52 Q v2 y3 n v4_ w5_ v7_ S_) v2 y3 v4 w5 v7 k66 0 0 S)
def C0_like (v1 : Int32) (v2 : Int32) (S : CS) (Q : Int32 → CS → Prop) : Prop := C0_isSheet v1 S (fun r_1 S_2 => (r_1 = 0 → Q (-1000000001) S_2) ∧ (¬ r_1 = 0 → C0_isIn v2 0 1 S_2 (fun r_4 S_5 => (¬ r_4 = 0 → vp_in v1 4 ∧ (∃ y_8 : Nat, (S_5.2.1 25 v1.toNatClampNeg) = some y_8 ∧ (∃ fs_11 : List Value, has S_5 y_8 (.inr (3, fs_11)) ∧ (C3_isThere y_8 S_5 (fun r_9 S_10 => (¬ r_9 = 0 → C0_addsUpAll  S_10 (fun S_15 => ∃ k52, C0_like_L52 Q v2 y_8 k52 0 9223372036854775807 0 S_15)) ∧ (r_9 = 0 → Q (-1000000011) S_10)))))) ∧ (r_4 = 0 → Q (-1000000001) S_5))))
abbrev rmX0_like : Room := { frames := 7, cells := 0, slots := 0, locals := 157 }
set_option maxHeartbeats 4000000 in
set_option maxRecDepth 100000 in
theorem wC0_like_p140 {p : Program} {l : Launch} {e : Env} {s : State} {m : MethodId} {args : Array Value} {below : List Frame} {meth : Method} {c : Code} {D : va_G} {a : Nat → Nat} {d : Nat → ClassId} {A : Nat → Prop} {Q : Int32 → CS → Prop} {K52 : Int32 → Int64 → Int32 → CS → Prop} (F : FC p s m meth c args D a d A RX0 cX0_like 11 (some .int)) (v2 : Int32) (y3 : Nat) (w5 : Int64) (v7 : Int32) (w8 : Int64) (t0 : Int32) (S : CS) (hK52 : ∀ (v4 : Int32) (w5 : Int64) (v7 : Int32) (S : CS) (H : Heap) (locs : List Loc) (ls : Array Slot), GC D a d A s.heap S H locs → lv_has ls 11 [(0, .ref (a 0)), (2, .int v2), (3, .ref y3), (4, .int v4), (5, .long w5), (7, .int v7)] → K52 v4 w5 v7 S → wCi p l e rmX0_like s m args below meth c D a d A Q 0 0 H locs 0 0 (F0 m 52 ls [])) {H : Heap} {locs : List Loc} {ls : Array Slot} (G : GC D a d A s.heap S H locs) (hl : lv_has ls 11 [(0, .ref (a 0)), (2, .int v2), (3, .ref y3), (5, .long w5), (7, .int v7), (8, .long w8)]) (h : C0_like_p140 Q K52 v2 y3 w5 v7 w8 t0 S) : wCi p l e rmX0_like s m args below meth c D a d A Q 0 0 H locs 0 0 (F0 m 140 ls [.int t0]) := by
  obtain ⟨hx, hb, hr, hml, hown, hts, hlocks, hA, hK, hN⟩ := id F
  unfold C0_like_p140 at h
  refine lv_istore (lv' := [(4, .int t0), (0, .ref (a 0)), (2, .int v2), (3, .ref y3), (5, .long w5), (7, .int v7), (8, .long w8)]) hx hb dX0_like_140 hl (by decide) rfl (fun ls hl => ?_)
  refine lv_lload hx hb dX0_like_142 (lv_at hl 4 rfl) ?_
  refine lv_lload hx hb dX0_like_144 (lv_at hl 6 rfl) ?_
  refine kX0_CJ3_min_2 F G hl.1 ⟨(Nat.le_of_ble_eq_true rfl), (Nat.le_of_ble_eq_true rfl)⟩ ⟨(Nat.le_of_ble_eq_true rfl), (Nat.le_of_ble_eq_true rfl)⟩ (Nat.le_of_ble_eq_true rfl) dX0_like_146 h (fun r_36 S_37 H locs G h => ?_)
  refine lv_lstore (lv' := [(5, .long r_36), (4, .int t0), (0, .ref (a 0)), (2, .int v2), (3, .ref y3), (7, .int v7), (8, .long w8)]) hx hb dX0_like_149 hl (by decide) rfl (fun ls hl => ?_)
  refine lv_iinc (v := (v7 + 1)) (lv' := [(7, .int (v7 + 1)), (5, .long r_36), (4, .int t0), (0, .ref (a 0)), (2, .int v2), (3, .ref y3), (8, .long w8)]) hx hb dX0_like_151 hl (k := 5) rfl rfl (by decide) rfl (fun ls hl => ?_)
  refine lv_goto (tgt := 52) hx hb dX0_like_154 (by decide) ?_
  exact hK52 t0 r_36 (v7 + 1) S_37 _ _ _ G (lv_sub hl [3, 4, 5, 2, 1, 0] rfl) h
set_option maxHeartbeats 4000000 in
set_option maxRecDepth 100000 in
theorem wC0_like_p116 {p : Program} {l : Launch} {e : Env} {s : State} {m : MethodId} {args : Array Value} {below : List Frame} {meth : Method} {c : Code} {D : va_G} {a : Nat → Nat} {d : Nat → ClassId} {A : Nat → Prop} {Q : Int32 → CS → Prop} {K52 : Int32 → Int64 → Int32 → CS → Prop} {K66 : Int64 → Int32 → CS → Prop} (F : FC p s m meth c args D a d A RX0 cX0_like 11 (some .int)) (v2 : Int32) (y3 : Nat) (v4 : Int32) (w5 : Int64) (v7 : Int32) (v10 : Int32) (t0 : Int64) (t1 : Int64) (S : CS) (hK52 : ∀ (v4 : Int32) (w5 : Int64) (v7 : Int32) (S : CS) (H : Heap) (locs : List Loc) (ls : Array Slot), GC D a d A s.heap S H locs → lv_has ls 11 [(0, .ref (a 0)), (2, .int v2), (3, .ref y3), (4, .int v4), (5, .long w5), (7, .int v7)] → K52 v4 w5 v7 S → wCi p l e rmX0_like s m args below meth c D a d A Q 0 0 H locs 0 0 (F0 m 52 ls [])) (hK66 : ∀ (w8 : Int64) (v10 : Int32) (S : CS) (H : Heap) (locs : List Loc) (ls : Array Slot), GC D a d A s.heap S H locs → lv_has ls 11 [(0, .ref (a 0)), (2, .int v2), (3, .ref y3), (4, .int v4), (5, .long w5), (7, .int v7), (8, .long w8), (10, .int v10)] → K66 w8 v10 S → wCi p l e rmX0_like s m args below meth c D a d A Q 0 0 H locs 0 0 (F0 m 66 ls [])) {H : Heap} {locs : List Loc} {ls : Array Slot} (G : GC D a d A s.heap S H locs) (hl : lv_has ls 11 [(0, .ref (a 0)), (2, .int v2), (3, .ref y3), (4, .int v4), (5, .long w5), (7, .int v7), (10, .int v10)]) (h : C0_like_p116 Q K52 K66 v2 y3 v4 w5 v7 v10 t0 t1 S) : wCi p l e rmX0_like s m args below meth c D a d A Q 0 0 H locs 0 0 (F0 m 116 ls [.long t0, .long t1]) := by
  obtain ⟨hx, hb, hr, hml, hown, hts, hlocks, hA, hK, hN⟩ := id F
  unfold C0_like_p116 at h
  refine lv_ladd hx hb dX0_like_116 ?_
  refine lv_topl (fun x_38 ex_38 => ?_)
  replace h := h x_38 ex_38
  refine lv_lstore (lv' := [(8, .long x_38), (0, .ref (a 0)), (2, .int v2), (3, .ref y3), (4, .int v4), (5, .long w5), (7, .int v7), (10, .int v10)]) hx hb dX0_like_117 hl (by decide) rfl (fun ls hl => ?_)
  refine lv_iinc (v := (v10 + 1)) (lv' := [(10, .int (v10 + 1)), (8, .long x_38), (0, .ref (a 0)), (2, .int v2), (3, .ref y3), (4, .int v4), (5, .long w5), (7, .int v7)]) hx hb dX0_like_119 hl (k := 7) rfl rfl (by decide) rfl (fun ls hl => ?_)
  refine lv_goto (tgt := 66) hx hb dX0_like_122 (by decide) ?_
  exact hK66 x_38 (v10 + 1) S _ _ _ G (lv_sub hl [2, 3, 4, 5, 6, 7, 1, 0] rfl) h
set_option maxHeartbeats 4000000 in
set_option maxRecDepth 100000 in
theorem wC0_like_L66 {p : Program} {l : Launch} {e : Env} {s : State} {m : MethodId} {args : Array Value} {below : List Frame} {meth : Method} {c : Code} {D : va_G} {a : Nat → Nat} {d : Nat → ClassId} {A : Nat → Prop} {Q : Int32 → CS → Prop} {K52 : Int32 → Int64 → Int32 → CS → Prop} (F : FC p s m meth c args D a d A RX0 cX0_like 11 (some .int)) (v2 : Int32) (y3 : Nat) (v4 : Int32) (w5 : Int64) (v7 : Int32) (hK52 : ∀ (v4 : Int32) (w5 : Int64) (v7 : Int32) (S : CS) (H : Heap) (locs : List Loc) (ls : Array Slot), GC D a d A s.heap S H locs → lv_has ls 11 [(0, .ref (a 0)), (2, .int v2), (3, .ref y3), (4, .int v4), (5, .long w5), (7, .int v7)] → K52 v4 w5 v7 S → wCi p l e rmX0_like s m args below meth c D a d A Q 0 0 H locs 0 0 (F0 m 52 ls [])) :
    ∀ (n : Nat) (w8 : Int64) (v10 : Int32) (S : CS) (H : Heap) (locs : List Loc) (ls : Array Slot), GC D a d A s.heap S H locs → lv_has ls 11 [(0, .ref (a 0)), (2, .int v2), (3, .ref y3), (4, .int v4), (5, .long w5), (7, .int v7), (8, .long w8), (10, .int v10)] → C0_like_L66 Q K52 v2 y3 v4 w5 v7 n w8 v10 S → wCi p l e rmX0_like s m args below meth c D a d A Q 0 0 H locs 0 0 (F0 m 66 ls []) := by
  obtain ⟨hx, hb, hr, hml, hown, hts, hlocks, hA, hK, hN⟩ := id F
  intro n
  induction n with
  | zero => intro w8 v10 S H locs ls G hl h; exact absurd h (fun q => q)
  | succ n ih =>
    intro w8 v10 S H locs ls G hl h
    unfold C0_like_L66 at h
    refine lv_iload hx hb dX0_like_66 (lv_at hl 7 rfl) ?_
    refine lv_aload_n hx hb dX0_like_68 rfl (lv_at hl 2 rfl) ?_
    obtain ⟨fs_20, z_21, h⟩ := h
    refine kX0_C3_size F G z_21 hl.1 ⟨(Nat.le_of_ble_eq_true rfl), (Nat.le_of_ble_eq_true rfl)⟩ ⟨(Nat.le_of_ble_eq_true rfl), (Nat.le_of_ble_eq_true rfl)⟩ (Nat.le_of_ble_eq_true rfl) dX0_like_69 h (fun r_18 S_19 H locs G h => ?_)
    refine lv_icmp_ge (tgt := 125) hx hb dX0_like_72 (by decide) (fun c_22 => ?_) (fun c_22 => ?_)
    · replace h := h.1 c_22
      refine lv_lload hx hb dX0_like_125 (lv_at hl 6 rfl) ?_
      refine lv_lload hx hb dX0_like_127 (lv_at hl 4 rfl) ?_
      refine W.lcmp hx hb dX0_like_129 ?_
      refine lv_if_ge (tgt := 138) hx hb dX0_like_130 (by decide) (fun c_23 => ?_) (fun c_23 => ?_)
      · replace h := h.1 c_23
        refine lv_iload hx hb dX0_like_138 (lv_at hl 3 rfl) ?_
        exact wC0_like_p140 F v2 y3 w5 v7 w8 v4 S_19 hK52 G (lv_sub hl [0, 1, 2, 4, 5, 6] rfl) h
      · replace h := h.2 c_23
        refine lv_iload hx hb dX0_like_133 (lv_at hl 5 rfl) ?_
        refine lv_goto (tgt := 140) hx hb dX0_like_135 (by decide) ?_
        exact wC0_like_p140 F v2 y3 w5 v7 w8 v7 S_19 hK52 G (lv_sub hl [0, 1, 2, 4, 5, 6] rfl) h
    · replace h := h.2 c_22
      refine lv_lload hx hb dX0_like_75 (lv_at hl 6 rfl) ?_
      refine lv_aload_n hx hb dX0_like_77 rfl (lv_at hl 2 rfl) ?_
      refine lv_iload hx hb dX0_like_78 (lv_at hl 7 rfl) ?_
      obtain ⟨fs_26, z_27, h⟩ := h
      refine kX0_C3_isNumber F G z_27 hl.1 ⟨(Nat.le_of_ble_eq_true rfl), (Nat.le_of_ble_eq_true rfl)⟩ ⟨(Nat.le_of_ble_eq_true rfl), (Nat.le_of_ble_eq_true rfl)⟩ (Nat.le_of_ble_eq_true rfl) dX0_like_80 h (fun r_24 S_25 H locs G h => ?_)
      refine lv_if_eq (tgt := 115) hx hb dX0_like_83 (by decide) (fun c_28 => ?_) (fun c_28 => ?_)
      · replace h := h.1 c_28
        refine lv_lconst (v := 0) hx hb dX0_like_115 (by decide) ?_
        exact wC0_like_p116 F v2 y3 v4 w5 v7 v10 0 w8 S_25 hK52 ih G (lv_sub hl [0, 1, 2, 3, 4, 5, 7] rfl) h
      · replace h := h.2 c_28
        refine lv_aload_n hx hb dX0_like_86 rfl (lv_at hl 2 rfl) ?_
        refine lv_iload hx hb dX0_like_87 (lv_at hl 7 rfl) ?_
        obtain ⟨fs_31, z_32, h⟩ := h
        refine kX0_C3_at F G z_32 hl.1 ⟨(Nat.le_of_ble_eq_true rfl), (Nat.le_of_ble_eq_true rfl)⟩ ⟨(Nat.le_of_ble_eq_true rfl), (Nat.le_of_ble_eq_true rfl)⟩ (Nat.le_of_ble_eq_true rfl) dX0_like_89 h (fun r_29 S_30 H locs G h => ?_)
        refine lv_i2l (v := r_29.toInt64) hx hb dX0_like_92 rfl ?_
        refine lv_aload_n hx hb dX0_like_93 rfl (lv_at hl 0 rfl) ?_
        refine cgX0_0_totals F G dX0_like_94 ?_
        refine lv_iload hx hb dX0_like_97 (lv_at hl 5 rfl) ?_
        refine lv_iload hx hb dX0_like_99 (lv_at hl 7 rfl) ?_
        refine lv_iadd hx hb dX0_like_101 ?_
        refine lv_sipush (v := 720) hx hb dX0_like_102 (by decide) ?_
        refine lv_irem hx hb dX0_like_105 (by decide) ?_
        obtain ⟨b_33, h⟩ := h
        refine c_iaload F G cI_24 b_33 dX0_like_106 ?_
        refine lv_i2l (v := (S_30.1 24 (((v7 + v10) - (v7 + v10) / 720 * 720).toNatClampNeg)).toInt64) hx hb dX0_like_107 rfl ?_
        refine lv_lsub hx hb dX0_like_108 ?_
        refine kX0_CJ3_abs F G hl.1 ⟨(Nat.le_of_ble_eq_true rfl), (Nat.le_of_ble_eq_true rfl)⟩ ⟨(Nat.le_of_ble_eq_true rfl), (Nat.le_of_ble_eq_true rfl)⟩ (Nat.le_of_ble_eq_true rfl) dX0_like_109 h (fun r_34 S_35 H locs G h => ?_)
        refine lv_goto (tgt := 116) hx hb dX0_like_112 (by decide) ?_
        exact wC0_like_p116 F v2 y3 v4 w5 v7 v10 r_34 w8 S_35 hK52 ih G (lv_sub hl [0, 1, 2, 3, 4, 5, 7] rfl) h
set_option maxHeartbeats 4000000 in
set_option maxRecDepth 100000 in
theorem wC0_like_L52 {p : Program} {l : Launch} {e : Env} {s : State} {m : MethodId} {args : Array Value} {below : List Frame} {meth : Method} {c : Code} {D : va_G} {a : Nat → Nat} {d : Nat → ClassId} {A : Nat → Prop} {Q : Int32 → CS → Prop}  (F : FC p s m meth c args D a d A RX0 cX0_like 11 (some .int)) (v2 : Int32) (y3 : Nat)  :
    ∀ (n : Nat) (v4 : Int32) (w5 : Int64) (v7 : Int32) (S : CS) (H : Heap) (locs : List Loc) (ls : Array Slot), GC D a d A s.heap S H locs → lv_has ls 11 [(0, .ref (a 0)), (2, .int v2), (3, .ref y3), (4, .int v4), (5, .long w5), (7, .int v7)] → C0_like_L52 Q v2 y3 n v4 w5 v7 S → wCi p l e rmX0_like s m args below meth c D a d A Q 0 0 H locs 0 0 (F0 m 52 ls []) := by
  obtain ⟨hx, hb, hr, hml, hown, hts, hlocks, hA, hK, hN⟩ := id F
  intro n
  induction n with
  | zero => intro v4 w5 v7 S H locs ls G hl h; exact absurd h (fun q => q)
  | succ n ih =>
    intro v4 w5 v7 S H locs ls G hl h
    unfold C0_like_L52 at h
    refine lv_iload hx hb dX0_like_52 (lv_at hl 5 rfl) ?_
    refine lv_sipush (v := 720) hx hb dX0_like_54 (by decide) ?_
    refine lv_icmp_ge (tgt := 157) hx hb dX0_like_57 (by decide) (fun c_16 => ?_) (fun c_16 => ?_)
    · replace h := h.1 c_16
      refine lv_iload_n hx hb dX0_like_157 rfl (lv_at hl 1 rfl) ?_
      refine lv_if_ne (tgt := 166) hx hb dX0_like_158 (by decide) (fun c_17 => ?_) (fun c_17 => ?_)
      · replace h := h.1 c_17
        refine lv_lload hx hb dX0_like_166 (lv_at hl 4 rfl) ?_
        refine lv_l2i (v := w5.toInt32) hx hb dX0_like_168 rfl ?_
        exact c_iret F G dX0_like_169 h
      · replace h := h.2 c_17
        refine lv_iload hx hb dX0_like_161 (lv_at hl 3 rfl) ?_
        refine lv_goto (tgt := 169) hx hb dX0_like_163 (by decide) ?_
        exact c_iret F G dX0_like_169 h
    · replace h := h.2 c_16
      refine lv_lconst (v := 0) hx hb dX0_like_60 (by decide) ?_
      refine lv_lstore (lv' := [(8, .long 0), (0, .ref (a 0)), (2, .int v2), (3, .ref y3), (4, .int v4), (5, .long w5), (7, .int v7)]) hx hb dX0_like_61 hl (by decide) rfl (fun ls hl => ?_)
      refine lv_iconst (v := 0) hx hb dX0_like_63 (by decide) ?_
      refine lv_istore (lv' := [(10, .int 0), (8, .long 0), (0, .ref (a 0)), (2, .int v2), (3, .ref y3), (4, .int v4), (5, .long w5), (7, .int v7)]) hx hb dX0_like_64 hl (by decide) rfl (fun ls hl => ?_)
      obtain ⟨k66, h⟩ := h
      exact wC0_like_L66 F v2 y3 v4 w5 v7 ih k66 0 0 S _ _ _ G (lv_sub hl [2, 3, 4, 5, 6, 7, 1, 0] rfl) h
set_option maxHeartbeats 4000000 in
set_option maxRecDepth 100000 in
theorem wC0_like {l : Launch} {D : va_G} {a : Nat → Nat} {d : Nat → ClassId} (sz : Nat) (v1 : Int32) (v2 : Int32) (S : CS) (Q : Int32 → CS → Prop) (h : C0_like v1 v2 S Q) : CMi l D a d yX0_like cX0_like 11 .int rmX0_like 0 0 [.ref (a 0), .int v1, .int v2] sz S Q := by
  refine c_enter (Qc := fun A => va_Qi Q (BC D a d A) A) RX0 (by decide +kernel) rfl (Nat.le_of_ble_eq_true rfl) ?_
  intro p e s m below meth c ls A hmn F hG hl
  have G := hG
  have hl : lv_has ls 11 [(0, .ref (a 0)), (1, .int v1), (2, .int v2)] := hl
  obtain ⟨hx, hb, hr, hml, hown, hts, hlocks, hA, hK, hN⟩ := id F
  unfold C0_like at h
  refine lv_iload_n hx hb dX0_like_0 rfl (lv_at hl 1 rfl) ?_
  refine kX0_C0_isSheet F G hl.1 ⟨(Nat.le_of_ble_eq_true rfl), (Nat.le_of_ble_eq_true rfl)⟩ ⟨(Nat.le_of_ble_eq_true rfl), (Nat.le_of_ble_eq_true rfl)⟩ (Nat.le_of_ble_eq_true rfl) dX0_like_1 h (fun r_1 S_2 H locs G h => ?_)
  refine lv_if_eq (tgt := 16) hx hb dX0_like_4 (by decide) (fun c_3 => ?_) (fun c_3 => ?_)
  · replace h := h.1 c_3
    refine lv_ldc hx hb hown (hts _ q368) dX0_like_16 ?_
    exact c_iret F G dX0_like_18 h
  · replace h := h.2 c_3
    refine lv_iload_n hx hb dX0_like_7 rfl (lv_at hl 2 rfl) ?_
    refine lv_iconst (v := 0) hx hb dX0_like_8 (by decide) ?_
    refine lv_iconst (v := 1) hx hb dX0_like_9 (by decide) ?_
    refine kX0_C0_isIn F G hl.1 ⟨(Nat.le_of_ble_eq_true rfl), (Nat.le_of_ble_eq_true rfl)⟩ ⟨(Nat.le_of_ble_eq_true rfl), (Nat.le_of_ble_eq_true rfl)⟩ (Nat.le_of_ble_eq_true rfl) dX0_like_10 h (fun r_4 S_5 H locs G h => ?_)
    refine lv_if_ne (tgt := 19) hx hb dX0_like_13 (by decide) (fun c_6 => ?_) (fun c_6 => ?_)
    · replace h := h.1 c_6
      refine lv_aload_n hx hb dX0_like_19 rfl (lv_at hl 0 rfl) ?_
      refine cgX0_0_sheets F G dX0_like_20 ?_
      refine lv_iload_n hx hb dX0_like_23 rfl (lv_at hl 1 rfl) ?_
      obtain ⟨b_7, h⟩ := h
      refine c_aaload F G cR_25 rfl b_7 dX0_like_24 ?_
      obtain ⟨y_8, hy_8, h⟩ := h
      refine c_nn hy_8 ?_
      refine lv_astore_n (lv' := [(3, .ref y_8), (0, .ref (a 0)), (1, .int v1), (2, .int v2)]) hx hb dX0_like_25 rfl hl (by decide) rfl (fun ls hl => ?_)
      refine lv_aload_n hx hb dX0_like_26 rfl (lv_at hl 0 rfl) ?_
      obtain ⟨fs_11, z_12, h⟩ := h
      refine kX0_C3_isThere F G z_12 hl.1 ⟨(Nat.le_of_ble_eq_true rfl), (Nat.le_of_ble_eq_true rfl)⟩ ⟨(Nat.le_of_ble_eq_true rfl), (Nat.le_of_ble_eq_true rfl)⟩ (Nat.le_of_ble_eq_true rfl) dX0_like_27 h (fun r_9 S_10 H locs G h => ?_)
      refine lv_if_ne (tgt := 37) hx hb dX0_like_30 (by decide) (fun c_13 => ?_) (fun c_13 => ?_)
      · replace h := h.1 c_13
        refine lv_aload_n hx hb dX0_like_37 rfl (lv_at hl 1 rfl) ?_
        refine kX0_C0_addsUpAll F G hl.1 ⟨(Nat.le_of_ble_eq_true rfl), (Nat.le_of_ble_eq_true rfl)⟩ ⟨(Nat.le_of_ble_eq_true rfl), (Nat.le_of_ble_eq_true rfl)⟩ (Nat.le_of_ble_eq_true rfl) dX0_like_38 h (fun S_15 H locs G h => ?_)
        refine lv_iconst (v := 0) hx hb dX0_like_41 (by decide) ?_
        refine lv_istore (lv' := [(4, .int 0), (3, .ref y_8), (0, .ref (a 0)), (1, .int v1), (2, .int v2)]) hx hb dX0_like_42 hl (by decide) rfl (fun ls hl => ?_)
        refine lv_ldc2 hx hb hown (hts _ q1062) dX0_like_44 ?_
        refine lv_lstore (lv' := [(5, .long 9223372036854775807), (4, .int 0), (3, .ref y_8), (0, .ref (a 0)), (1, .int v1), (2, .int v2)]) hx hb dX0_like_47 hl (by decide) rfl (fun ls hl => ?_)
        refine lv_iconst (v := 0) hx hb dX0_like_49 (by decide) ?_
        refine lv_istore (lv' := [(7, .int 0), (5, .long 9223372036854775807), (4, .int 0), (3, .ref y_8), (0, .ref (a 0)), (1, .int v1), (2, .int v2)]) hx hb dX0_like_50 hl (by decide) rfl (fun ls hl => ?_)
        obtain ⟨k52, h⟩ := h
        exact wC0_like_L52 F v2 y_8  k52 0 9223372036854775807 0 S_15 _ _ _ G (lv_sub hl [4, 6, 3, 2, 1, 0] rfl) h
      · replace h := h.2 c_13
        refine lv_ldcw hx hb hown (hts _ q1019) dX0_like_33 ?_
        exact c_iret F G dX0_like_36 h
    · replace h := h.2 c_6
      refine lv_ldc hx hb hown (hts _ q368) dX0_like_16 ?_
      exact c_iret F G dX0_like_18 h
/-! StrokesHeard.carries -/
def C0_carries_L81 (Q : CS → Prop)  (v4 : Int32) (v5 : Int32) (y7 : Nat) : Nat → Int32 → CS → Prop
  | 0, _, _ => False
  | n + 1, v8, S => (v5 ≤ v8 → Q S) ∧ (¬ v5 ≤ v8 → ∃ y_57 : Nat, (S.2.1 0 23) = some y_57 ∧ (∃ (n_58 : Nat) (f_59 : Nat → UInt32), has S y_57 (.inl (6, n_58, .inr (.inr (.inl f_59)))) ∧ vp_in v8 n_58 ∧ (∃ (n_62 : Nat) (f_63 : Nat → UInt32), has S y7 (.inl (6, n_62, .inr (.inr (.inl f_63)))) ∧ vp_in (v4 + v8) n_62 ∧ (C0_carries_L81 Q v4 v5 y7 n (v8 + 1) (cP S y7 (.inl (6, n_62, .inr (.inr (.inl (vf_upd f_63 ((v4 + v8).toNatClampNeg) (f_59 (v8.toNatClampNeg))))))))))))
def C0_carries_L51 (Q : CS → Prop)  (v2 : Int32) (v4 : Int32) (v5 : Int32) (y6 : Nat) (y7 : Nat) : Nat → Int32 → CS → Prop
  | 0, _, _ => False
  | n + 1, v8, S => (v5 ≤ v8 → ∃ k81, C0_carries_L81 Q v4 v5 y7 k81 0 S) ∧ (¬ v5 ≤ v8 → ∃ y_47 : Nat, (S.2.1 0 23) = some y_47 ∧ (∃ (n_48 : Nat) (f_49 : Nat → UInt32), has S y6 (.inl (6, n_48, .inr (.inr (.inl f_49)))) ∧ vp_in (v2 + v8) n_48 ∧ (∃ (n_52 : Nat) (f_53 : Nat → UInt32), has S y_47 (.inl (6, n_52, .inr (.inr (.inl f_53)))) ∧ vp_in v8 n_52 ∧ (C0_carries_L51 Q v2 v4 v5 y6 y7 n (v8 + 1) (cP S y_47 (.inl (6, n_52, .inr (.inr (.inl (vf_upd f_53 (v8.toNatClampNeg) (f_49 ((v2 + v8).toNatClampNeg))))))))))))
def C0_carries (y1 : Nat) (v2 : Int32) (y3 : Nat) (v4 : Int32) (v5 : Int32) (S : CS) (Q : CS → Prop) : Prop := ∃ fs_3 : List Value, has S y1 (.inr (3, fs_3)) ∧ (C3_isFloats y1 S (fun r_1 S_2 => (¬ r_1 = 0 → ∃ (fs_6 : List Value) (o_9 : Option Nat), has S_2 y1 (.inr (3, fs_6)) ∧ fs_6[0]? = some (va_rf o_9) ∧ (∃ y_10 : Nat, o_9 = some y_10 ∧ (∃ x_11 : vp_A, has S_2 y_10 (.inl (6, x_11)) ∧ (∃ (fs_13 : List Value) (o_16 : Option Nat), has S_2 y3 (.inr (3, fs_13)) ∧ fs_13[0]? = some (va_rf o_16) ∧ (∃ y_17 : Nat, o_16 = some y_17 ∧ (∃ x_18 : vp_A, has S_2 y_17 (.inl (6, x_18)) ∧ (∃ k51, C0_carries_L51 Q v2 v4 v5 y_10 y_17 k51 0 S_2))))))) ∧ (r_1 = 0 → ∃ (fs_20 : List Value) (o_23 : Option Nat), has S_2 y1 (.inr (3, fs_20)) ∧ fs_20[0]? = some (va_rf o_23) ∧ (∃ y_24 : Nat, o_23 = some y_24 ∧ (∃ x_25 : vp_A, has S_2 y_24 (.inl (7, x_25)) ∧ (∃ (fs_27 : List Value) (o_30 : Option Nat), has S_2 y3 (.inr (3, fs_27)) ∧ fs_27[0]? = some (va_rf o_30) ∧ (∃ y_31 : Nat, o_30 = some y_31 ∧ (∃ x_32 : vp_A, has S_2 y_31 (.inl (7, x_32)) ∧ (∃ (n_39 n_40 : Nat) (f_41 f_42 : Nat → Int32), has S_2 y_24 (.inl (7, n_39, .inl f_41)) ∧ has S_2 y_31 (.inl (7, n_40, .inl f_42)) ∧ (∀ i, i < v5.toNatClampNeg → fits .short (.int (f_41 (v2.toNatClampNeg + i))) = true) ∧ ¬ v2 < 0 ∧ ¬ v4 < 0 ∧ ¬ v5 < 0 ∧ v2.toNatClampNeg + v5.toNatClampNeg ≤ n_39 ∧ v4.toNatClampNeg + v5.toNatClampNeg ≤ n_40 ∧ (Q (cP S_2 y_31 (.inl (7, n_40, .inl (va_cpy f_41 f_42 v2.toNatClampNeg v4.toNatClampNeg v5.toNatClampNeg))))))))))))))
abbrev rmX0_carries : Room := { frames := 1, cells := 0, slots := 0, locals := 40 }
set_option maxHeartbeats 4000000 in
set_option maxRecDepth 100000 in
theorem wC0_carries_L81 {p : Program} {l : Launch} {e : Env} {s : State} {m : MethodId} {args : Array Value} {below : List Frame} {meth : Method} {c : Code} {D : va_G} {a : Nat → Nat} {d : Nat → ClassId} {A : Nat → Prop} {Q : CS → Prop}  (F : FC p s m meth c args D a d A RX0 cX0_carries 9 none) (v4 : Int32) (v5 : Int32) (y7 : Nat)  :
    ∀ (n : Nat) (v8 : Int32) (S : CS) (H : Heap) (locs : List Loc) (ls : Array Slot), GC D a d A s.heap S H locs → lv_has ls 9 [(0, .ref (a 0)), (4, .int v4), (5, .int v5), (7, .ref y7), (8, .int v8)] → C0_carries_L81 Q v4 v5 y7 n v8 S → wCv p l e rmX0_carries s m args below meth c D a d A Q 0 0 H locs 0 0 (F0 m 81 ls []) := by
  obtain ⟨hx, hb, hr, hml, hown, hts, hlocks, hA, hK, hN⟩ := id F
  intro n
  induction n with
  | zero => intro v8 S H locs ls G hl h; exact absurd h (fun q => q)
  | succ n ih =>
    intro v8 S H locs ls G hl h
    unfold C0_carries_L81 at h
    refine lv_iload hx hb dX0_carries_81 (lv_at hl 4 rfl) ?_
    refine lv_iload hx hb dX0_carries_83 (lv_at hl 2 rfl) ?_
    refine lv_icmp_ge (tgt := 109) hx hb dX0_carries_85 (by decide) (fun c_56 => ?_) (fun c_56 => ?_)
    · replace h := h.1 c_56
      exact c_vret F G dX0_carries_109 h
    · replace h := h.2 c_56
      refine lv_aload hx hb dX0_carries_88 (lv_at hl 3 rfl) ?_
      refine lv_iload hx hb dX0_carries_90 (lv_at hl 1 rfl) ?_
      refine lv_iload hx hb dX0_carries_92 (lv_at hl 4 rfl) ?_
      refine lv_iadd hx hb dX0_carries_94 ?_
      refine lv_aload_n hx hb dX0_carries_95 rfl (lv_at hl 0 rfl) ?_
      refine cgX0_0_carried F G dX0_carries_96 ?_
      obtain ⟨y_57, hy_57, h⟩ := h
      refine c_nn hy_57 ?_
      refine lv_iload hx hb dX0_carries_99 (lv_at hl 4 rfl) ?_
      obtain ⟨n_58, f_59, z_60, b_61, h⟩ := h
      refine p_faload F G z_60 b_61 dX0_carries_101 ?_
      obtain ⟨n_62, f_63, z_64, b_65, h⟩ := h
      refine p_fastore F G z_64 b_65 dX0_carries_102 (fun H locs G => ?_)
      refine lv_iinc (v := (v8 + 1)) (lv' := [(8, .int (v8 + 1)), (0, .ref (a 0)), (4, .int v4), (5, .int v5), (7, .ref y7)]) hx hb dX0_carries_103 hl (k := 4) rfl rfl (by decide) rfl (fun ls hl => ?_)
      refine lv_goto (tgt := 81) hx hb dX0_carries_106 (by decide) ?_
      exact ih (v8 + 1) (cP S y7 (.inl (6, n_62, .inr (.inr (.inl (vf_upd f_63 ((v4 + v8).toNatClampNeg) (f_59 (v8.toNatClampNeg)))))))) _ _ _ G (lv_sub hl [1, 2, 3, 4, 0] rfl) h
set_option maxHeartbeats 4000000 in
set_option maxRecDepth 100000 in
theorem wC0_carries_L51 {p : Program} {l : Launch} {e : Env} {s : State} {m : MethodId} {args : Array Value} {below : List Frame} {meth : Method} {c : Code} {D : va_G} {a : Nat → Nat} {d : Nat → ClassId} {A : Nat → Prop} {Q : CS → Prop}  (F : FC p s m meth c args D a d A RX0 cX0_carries 9 none) (v2 : Int32) (v4 : Int32) (v5 : Int32) (y6 : Nat) (y7 : Nat)  :
    ∀ (n : Nat) (v8 : Int32) (S : CS) (H : Heap) (locs : List Loc) (ls : Array Slot), GC D a d A s.heap S H locs → lv_has ls 9 [(0, .ref (a 0)), (2, .int v2), (4, .int v4), (5, .int v5), (6, .ref y6), (7, .ref y7), (8, .int v8)] → C0_carries_L51 Q v2 v4 v5 y6 y7 n v8 S → wCv p l e rmX0_carries s m args below meth c D a d A Q 0 0 H locs 0 0 (F0 m 51 ls []) := by
  obtain ⟨hx, hb, hr, hml, hown, hts, hlocks, hA, hK, hN⟩ := id F
  intro n
  induction n with
  | zero => intro v8 S H locs ls G hl h; exact absurd h (fun q => q)
  | succ n ih =>
    intro v8 S H locs ls G hl h
    unfold C0_carries_L51 at h
    refine lv_iload hx hb dX0_carries_51 (lv_at hl 6 rfl) ?_
    refine lv_iload hx hb dX0_carries_53 (lv_at hl 3 rfl) ?_
    refine lv_icmp_ge (tgt := 78) hx hb dX0_carries_55 (by decide) (fun c_46 => ?_) (fun c_46 => ?_)
    · replace h := h.1 c_46
      refine lv_iconst (v := 0) hx hb dX0_carries_78 (by decide) ?_
      refine lv_istore (lv' := [(8, .int 0), (0, .ref (a 0)), (2, .int v2), (4, .int v4), (5, .int v5), (6, .ref y6), (7, .ref y7)]) hx hb dX0_carries_79 hl (by decide) rfl (fun ls hl => ?_)
      obtain ⟨k81, h⟩ := h
      exact wC0_carries_L81 F v4 v5 y7  k81 0 S _ _ _ G (lv_sub hl [1, 3, 4, 6, 0] rfl) h
    · replace h := h.2 c_46
      refine lv_aload_n hx hb dX0_carries_58 rfl (lv_at hl 0 rfl) ?_
      refine cgX0_0_carried F G dX0_carries_59 ?_
      obtain ⟨y_47, hy_47, h⟩ := h
      refine c_nn hy_47 ?_
      refine lv_iload hx hb dX0_carries_62 (lv_at hl 6 rfl) ?_
      refine lv_aload hx hb dX0_carries_64 (lv_at hl 4 rfl) ?_
      refine lv_iload_n hx hb dX0_carries_66 rfl (lv_at hl 1 rfl) ?_
      refine lv_iload hx hb dX0_carries_67 (lv_at hl 6 rfl) ?_
      refine lv_iadd hx hb dX0_carries_69 ?_
      obtain ⟨n_48, f_49, z_50, b_51, h⟩ := h
      refine p_faload F G z_50 b_51 dX0_carries_70 ?_
      obtain ⟨n_52, f_53, z_54, b_55, h⟩ := h
      refine p_fastore F G z_54 b_55 dX0_carries_71 (fun H locs G => ?_)
      refine lv_iinc (v := (v8 + 1)) (lv' := [(8, .int (v8 + 1)), (0, .ref (a 0)), (2, .int v2), (4, .int v4), (5, .int v5), (6, .ref y6), (7, .ref y7)]) hx hb dX0_carries_72 hl (k := 6) rfl rfl (by decide) rfl (fun ls hl => ?_)
      refine lv_goto (tgt := 51) hx hb dX0_carries_75 (by decide) ?_
      exact ih (v8 + 1) (cP S y_47 (.inl (6, n_52, .inr (.inr (.inl (vf_upd f_53 (v8.toNatClampNeg) (f_49 ((v2 + v8).toNatClampNeg)))))))) _ _ _ G (lv_sub hl [1, 2, 3, 4, 5, 6, 0] rfl) h
set_option maxHeartbeats 4000000 in
set_option maxRecDepth 100000 in
theorem wC0_carries {l : Launch} {D : va_G} {a : Nat → Nat} {d : Nat → ClassId} (sz : Nat) (y1 : Nat) (v2 : Int32) (y3 : Nat) (v4 : Int32) (v5 : Int32) (S : CS) (Q : CS → Prop) (h : C0_carries y1 v2 y3 v4 v5 S Q) : CMv l D a d yX0_carries cX0_carries 9 rmX0_carries 0 0 [.ref (a 0), .ref y1, .int v2, .ref y3, .int v4, .int v5] sz S Q := by
  refine c_enter (Qc := fun A => va_Qv Q (BC D a d A) A) RX0 (by decide +kernel) rfl (Nat.le_of_ble_eq_true rfl) ?_
  intro p e s m below meth c ls A hmn F hG hl
  have G := hG
  have hl : lv_has ls 9 [(0, .ref (a 0)), (1, .ref y1), (2, .int v2), (3, .ref y3), (4, .int v4), (5, .int v5)] := hl
  obtain ⟨hx, hb, hr, hml, hown, hts, hlocks, hA, hK, hN⟩ := id F
  unfold C0_carries at h
  refine lv_aload_n hx hb dX0_carries_0 rfl (lv_at hl 1 rfl) ?_
  obtain ⟨fs_3, z_4, h⟩ := h
  refine kX0_C3_isFloats F G z_4 hl.1 ⟨(Nat.le_of_ble_eq_true rfl), (Nat.le_of_ble_eq_true rfl)⟩ ⟨(Nat.le_of_ble_eq_true rfl), (Nat.le_of_ble_eq_true rfl)⟩ (Nat.le_of_ble_eq_true rfl) dX0_carries_1 h (fun r_1 S_2 H locs G h => ?_)
  refine lv_if_ne (tgt := 30) hx hb dX0_carries_4 (by decide) (fun c_5 => ?_) (fun c_5 => ?_)
  · replace h := h.1 c_5
    refine lv_aload_n hx hb dX0_carries_30 rfl (lv_at hl 1 rfl) ?_
    obtain ⟨fs_6, o_9, z_7, u_8, h⟩ := h
    refine pgX0_X3_row F G z_7 u_8 dX0_carries_31 ?_
    obtain ⟨y_10, hy_10, h⟩ := h
    refine c_nn hy_10 ?_
    obtain ⟨x_11, z_12, h⟩ := h
    refine p_castF_X0 F G z_12 dX0_carries_34 ?_
    refine lv_astore (lv' := [(6, .ref y_10), (0, .ref (a 0)), (1, .ref y1), (2, .int v2), (3, .ref y3), (4, .int v4), (5, .int v5)]) hx hb dX0_carries_37 hl (by decide) rfl (fun ls hl => ?_)
    refine lv_aload_n hx hb dX0_carries_39 rfl (lv_at hl 4 rfl) ?_
    obtain ⟨fs_13, o_16, z_14, u_15, h⟩ := h
    refine pgX0_X3_row F G z_14 u_15 dX0_carries_40 ?_
    obtain ⟨y_17, hy_17, h⟩ := h
    refine c_nn hy_17 ?_
    obtain ⟨x_18, z_19, h⟩ := h
    refine p_castF_X0 F G z_19 dX0_carries_43 ?_
    refine lv_astore (lv' := [(7, .ref y_17), (6, .ref y_10), (0, .ref (a 0)), (1, .ref y1), (2, .int v2), (3, .ref y3), (4, .int v4), (5, .int v5)]) hx hb dX0_carries_46 hl (by decide) rfl (fun ls hl => ?_)
    refine lv_iconst (v := 0) hx hb dX0_carries_48 (by decide) ?_
    refine lv_istore (lv' := [(8, .int 0), (7, .ref y_17), (6, .ref y_10), (0, .ref (a 0)), (1, .ref y1), (2, .int v2), (3, .ref y3), (4, .int v4), (5, .int v5)]) hx hb dX0_carries_49 hl (by decide) rfl (fun ls hl => ?_)
    obtain ⟨k51, h⟩ := h
    exact wC0_carries_L51 F v2 v4 v5 y_10 y_17  k51 0 S_2 _ _ _ G (lv_sub hl [3, 5, 7, 8, 2, 1, 0] rfl) h
  · replace h := h.2 c_5
    refine lv_aload_n hx hb dX0_carries_7 rfl (lv_at hl 1 rfl) ?_
    obtain ⟨fs_20, o_23, z_21, u_22, h⟩ := h
    refine pgX0_X3_row F G z_21 u_22 dX0_carries_8 ?_
    obtain ⟨y_24, hy_24, h⟩ := h
    refine c_nn hy_24 ?_
    obtain ⟨x_25, z_26, h⟩ := h
    refine p_castS_X0 F G z_26 dX0_carries_11 ?_
    refine lv_iload_n hx hb dX0_carries_14 rfl (lv_at hl 2 rfl) ?_
    refine lv_aload_n hx hb dX0_carries_15 rfl (lv_at hl 3 rfl) ?_
    obtain ⟨fs_27, o_30, z_28, u_29, h⟩ := h
    refine pgX0_X3_row F G z_28 u_29 dX0_carries_16 ?_
    obtain ⟨y_31, hy_31, h⟩ := h
    refine c_nn hy_31 ?_
    obtain ⟨x_32, z_33, h⟩ := h
    refine p_castS_X0 F G z_33 dX0_carries_19 ?_
    refine lv_iload hx hb dX0_carries_22 (lv_at hl 4 rfl) ?_
    refine lv_iload hx hb dX0_carries_24 (lv_at hl 5 rfl) ?_
    obtain ⟨n_39, n_40, f_41, f_42, z_43, z_44, b_45, b_34, b_35, b_36, b_37, b_38, h⟩ := h
    refine p_copy_s_X0 F G z_43 z_44 b_45 hl.1 b_34 b_35 b_36 b_37 b_38 (Nat.le_of_ble_eq_true rfl) (by decide) dX0_carries_26 (fun H locs G => ?_)
    exact c_vret F G dX0_carries_29 h
set_option maxHeartbeats 4000000 in
set_option maxRecDepth 100000 in
theorem kX0_C0_carries {p : Program} {l : Launch} {e : Env} {s : State} {m : MethodId} {R : Room} {args : Array Value} {below : List Frame} {meth : Method} {c : Code} {D : va_G} {a : Nat → Nat} {d : Nat → ClassId} {A : Nat → Prop} {Q : State → Prop} {cc : ByteArray} {nL pc cells slots : Nat} {ret : Option FieldType} {ls : Array Slot} {rest : List Value} {y1 : Nat} {v2 : Int32} {y3 : Nat} {v4 : Int32} {v5 : Int32} {S : CS} {H : Heap} {locs : List Loc} {Q1 : CS → Prop} (F : FC p s m meth c args D a d A RX0 cc nL ret) (G : GC D a d A s.heap S H locs) (hsz : ls.size = nL) (hR : rmX0_carries.frames + 1 ≤ R.frames ∧ 8 + (9 + 11) + rmX0_carries.locals ≤ R.locals) (hc : cells + 0 ≤ R.cells ∧ slots + 0 ≤ R.slots) (hW : (rest.map fun v => v.category).sum ≤ 8) (hd : decode cc pc = .ok (.invokevirtual 469, 3)) (h : C0_carries y1 v2 y3 v4 v5 S Q1) (k : ∀ (S1 : CS) (H : Heap) (locs : List Loc), GC D a d A s.heap S1 H locs → Q1 S1 → W p l e R s m args below meth c H locs cells slots Q (F0 m (pc + 3) ls rest)) : W p l e R s m args below meth c H locs cells slots Q (F0 m pc ls (.int v5 :: .int v4 :: .ref y3 :: .int v2 :: .ref y1 :: .ref (a 0) :: rest)) := by
  obtain ⟨hx, hb, hr, hml, hown, hts, hlocks, hA, hK, hN⟩ := id F
  exact c_callv F G (va_runV (As := [.ref y1, .int v2, .ref y3, .int v4, .int v5]) (rest := rest) ⟨hx, hb, hml, hown, hts⟩ (wC0_carries H.size y1 v2 y3 v4 v5 S Q1 h) (cwV 5 hts (lw_V q1073 q1075 qs35 q82 q1076) rfl rfl rfl (by decide +kernel) hR) ⟨PC_blind, va_recv hK G.1 (ci := 0) (q0 := 0) rfl rfl, c_pre F G⟩ rfl rfl hsz rfl (lv_room hW) hd hc) k
/-! StrokesHeard.copy -/
def C0_copy (v1 : Int32) (v2 : Int32) (v3 : Int32) (v4 : Int32) (v5 : Int32) (S : CS) (Q : Int32 → CS → Prop) : Prop := C0_isSheet v1 S (fun r_1 S_2 => (r_1 = 0 → Q (-1000000001) S_2) ∧ (¬ r_1 = 0 → C0_isSheet v3 S_2 (fun r_4 S_5 => (¬ r_4 = 0 → vp_in v1 4 ∧ (∃ y_8 : Nat, (S_5.2.1 25 v1.toNatClampNeg) = some y_8 ∧ (vp_in v3 4 ∧ (∃ y_10 : Nat, (S_5.2.1 25 v3.toNatClampNeg) = some y_10 ∧ (∃ fs_13 : List Value, has S_5 y_8 (.inr (3, fs_13)) ∧ (C3_isThere y_8 S_5 (fun r_11 S_12 => (r_11 = 0 → Q (-1000000011) S_12) ∧ (¬ r_11 = 0 → ∃ fs_18 : List Value, has S_12 y_10 (.inr (3, fs_18)) ∧ (C3_isThere y_10 S_12 (fun r_16 S_17 => (¬ r_16 = 0 → ∃ fs_23 : List Value, has S_17 y_8 (.inr (3, fs_23)) ∧ (C3_isFloats y_8 S_17 (fun r_21 S_22 => ∃ fs_27 : List Value, has S_22 y_10 (.inr (3, fs_27)) ∧ (C3_isFloats y_10 S_22 (fun r_25 S_26 => (r_21 = r_25 → (v2 < 0 → Q (-1000000013) S_26) ∧ (¬ v2 < 0 → (v4 < 0 → Q (-1000000013) S_26) ∧ (¬ v4 < 0 → (v5 < 0 → Q (-1000000013) S_26) ∧ (¬ v5 < 0 → ∃ fs_35 : List Value, has S_26 y_8 (.inr (3, fs_35)) ∧ (C3_size y_8 S_26 (fun r_33 S_34 => ((r_33 - v5) < v2 → Q (-1000000013) S_34) ∧ (¬ (r_33 - v5) < v2 → ∃ fs_40 : List Value, has S_34 y_10 (.inr (3, fs_40)) ∧ (C3_size y_10 S_34 (fun r_38 S_39 => (v4 ≤ (r_38 - v5) → C0_carries y_8 v2 y_10 v4 v5 S_39 (fun S_44 => Q v5 S_44)) ∧ (¬ v4 ≤ (r_38 - v5) → Q (-1000000013) S_39)))))))))) ∧ (¬ r_21 = r_25 → Q (-1000000012) S_26)))))) ∧ (r_16 = 0 → Q (-1000000011) S_17))))))))))) ∧ (r_4 = 0 → Q (-1000000001) S_5))))
abbrev rmX0_copy : Room := { frames := 2, cells := 0, slots := 0, locals := 68 }
set_option maxHeartbeats 4000000 in
set_option maxRecDepth 100000 in
theorem wC0_copy {l : Launch} {D : va_G} {a : Nat → Nat} {d : Nat → ClassId} (sz : Nat) (v1 : Int32) (v2 : Int32) (v3 : Int32) (v4 : Int32) (v5 : Int32) (S : CS) (Q : Int32 → CS → Prop) (h : C0_copy v1 v2 v3 v4 v5 S Q) : CMi l D a d yX0_copy cX0_copy 8 .int rmX0_copy 0 0 [.ref (a 0), .int v1, .int v2, .int v3, .int v4, .int v5] sz S Q := by
  refine c_enter (Qc := fun A => va_Qi Q (BC D a d A) A) RX0 (by decide +kernel) rfl (Nat.le_of_ble_eq_true rfl) ?_
  intro p e s m below meth c ls A hmn F hG hl
  have G := hG
  have hl : lv_has ls 8 [(0, .ref (a 0)), (1, .int v1), (2, .int v2), (3, .int v3), (4, .int v4), (5, .int v5)] := hl
  obtain ⟨hx, hb, hr, hml, hown, hts, hlocks, hA, hK, hN⟩ := id F
  unfold C0_copy at h
  refine lv_iload_n hx hb dX0_copy_0 rfl (lv_at hl 1 rfl) ?_
  refine kX0_C0_isSheet F G hl.1 ⟨(Nat.le_of_ble_eq_true rfl), (Nat.le_of_ble_eq_true rfl)⟩ ⟨(Nat.le_of_ble_eq_true rfl), (Nat.le_of_ble_eq_true rfl)⟩ (Nat.le_of_ble_eq_true rfl) dX0_copy_1 h (fun r_1 S_2 H locs G h => ?_)
  refine lv_if_eq (tgt := 14) hx hb dX0_copy_4 (by decide) (fun c_3 => ?_) (fun c_3 => ?_)
  · replace h := h.1 c_3
    refine lv_ldc hx hb hown (hts _ q368) dX0_copy_14 ?_
    exact c_iret F G dX0_copy_16 h
  · replace h := h.2 c_3
    refine lv_iload_n hx hb dX0_copy_7 rfl (lv_at hl 3 rfl) ?_
    refine kX0_C0_isSheet F G hl.1 ⟨(Nat.le_of_ble_eq_true rfl), (Nat.le_of_ble_eq_true rfl)⟩ ⟨(Nat.le_of_ble_eq_true rfl), (Nat.le_of_ble_eq_true rfl)⟩ (Nat.le_of_ble_eq_true rfl) dX0_copy_8 h (fun r_4 S_5 H locs G h => ?_)
    refine lv_if_ne (tgt := 17) hx hb dX0_copy_11 (by decide) (fun c_6 => ?_) (fun c_6 => ?_)
    · replace h := h.1 c_6
      refine lv_aload_n hx hb dX0_copy_17 rfl (lv_at hl 0 rfl) ?_
      refine cgX0_0_sheets F G dX0_copy_18 ?_
      refine lv_iload_n hx hb dX0_copy_21 rfl (lv_at hl 1 rfl) ?_
      obtain ⟨b_7, h⟩ := h
      refine c_aaload F G cR_25 rfl b_7 dX0_copy_22 ?_
      obtain ⟨y_8, hy_8, h⟩ := h
      refine c_nn hy_8 ?_
      refine lv_astore (lv' := [(6, .ref y_8), (0, .ref (a 0)), (1, .int v1), (2, .int v2), (3, .int v3), (4, .int v4), (5, .int v5)]) hx hb dX0_copy_23 hl (by decide) rfl (fun ls hl => ?_)
      refine lv_aload_n hx hb dX0_copy_25 rfl (lv_at hl 1 rfl) ?_
      refine cgX0_0_sheets F G dX0_copy_26 ?_
      refine lv_iload_n hx hb dX0_copy_29 rfl (lv_at hl 4 rfl) ?_
      obtain ⟨b_9, h⟩ := h
      refine c_aaload F G cR_25 rfl b_9 dX0_copy_30 ?_
      obtain ⟨y_10, hy_10, h⟩ := h
      refine c_nn hy_10 ?_
      refine lv_astore (lv' := [(7, .ref y_10), (6, .ref y_8), (0, .ref (a 0)), (1, .int v1), (2, .int v2), (3, .int v3), (4, .int v4), (5, .int v5)]) hx hb dX0_copy_31 hl (by decide) rfl (fun ls hl => ?_)
      refine lv_aload hx hb dX0_copy_33 (lv_at hl 1 rfl) ?_
      obtain ⟨fs_13, z_14, h⟩ := h
      refine kX0_C3_isThere F G z_14 hl.1 ⟨(Nat.le_of_ble_eq_true rfl), (Nat.le_of_ble_eq_true rfl)⟩ ⟨(Nat.le_of_ble_eq_true rfl), (Nat.le_of_ble_eq_true rfl)⟩ (Nat.le_of_ble_eq_true rfl) dX0_copy_35 h (fun r_11 S_12 H locs G h => ?_)
      refine lv_if_eq (tgt := 49) hx hb dX0_copy_38 (by decide) (fun c_15 => ?_) (fun c_15 => ?_)
      · replace h := h.1 c_15
        refine lv_ldcw hx hb hown (hts _ q1019) dX0_copy_49 ?_
        exact c_iret F G dX0_copy_52 h
      · replace h := h.2 c_15
        refine lv_aload hx hb dX0_copy_41 (lv_at hl 0 rfl) ?_
        obtain ⟨fs_18, z_19, h⟩ := h
        refine kX0_C3_isThere F G z_19 hl.1 ⟨(Nat.le_of_ble_eq_true rfl), (Nat.le_of_ble_eq_true rfl)⟩ ⟨(Nat.le_of_ble_eq_true rfl), (Nat.le_of_ble_eq_true rfl)⟩ (Nat.le_of_ble_eq_true rfl) dX0_copy_43 h (fun r_16 S_17 H locs G h => ?_)
        refine lv_if_ne (tgt := 53) hx hb dX0_copy_46 (by decide) (fun c_20 => ?_) (fun c_20 => ?_)
        · replace h := h.1 c_20
          refine lv_aload hx hb dX0_copy_53 (lv_at hl 1 rfl) ?_
          obtain ⟨fs_23, z_24, h⟩ := h
          refine kX0_C3_isFloats F G z_24 hl.1 ⟨(Nat.le_of_ble_eq_true rfl), (Nat.le_of_ble_eq_true rfl)⟩ ⟨(Nat.le_of_ble_eq_true rfl), (Nat.le_of_ble_eq_true rfl)⟩ (Nat.le_of_ble_eq_true rfl) dX0_copy_55 h (fun r_21 S_22 H locs G h => ?_)
          refine lv_aload hx hb dX0_copy_58 (lv_at hl 0 rfl) ?_
          obtain ⟨fs_27, z_28, h⟩ := h
          refine kX0_C3_isFloats F G z_28 hl.1 ⟨(Nat.le_of_ble_eq_true rfl), (Nat.le_of_ble_eq_true rfl)⟩ ⟨(Nat.le_of_ble_eq_true rfl), (Nat.le_of_ble_eq_true rfl)⟩ (Nat.le_of_ble_eq_true rfl) dX0_copy_60 h (fun r_25 S_26 H locs G h => ?_)
          refine lv_icmp_eq (tgt := 70) hx hb dX0_copy_63 (by decide) (fun c_29 => ?_) (fun c_29 => ?_)
          · replace h := h.1 c_29
            refine lv_iload_n hx hb dX0_copy_70 rfl (lv_at hl 4 rfl) ?_
            refine lv_if_lt (tgt := 109) hx hb dX0_copy_71 (by decide) (fun c_30 => ?_) (fun c_30 => ?_)
            · replace h := h.1 c_30
              refine lv_ldcw hx hb hown (hts _ q1041) dX0_copy_109 ?_
              exact c_iret F G dX0_copy_112 h
            · replace h := h.2 c_30
              refine lv_iload hx hb dX0_copy_74 (lv_at hl 6 rfl) ?_
              refine lv_if_lt (tgt := 109) hx hb dX0_copy_76 (by decide) (fun c_31 => ?_) (fun c_31 => ?_)
              · replace h := h.1 c_31
                refine lv_ldcw hx hb hown (hts _ q1041) dX0_copy_109 ?_
                exact c_iret F G dX0_copy_112 h
              · replace h := h.2 c_31
                refine lv_iload hx hb dX0_copy_79 (lv_at hl 7 rfl) ?_
                refine lv_if_lt (tgt := 109) hx hb dX0_copy_81 (by decide) (fun c_32 => ?_) (fun c_32 => ?_)
                · replace h := h.1 c_32
                  refine lv_ldcw hx hb hown (hts _ q1041) dX0_copy_109 ?_
                  exact c_iret F G dX0_copy_112 h
                · replace h := h.2 c_32
                  refine lv_iload_n hx hb dX0_copy_84 rfl (lv_at hl 4 rfl) ?_
                  refine lv_aload hx hb dX0_copy_85 (lv_at hl 1 rfl) ?_
                  obtain ⟨fs_35, z_36, h⟩ := h
                  refine kX0_C3_size F G z_36 hl.1 ⟨(Nat.le_of_ble_eq_true rfl), (Nat.le_of_ble_eq_true rfl)⟩ ⟨(Nat.le_of_ble_eq_true rfl), (Nat.le_of_ble_eq_true rfl)⟩ (Nat.le_of_ble_eq_true rfl) dX0_copy_87 h (fun r_33 S_34 H locs G h => ?_)
                  refine lv_iload hx hb dX0_copy_90 (lv_at hl 7 rfl) ?_
                  refine lv_isub hx hb dX0_copy_92 ?_
                  refine lv_icmp_gt (tgt := 109) hx hb dX0_copy_93 (by decide) (fun c_37 => ?_) (fun c_37 => ?_)
                  · replace h := h.1 c_37
                    refine lv_ldcw hx hb hown (hts _ q1041) dX0_copy_109 ?_
                    exact c_iret F G dX0_copy_112 h
                  · replace h := h.2 c_37
                    refine lv_iload hx hb dX0_copy_96 (lv_at hl 6 rfl) ?_
                    refine lv_aload hx hb dX0_copy_98 (lv_at hl 0 rfl) ?_
                    obtain ⟨fs_40, z_41, h⟩ := h
                    refine kX0_C3_size F G z_41 hl.1 ⟨(Nat.le_of_ble_eq_true rfl), (Nat.le_of_ble_eq_true rfl)⟩ ⟨(Nat.le_of_ble_eq_true rfl), (Nat.le_of_ble_eq_true rfl)⟩ (Nat.le_of_ble_eq_true rfl) dX0_copy_100 h (fun r_38 S_39 H locs G h => ?_)
                    refine lv_iload hx hb dX0_copy_103 (lv_at hl 7 rfl) ?_
                    refine lv_isub hx hb dX0_copy_105 ?_
                    refine lv_icmp_le (tgt := 113) hx hb dX0_copy_106 (by decide) (fun c_42 => ?_) (fun c_42 => ?_)
                    · replace h := h.1 c_42
                      refine lv_aload_n hx hb dX0_copy_113 rfl (lv_at hl 2 rfl) ?_
                      refine lv_aload hx hb dX0_copy_114 (lv_at hl 1 rfl) ?_
                      refine lv_iload_n hx hb dX0_copy_116 rfl (lv_at hl 4 rfl) ?_
                      refine lv_aload hx hb dX0_copy_117 (lv_at hl 0 rfl) ?_
                      refine lv_iload hx hb dX0_copy_119 (lv_at hl 6 rfl) ?_
                      refine lv_iload hx hb dX0_copy_121 (lv_at hl 7 rfl) ?_
                      refine kX0_C0_carries F G hl.1 ⟨(Nat.le_of_ble_eq_true rfl), (Nat.le_of_ble_eq_true rfl)⟩ ⟨(Nat.le_of_ble_eq_true rfl), (Nat.le_of_ble_eq_true rfl)⟩ (Nat.le_of_ble_eq_true rfl) dX0_copy_123 h (fun S_44 H locs G h => ?_)
                      refine lv_iload hx hb dX0_copy_126 (lv_at hl 7 rfl) ?_
                      exact c_iret F G dX0_copy_128 h
                    · replace h := h.2 c_42
                      refine lv_ldcw hx hb hown (hts _ q1041) dX0_copy_109 ?_
                      exact c_iret F G dX0_copy_112 h
          · replace h := h.2 c_29
            refine lv_ldcw hx hb hown (hts _ q785) dX0_copy_66 ?_
            exact c_iret F G dX0_copy_69 h
        · replace h := h.2 c_20
          refine lv_ldcw hx hb hown (hts _ q1019) dX0_copy_49 ?_
          exact c_iret F G dX0_copy_52 h
    · replace h := h.2 c_6
      refine lv_ldc hx hb hown (hts _ q368) dX0_copy_14 ?_
      exact c_iret F G dX0_copy_16 h
/-! StrokesHeard.isSlot -/
def C0_isSlot (v0 : Int32) (S : CS) (Q : Int32 → CS → Prop) : Prop := C0_isIn v0 0 4 S (fun r_1 S_2 => zb r_1 ∧ Q r_1 S_2)
abbrev rmX0_isSlot : Room := { frames := 1, cells := 0, slots := 0, locals := 22 }
set_option maxHeartbeats 4000000 in
set_option maxRecDepth 100000 in
theorem wC0_isSlot {l : Launch} {D : va_G} {a : Nat → Nat} {d : Nat → ClassId} (sz : Nat) (v0 : Int32) (S : CS) (Q : Int32 → CS → Prop) (h : C0_isSlot v0 S Q) : CMi l D a d yX0_isSlot cX0_isSlot 1 .boolean rmX0_isSlot 0 0 [.int v0] sz S Q := by
  refine c_enter (Qc := fun A => va_Qi Q (BC D a d A) A) RX0 (by decide +kernel) rfl (Nat.le_of_ble_eq_true rfl) ?_
  intro p e s m below meth c ls A hmn F hG hl
  have G := hG
  have hl : lv_has ls 1 [(0, .int v0)] := hl
  obtain ⟨hx, hb, hr, hml, hown, hts, hlocks, hA, hK, hN⟩ := id F
  unfold C0_isSlot at h
  refine lv_iload_n hx hb dX0_isSlot_0 rfl (lv_at hl 0 rfl) ?_
  refine lv_iconst (v := 0) hx hb dX0_isSlot_1 (by decide) ?_
  refine lv_iconst (v := 4) hx hb dX0_isSlot_2 (by decide) ?_
  refine kX0_C0_isIn F G hl.1 ⟨(Nat.le_of_ble_eq_true rfl), (Nat.le_of_ble_eq_true rfl)⟩ ⟨(Nat.le_of_ble_eq_true rfl), (Nat.le_of_ble_eq_true rfl)⟩ (Nat.le_of_ble_eq_true rfl) dX0_isSlot_3 h (fun r_1 S_2 H locs G h => ?_)
  exact c_zret h.1 F G dX0_isSlot_6 h.2
set_option maxHeartbeats 4000000 in
set_option maxRecDepth 100000 in
theorem kX0_C0_isSlot {p : Program} {l : Launch} {e : Env} {s : State} {m : MethodId} {R : Room} {args : Array Value} {below : List Frame} {meth : Method} {c : Code} {D : va_G} {a : Nat → Nat} {d : Nat → ClassId} {A : Nat → Prop} {Q : State → Prop} {cc : ByteArray} {nL pc cells slots : Nat} {ret : Option FieldType} {ls : Array Slot} {rest : List Value} {v0 : Int32} {S : CS} {H : Heap} {locs : List Loc} {Q1 : Int32 → CS → Prop} (F : FC p s m meth c args D a d A RX0 cc nL ret) (G : GC D a d A s.heap S H locs) (hsz : ls.size = nL) (hR : rmX0_isSlot.frames + 1 ≤ R.frames ∧ 8 + (1 + 11) + rmX0_isSlot.locals ≤ R.locals) (hc : cells + 0 ≤ R.cells ∧ slots + 0 ≤ R.slots) (hW : (rest.map fun v => v.category).sum ≤ 8) (hd : decode cc pc = .ok (.invokestatic 473, 3)) (h : C0_isSlot v0 S Q1) (k : ∀ (r : Int32) (S1 : CS) (H : Heap) (locs : List Loc), GC D a d A s.heap S1 H locs → Q1 r S1 → W p l e R s m args below meth c H locs cells slots Q (F0 m (pc + 3) ls (.int r :: rest))) : W p l e R s m args below meth c H locs cells slots Q (F0 m pc ls (.int v0 :: rest)) := by
  obtain ⟨hx, hb, hr, hml, hown, hts, hlocks, hA, hK, hN⟩ := id F
  exact c_calli F G (va_runS (As := [.int v0]) (rest := rest) ⟨hx, hb, hml, hown, hts⟩ (wC0_isSlot H.size v0 S Q1 h) (va_cwS 1 hts (lw_S q1082 q1083 q82 q1084) rfl rfl rfl (by decide +kernel) hR) ⟨PC_blind, c_pre F G⟩ rfl rfl hsz rfl (lv_room hW) hd hc) k
/-! StrokesHeard$Slot.thing -/
def C4_thing (y0 : Nat) (S : CS) (Q : Int32 → CS → Prop) : Prop := ∃ (fs_1 : List Value) (o_4 : Option Nat), has S y0 (.inr (4, fs_1)) ∧ fs_1[0]? = some (va_rf o_4) ∧ ((o_4 = none → Q 0 S) ∧ (∀ y_6 : Nat, o_4 = some y_6 → ∃ (fs_7 : List Value) (o_10 : Option Nat), has S y0 (.inr (4, fs_7)) ∧ fs_7[0]? = some (va_rf o_10) ∧ (∃ y_11 : Nat, o_10 = some y_11 ∧ ((∃ fs_12 : List Value, has S y_11 (.inr (3, fs_12)) ∧ (∃ (fs_15 : List Value) (o_18 : Option Nat), has S y0 (.inr (4, fs_15)) ∧ fs_15[0]? = some (va_rf o_18) ∧ (∃ y_19 : Nat, o_18 = some y_19 ∧ ((∃ fs_20 : List Value, has S y_19 (.inr (3, fs_20)) ∧ (Q 2 S)) ∨ (∃ fs_23 : List Value, has S y_19 (.inr (6, fs_23)) ∧ (Q 3 S)) ∨ (∃ fs_26 : List Value, has S y_19 (.inr (7, fs_26)) ∧ (Q 3 S)) ∨ (∃ fs_29 : List Value, has S y_19 (.inr (8, fs_29)) ∧ (Q 3 S)) ∨ (∃ fs_32 : List Value, has S y_19 (.inr (9, fs_32)) ∧ (Q 3 S)) ∨ (∃ fs_35 : List Value, has S y_19 (.inr (10, fs_35)) ∧ (Q 3 S)) ∨ (∃ fs_38 : List Value, has S y_19 (.inr (11, fs_38)) ∧ (Q 3 S)) ∨ (∃ fs_41 : List Value, has S y_19 (.inr (14, fs_41)) ∧ (Q 3 S)))))) ∨ (∃ fs_44 : List Value, has S y_11 (.inr (6, fs_44)) ∧ (Q 1 S)) ∨ (∃ fs_47 : List Value, has S y_11 (.inr (7, fs_47)) ∧ (Q 1 S)) ∨ (∃ fs_50 : List Value, has S y_11 (.inr (8, fs_50)) ∧ (Q 1 S)) ∨ (∃ fs_53 : List Value, has S y_11 (.inr (9, fs_53)) ∧ (Q 1 S)) ∨ (∃ fs_56 : List Value, has S y_11 (.inr (10, fs_56)) ∧ (Q 1 S)) ∨ (∃ fs_59 : List Value, has S y_11 (.inr (11, fs_59)) ∧ (Q 1 S)) ∨ (∃ fs_62 : List Value, has S y_11 (.inr (14, fs_62)) ∧ (∃ (fs_65 : List Value) (o_68 : Option Nat), has S y0 (.inr (4, fs_65)) ∧ fs_65[0]? = some (va_rf o_68) ∧ (∃ y_69 : Nat, o_68 = some y_69 ∧ ((∃ fs_70 : List Value, has S y_69 (.inr (3, fs_70)) ∧ (Q 2 S)) ∨ (∃ fs_73 : List Value, has S y_69 (.inr (6, fs_73)) ∧ (Q 3 S)) ∨ (∃ fs_76 : List Value, has S y_69 (.inr (7, fs_76)) ∧ (Q 3 S)) ∨ (∃ fs_79 : List Value, has S y_69 (.inr (8, fs_79)) ∧ (Q 3 S)) ∨ (∃ fs_82 : List Value, has S y_69 (.inr (9, fs_82)) ∧ (Q 3 S)) ∨ (∃ fs_85 : List Value, has S y_69 (.inr (10, fs_85)) ∧ (Q 3 S)) ∨ (∃ fs_88 : List Value, has S y_69 (.inr (11, fs_88)) ∧ (Q 3 S)) ∨ (∃ fs_91 : List Value, has S y_69 (.inr (14, fs_91)) ∧ (Q 3 S))))))))))
abbrev rmX4_thing : Room := { frames := 0, cells := 0, slots := 0, locals := 0 }
set_option maxHeartbeats 4000000 in
set_option maxRecDepth 100000 in
theorem wC4_thing {l : Launch} {D : va_G} {a : Nat → Nat} {d : Nat → ClassId} (sz : Nat) (y0 : Nat) (S : CS) (Q : Int32 → CS → Prop) (h : C4_thing y0 S Q) : CMi l D a d yX4_thing cX4_thing 1 .int rmX4_thing 0 0 [.ref y0] sz S Q := by
  refine c_enter (Qc := fun A => va_Qi Q (BC D a d A) A) RX4 (by decide +kernel) rfl (Nat.le_of_ble_eq_true rfl) ?_
  intro p e s m below meth c ls A hmn F hG hl
  have G := hG
  have hl : lv_has ls 1 [(0, .ref y0)] := hl
  obtain ⟨hx, hb, hr, hml, hown, hts, hlocks, hA, hK, hN⟩ := id F
  unfold C4_thing at h
  refine lv_aload_n hx hb dX4_thing_0 rfl (lv_at hl 0 rfl) ?_
  obtain ⟨fs_1, o_4, z_2, u_3, h⟩ := h
  refine pgX4_X4_held F G z_2 u_3 dX4_thing_1 ?_
  refine c_ifnonnull (tgt := 11) hx hb dX4_thing_4 (by decide) (fun y_6 c_5 => ?_) (fun c_5 => ?_)
  · replace h := h.2 y_6 c_5
    refine lv_aload_n hx hb dX4_thing_11 rfl (lv_at hl 0 rfl) ?_
    obtain ⟨fs_7, o_10, z_8, u_9, h⟩ := h
    refine pgX4_X4_held F G z_8 u_9 dX4_thing_12 ?_
    obtain ⟨y_11, hy_11, h⟩ := h
    refine c_nn hy_11 ?_
    rcases h with ⟨fs_12, z_13, h⟩ | ⟨fs_44, z_45, h⟩ | ⟨fs_47, z_48, h⟩ | ⟨fs_50, z_51, h⟩ | ⟨fs_53, z_54, h⟩ | ⟨fs_56, z_57, h⟩ | ⟨fs_59, z_60, h⟩ | ⟨fs_62, z_63, h⟩
    · refine p_inst_X4_X6_3 F G z_13 dX4_thing_15 ?_
      refine lv_if_eq (tgt := 25) hx hb dX4_thing_18 (by decide) (fun c_14 => ?_) (fun c_14 => ?_)
      · refine lv_aload_n hx hb dX4_thing_25 rfl (lv_at hl 0 rfl) ?_
        obtain ⟨fs_15, o_18, z_16, u_17, h⟩ := h
        refine pgX4_X4_held F G z_16 u_17 dX4_thing_26 ?_
        obtain ⟨y_19, hy_19, h⟩ := h
        refine c_nn hy_19 ?_
        rcases h with ⟨fs_20, z_21, h⟩ | ⟨fs_23, z_24, h⟩ | ⟨fs_26, z_27, h⟩ | ⟨fs_29, z_30, h⟩ | ⟨fs_32, z_33, h⟩ | ⟨fs_35, z_36, h⟩ | ⟨fs_38, z_39, h⟩ | ⟨fs_41, z_42, h⟩
        · refine p_inst_X4_X3_3 F G z_21 dX4_thing_29 ?_
          refine lv_if_eq (tgt := 39) hx hb dX4_thing_32 (by decide) (fun c_22 => ?_) (fun c_22 => ?_)
          · exact absurd c_22 (by decide)
          · refine lv_iconst (v := 2) hx hb dX4_thing_35 (by decide) ?_
            refine lv_goto (tgt := 40) hx hb dX4_thing_36 (by decide) ?_
            exact c_iret F G dX4_thing_40 h
        · refine p_inst_X4_X3_6 F G z_24 dX4_thing_29 ?_
          refine lv_if_eq (tgt := 39) hx hb dX4_thing_32 (by decide) (fun c_25 => ?_) (fun c_25 => ?_)
          · refine lv_iconst (v := 3) hx hb dX4_thing_39 (by decide) ?_
            exact c_iret F G dX4_thing_40 h
          · exact absurd c_25 (by decide)
        · refine p_inst_X4_X3_7 F G z_27 dX4_thing_29 ?_
          refine lv_if_eq (tgt := 39) hx hb dX4_thing_32 (by decide) (fun c_28 => ?_) (fun c_28 => ?_)
          · refine lv_iconst (v := 3) hx hb dX4_thing_39 (by decide) ?_
            exact c_iret F G dX4_thing_40 h
          · exact absurd c_28 (by decide)
        · refine p_inst_X4_X3_8 F G z_30 dX4_thing_29 ?_
          refine lv_if_eq (tgt := 39) hx hb dX4_thing_32 (by decide) (fun c_31 => ?_) (fun c_31 => ?_)
          · refine lv_iconst (v := 3) hx hb dX4_thing_39 (by decide) ?_
            exact c_iret F G dX4_thing_40 h
          · exact absurd c_31 (by decide)
        · refine p_inst_X4_X3_9 F G z_33 dX4_thing_29 ?_
          refine lv_if_eq (tgt := 39) hx hb dX4_thing_32 (by decide) (fun c_34 => ?_) (fun c_34 => ?_)
          · refine lv_iconst (v := 3) hx hb dX4_thing_39 (by decide) ?_
            exact c_iret F G dX4_thing_40 h
          · exact absurd c_34 (by decide)
        · refine p_inst_X4_X3_10 F G z_36 dX4_thing_29 ?_
          refine lv_if_eq (tgt := 39) hx hb dX4_thing_32 (by decide) (fun c_37 => ?_) (fun c_37 => ?_)
          · refine lv_iconst (v := 3) hx hb dX4_thing_39 (by decide) ?_
            exact c_iret F G dX4_thing_40 h
          · exact absurd c_37 (by decide)
        · refine p_inst_X4_X3_11 F G z_39 dX4_thing_29 ?_
          refine lv_if_eq (tgt := 39) hx hb dX4_thing_32 (by decide) (fun c_40 => ?_) (fun c_40 => ?_)
          · refine lv_iconst (v := 3) hx hb dX4_thing_39 (by decide) ?_
            exact c_iret F G dX4_thing_40 h
          · exact absurd c_40 (by decide)
        · refine p_inst_X4_X3_14 F G z_42 dX4_thing_29 ?_
          refine lv_if_eq (tgt := 39) hx hb dX4_thing_32 (by decide) (fun c_43 => ?_) (fun c_43 => ?_)
          · refine lv_iconst (v := 3) hx hb dX4_thing_39 (by decide) ?_
            exact c_iret F G dX4_thing_40 h
          · exact absurd c_43 (by decide)
      · exact absurd c_14 (by decide)
    · refine p_inst_X4_X6_6 F G z_45 dX4_thing_15 ?_
      refine lv_if_eq (tgt := 25) hx hb dX4_thing_18 (by decide) (fun c_46 => ?_) (fun c_46 => ?_)
      · exact absurd c_46 (by decide)
      · refine lv_iconst (v := 1) hx hb dX4_thing_21 (by decide) ?_
        refine lv_goto (tgt := 40) hx hb dX4_thing_22 (by decide) ?_
        exact c_iret F G dX4_thing_40 h
    · refine p_inst_X4_X6_7 F G z_48 dX4_thing_15 ?_
      refine lv_if_eq (tgt := 25) hx hb dX4_thing_18 (by decide) (fun c_49 => ?_) (fun c_49 => ?_)
      · exact absurd c_49 (by decide)
      · refine lv_iconst (v := 1) hx hb dX4_thing_21 (by decide) ?_
        refine lv_goto (tgt := 40) hx hb dX4_thing_22 (by decide) ?_
        exact c_iret F G dX4_thing_40 h
    · refine p_inst_X4_X6_8 F G z_51 dX4_thing_15 ?_
      refine lv_if_eq (tgt := 25) hx hb dX4_thing_18 (by decide) (fun c_52 => ?_) (fun c_52 => ?_)
      · exact absurd c_52 (by decide)
      · refine lv_iconst (v := 1) hx hb dX4_thing_21 (by decide) ?_
        refine lv_goto (tgt := 40) hx hb dX4_thing_22 (by decide) ?_
        exact c_iret F G dX4_thing_40 h
    · refine p_inst_X4_X6_9 F G z_54 dX4_thing_15 ?_
      refine lv_if_eq (tgt := 25) hx hb dX4_thing_18 (by decide) (fun c_55 => ?_) (fun c_55 => ?_)
      · exact absurd c_55 (by decide)
      · refine lv_iconst (v := 1) hx hb dX4_thing_21 (by decide) ?_
        refine lv_goto (tgt := 40) hx hb dX4_thing_22 (by decide) ?_
        exact c_iret F G dX4_thing_40 h
    · refine p_inst_X4_X6_10 F G z_57 dX4_thing_15 ?_
      refine lv_if_eq (tgt := 25) hx hb dX4_thing_18 (by decide) (fun c_58 => ?_) (fun c_58 => ?_)
      · exact absurd c_58 (by decide)
      · refine lv_iconst (v := 1) hx hb dX4_thing_21 (by decide) ?_
        refine lv_goto (tgt := 40) hx hb dX4_thing_22 (by decide) ?_
        exact c_iret F G dX4_thing_40 h
    · refine p_inst_X4_X6_11 F G z_60 dX4_thing_15 ?_
      refine lv_if_eq (tgt := 25) hx hb dX4_thing_18 (by decide) (fun c_61 => ?_) (fun c_61 => ?_)
      · exact absurd c_61 (by decide)
      · refine lv_iconst (v := 1) hx hb dX4_thing_21 (by decide) ?_
        refine lv_goto (tgt := 40) hx hb dX4_thing_22 (by decide) ?_
        exact c_iret F G dX4_thing_40 h
    · refine p_inst_X4_X6_14 F G z_63 dX4_thing_15 ?_
      refine lv_if_eq (tgt := 25) hx hb dX4_thing_18 (by decide) (fun c_64 => ?_) (fun c_64 => ?_)
      · refine lv_aload_n hx hb dX4_thing_25 rfl (lv_at hl 0 rfl) ?_
        obtain ⟨fs_65, o_68, z_66, u_67, h⟩ := h
        refine pgX4_X4_held F G z_66 u_67 dX4_thing_26 ?_
        obtain ⟨y_69, hy_69, h⟩ := h
        refine c_nn hy_69 ?_
        rcases h with ⟨fs_70, z_71, h⟩ | ⟨fs_73, z_74, h⟩ | ⟨fs_76, z_77, h⟩ | ⟨fs_79, z_80, h⟩ | ⟨fs_82, z_83, h⟩ | ⟨fs_85, z_86, h⟩ | ⟨fs_88, z_89, h⟩ | ⟨fs_91, z_92, h⟩
        · refine p_inst_X4_X3_3 F G z_71 dX4_thing_29 ?_
          refine lv_if_eq (tgt := 39) hx hb dX4_thing_32 (by decide) (fun c_72 => ?_) (fun c_72 => ?_)
          · exact absurd c_72 (by decide)
          · refine lv_iconst (v := 2) hx hb dX4_thing_35 (by decide) ?_
            refine lv_goto (tgt := 40) hx hb dX4_thing_36 (by decide) ?_
            exact c_iret F G dX4_thing_40 h
        · refine p_inst_X4_X3_6 F G z_74 dX4_thing_29 ?_
          refine lv_if_eq (tgt := 39) hx hb dX4_thing_32 (by decide) (fun c_75 => ?_) (fun c_75 => ?_)
          · refine lv_iconst (v := 3) hx hb dX4_thing_39 (by decide) ?_
            exact c_iret F G dX4_thing_40 h
          · exact absurd c_75 (by decide)
        · refine p_inst_X4_X3_7 F G z_77 dX4_thing_29 ?_
          refine lv_if_eq (tgt := 39) hx hb dX4_thing_32 (by decide) (fun c_78 => ?_) (fun c_78 => ?_)
          · refine lv_iconst (v := 3) hx hb dX4_thing_39 (by decide) ?_
            exact c_iret F G dX4_thing_40 h
          · exact absurd c_78 (by decide)
        · refine p_inst_X4_X3_8 F G z_80 dX4_thing_29 ?_
          refine lv_if_eq (tgt := 39) hx hb dX4_thing_32 (by decide) (fun c_81 => ?_) (fun c_81 => ?_)
          · refine lv_iconst (v := 3) hx hb dX4_thing_39 (by decide) ?_
            exact c_iret F G dX4_thing_40 h
          · exact absurd c_81 (by decide)
        · refine p_inst_X4_X3_9 F G z_83 dX4_thing_29 ?_
          refine lv_if_eq (tgt := 39) hx hb dX4_thing_32 (by decide) (fun c_84 => ?_) (fun c_84 => ?_)
          · refine lv_iconst (v := 3) hx hb dX4_thing_39 (by decide) ?_
            exact c_iret F G dX4_thing_40 h
          · exact absurd c_84 (by decide)
        · refine p_inst_X4_X3_10 F G z_86 dX4_thing_29 ?_
          refine lv_if_eq (tgt := 39) hx hb dX4_thing_32 (by decide) (fun c_87 => ?_) (fun c_87 => ?_)
          · refine lv_iconst (v := 3) hx hb dX4_thing_39 (by decide) ?_
            exact c_iret F G dX4_thing_40 h
          · exact absurd c_87 (by decide)
        · refine p_inst_X4_X3_11 F G z_89 dX4_thing_29 ?_
          refine lv_if_eq (tgt := 39) hx hb dX4_thing_32 (by decide) (fun c_90 => ?_) (fun c_90 => ?_)
          · refine lv_iconst (v := 3) hx hb dX4_thing_39 (by decide) ?_
            exact c_iret F G dX4_thing_40 h
          · exact absurd c_90 (by decide)
        · refine p_inst_X4_X3_14 F G z_92 dX4_thing_29 ?_
          refine lv_if_eq (tgt := 39) hx hb dX4_thing_32 (by decide) (fun c_93 => ?_) (fun c_93 => ?_)
          · refine lv_iconst (v := 3) hx hb dX4_thing_39 (by decide) ?_
            exact c_iret F G dX4_thing_40 h
          · exact absurd c_93 (by decide)
      · exact absurd c_64 (by decide)
  · replace h := h.1 c_5
    refine lv_iconst (v := 0) hx hb dX4_thing_7 (by decide) ?_
    refine lv_goto (tgt := 40) hx hb dX4_thing_8 (by decide) ?_
    exact c_iret F G dX4_thing_40 h
set_option maxHeartbeats 4000000 in
set_option maxRecDepth 100000 in
theorem kX0_C4_thing {p : Program} {l : Launch} {e : Env} {s : State} {m : MethodId} {R : Room} {args : Array Value} {below : List Frame} {meth : Method} {c : Code} {D : va_G} {a : Nat → Nat} {d : Nat → ClassId} {A : Nat → Prop} {Q : State → Prop} {cc : ByteArray} {nL pc cells slots : Nat} {ret : Option FieldType} {ls : Array Slot} {rest : List Value} {y0 : Nat} {S : CS} {H : Heap} {locs : List Loc} {Q1 : Int32 → CS → Prop} (F : FC p s m meth c args D a d A RX0 cc nL ret) (G : GC D a d A s.heap S H locs) {fs0 : List Value} (hy : has S y0 (.inr (4, fs0))) (hsz : ls.size = nL) (hR : rmX4_thing.frames + 1 ≤ R.frames ∧ 8 + (1 + 11) + rmX4_thing.locals ≤ R.locals) (hc : cells + 0 ≤ R.cells ∧ slots + 0 ≤ R.slots) (hW : (rest.map fun v => v.category).sum ≤ 8) (hd : decode cc pc = .ok (.invokevirtual 476, 3)) (h : C4_thing y0 S Q1) (k : ∀ (r : Int32) (S1 : CS) (H : Heap) (locs : List Loc), GC D a d A s.heap S1 H locs → Q1 r S1 → W p l e R s m args below meth c H locs cells slots Q (F0 m (pc + 3) ls (.int r :: rest))) : W p l e R s m args below meth c H locs cells slots Q (F0 m pc ls (.ref y0 :: rest)) := by
  obtain ⟨hx, hb, hr, hml, hown, hts, hlocks, hA, hK, hN⟩ := id F
  exact c_calli F G (va_runV (As := []) (rest := rest) ⟨hx, hb, hml, hown, hts⟩ (wC4_thing H.size y0 S Q1 h) (cwV 0 hts (lw_V q1085 q1086 q1087 q89 q1088) rfl rfl rfl (by decide +kernel) hR) ⟨PC_blind, p_recv_X4 F G hy, c_pre F G⟩ rfl rfl hsz rfl (lv_room hW) hd hc) k
/-! StrokesHeard$Figure.<init> -/
def C14_init (y0 : Nat) (v1 : Int32) (S : CS) (Q : CS → Prop) : Prop := ∃ (fs_1 : List Value), has S y0 (.inr (14, fs_1)) ∧ 0 < fs_1.length ∧ (Q (cP S y0 (.inr (14, fs_1.set 0 (.int v1)))))
abbrev rmX14_init : Room := { frames := 1, cells := 0, slots := 0, locals := 20 }
set_option maxHeartbeats 4000000 in
set_option maxRecDepth 100000 in
theorem wC14_init {l : Launch} {D : va_G} {a : Nat → Nat} {d : Nat → ClassId} (sz : Nat) (y0 : Nat) (v1 : Int32) (S : CS) (Q : CS → Prop) (h : C14_init y0 v1 S Q) : CMv l D a d yX14_init cX14_init 2 rmX14_init 0 0 [.ref y0, .int v1] sz S Q := by
  refine c_enter (Qc := fun A => va_Qv Q (BC D a d A) A) RX14 (by decide +kernel) rfl (Nat.le_of_ble_eq_true rfl) ?_
  intro p e s m below meth c ls A hmn F hG hl
  have G := hG
  have hl : lv_has ls 2 [(0, .ref y0), (1, .int v1)] := hl
  obtain ⟨hx, hb, hr, hml, hown, hts, hlocks, hA, hK, hN⟩ := id F
  unfold C14_init at h
  refine lv_aload_n hx hb dX14_init_0 rfl (lv_at hl 0 rfl) ?_
  refine W.objInit hx hb hown (hts _ q1112) (hts _ q115) (hts _ q116) rfl (hl.1.trans hml.symm) rfl dX14_init_1 (Nat.le_of_ble_eq_true rfl) (Nat.le_of_ble_eq_true rfl) ?_
  refine lv_aload_n hx hb dX14_init_4 rfl (lv_at hl 0 rfl) ?_
  refine lv_iload_n hx hb dX14_init_5 rfl (lv_at hl 1 rfl) ?_
  obtain ⟨fs_1, z_2, u_3, h⟩ := h
  refine ppX14_X14_v F G z_2 hmn rfl rfl u_3 dX14_init_6 (fun H locs G => ?_)
  exact c_vret F G dX14_init_9 h
set_option maxHeartbeats 4000000 in
set_option maxRecDepth 100000 in
theorem kX0_C14_init {p : Program} {l : Launch} {e : Env} {s : State} {m : MethodId} {R : Room} {args : Array Value} {below : List Frame} {meth : Method} {c : Code} {D : va_G} {a : Nat → Nat} {d : Nat → ClassId} {A : Nat → Prop} {Q : State → Prop} {cc : ByteArray} {nL pc cells slots : Nat} {ret : Option FieldType} {ls : Array Slot} {rest : List Value} {y0 : Nat} {v1 : Int32} {S : CS} {H : Heap} {locs : List Loc} {Q1 : CS → Prop} (F : FC p s m meth c args D a d A RX0 cc nL ret) (G : GC D a d A s.heap S H locs) (hsz : ls.size = nL) (hR : rmX14_init.frames + 1 ≤ R.frames ∧ 8 + (2 + 11) + rmX14_init.locals ≤ R.locals) (hc : cells + 0 ≤ R.cells ∧ slots + 0 ≤ R.slots) (hW : (rest.map fun v => v.category).sum ≤ 8) (hd : decode cc pc = .ok (.invokespecial 489, 3)) (h : C14_init y0 v1 S Q1) (k : ∀ (S1 : CS) (H : Heap) (locs : List Loc), GC D a d A s.heap S1 H locs → Q1 S1 → W p l e R s m args below meth c H locs cells slots Q (F0 m (pc + 3) ls rest)) : W p l e R s m args below meth c H locs cells slots Q (F0 m pc ls (.int v1 :: .ref y0 :: rest)) := by
  obtain ⟨hx, hb, hr, hml, hown, hts, hlocks, hA, hK, hN⟩ := id F
  exact c_callv F G (va_runI (As := [.int v1]) (rest := rest) ⟨hx, hb, hml, hown, hts⟩ (wC14_init H.size y0 v1 S Q1 h) (cwI 1 hts (lw_meth q1111) rfl rfl rfl (hts _ q108) (hts _ q1109) (hts _ q1110) rfl (by decide +kernel) hR) ⟨PC_blind, c_pre F G⟩ rfl rfl hsz rfl (lv_room hW) hd hc) k
/-! StrokesHeard$Sheet.<init> -/
def C3_init (y0 : Nat) (S : CS) (Q : CS → Prop) : Prop := Q S
abbrev rmX3_init : Room := { frames := 1, cells := 0, slots := 0, locals := 20 }
set_option maxHeartbeats 4000000 in
set_option maxRecDepth 100000 in
theorem wC3_init {l : Launch} {D : va_G} {a : Nat → Nat} {d : Nat → ClassId} (sz : Nat) (y0 : Nat) (S : CS) (Q : CS → Prop) (h : C3_init y0 S Q) : CMv l D a d yX3_init cX3_init 1 rmX3_init 0 0 [.ref y0] sz S Q := by
  refine c_enter (Qc := fun A => va_Qv Q (BC D a d A) A) RX3 (by decide +kernel) rfl (Nat.le_of_ble_eq_true rfl) ?_
  intro p e s m below meth c ls A hmn F hG hl
  have G := hG
  have hl : lv_has ls 1 [(0, .ref y0)] := hl
  obtain ⟨hx, hb, hr, hml, hown, hts, hlocks, hA, hK, hN⟩ := id F
  unfold C3_init at h
  refine lv_aload_n hx hb dX3_init_0 rfl (lv_at hl 0 rfl) ?_
  refine W.objInit hx hb hown (hts _ q251) (hts _ q115) (hts _ q116) rfl (hl.1.trans hml.symm) rfl dX3_init_1 (Nat.le_of_ble_eq_true rfl) (Nat.le_of_ble_eq_true rfl) ?_
  exact c_vret F G dX3_init_4 h
set_option maxHeartbeats 4000000 in
set_option maxRecDepth 100000 in
theorem kX0_C3_init {p : Program} {l : Launch} {e : Env} {s : State} {m : MethodId} {R : Room} {args : Array Value} {below : List Frame} {meth : Method} {c : Code} {D : va_G} {a : Nat → Nat} {d : Nat → ClassId} {A : Nat → Prop} {Q : State → Prop} {cc : ByteArray} {nL pc cells slots : Nat} {ret : Option FieldType} {ls : Array Slot} {rest : List Value} {y0 : Nat} {S : CS} {H : Heap} {locs : List Loc} {Q1 : CS → Prop} (F : FC p s m meth c args D a d A RX0 cc nL ret) (G : GC D a d A s.heap S H locs) (hsz : ls.size = nL) (hR : rmX3_init.frames + 1 ≤ R.frames ∧ 8 + (1 + 11) + rmX3_init.locals ≤ R.locals) (hc : cells + 0 ≤ R.cells ∧ slots + 0 ≤ R.slots) (hW : (rest.map fun v => v.category).sum ≤ 8) (hd : decode cc pc = .ok (.invokespecial 82, 3)) (h : C3_init y0 S Q1) (k : ∀ (S1 : CS) (H : Heap) (locs : List Loc), GC D a d A s.heap S1 H locs → Q1 S1 → W p l e R s m args below meth c H locs cells slots Q (F0 m (pc + 3) ls rest)) : W p l e R s m args below meth c H locs cells slots Q (F0 m pc ls (.ref y0 :: rest)) := by
  obtain ⟨hx, hb, hr, hml, hown, hts, hlocks, hA, hK, hN⟩ := id F
  exact c_callv F G (va_runIN (As := []) (rest := rest) ⟨hx, hb, hml, hown, hts⟩ (wC3_init H.size y0 S Q1 h) ⟨va_cnB 0 hts (lw_meth q250) rfl rfl rfl (hN.1 _ (List.mem_of_getElem? (i := 15) rfl)) (hts _ q88) (by decide +kernel) hR, rfl, hts _ q249⟩ ⟨PC_blind, c_pre F G⟩ rfl rfl hsz rfl (lv_room hW) hd hc) k
set_option maxHeartbeats 4000000 in
set_option maxRecDepth 100000 in
theorem kX0_C0_rowOf {p : Program} {l : Launch} {e : Env} {s : State} {m : MethodId} {R : Room} {args : Array Value} {below : List Frame} {meth : Method} {c : Code} {D : va_G} {a : Nat → Nat} {d : Nat → ClassId} {A : Nat → Prop} {Q : State → Prop} {cc : ByteArray} {nL pc cells slots : Nat} {ret : Option FieldType} {ls : Array Slot} {rest : List Value} {v0 : Int32} {v1 : Int32} {S : CS} {H : Heap} {locs : List Loc} {Q1 : Nat → CS → Prop} (F : FC p s m meth c args D a d A RX0 cc nL ret) (G : GC D a d A s.heap S H locs) (hsz : ls.size = nL) (hR : rmX0_rowOf.frames + 1 ≤ R.frames ∧ 8 + (2 + 11) + rmX0_rowOf.locals ≤ R.locals) (hc : cells + 1 ≤ R.cells ∧ slots + 24 ≤ R.slots) (hW : (rest.map fun v => v.category).sum ≤ 8) (hd : decode cc pc = .ok (.invokestatic 420, 3)) (h : C0_rowOf v0 v1 S Q1) (k : ∀ (r : Nat) (S1 : CS) (H : Heap) (locs : List Loc), GC D a d A s.heap S1 H locs → Q1 r S1 → W p l e R s m args below meth c H locs (cells + 1) (slots + 24) Q (F0 m (pc + 3) ls (.ref r :: rest))) : W p l e R s m args below meth c H locs cells slots Q (F0 m pc ls (.int v1 :: .int v0 :: rest)) := by
  obtain ⟨hx, hb, hr, hml, hown, hts, hlocks, hA, hK, hN⟩ := id F
  exact c_callr F G (va_runS (As := [.int v0, .int v1]) (rest := rest) ⟨hx, hb, hml, hown, hts⟩ (wC0_rowOf H.size v0 v1 S Q1 h) (va_cwS 2 hts (lw_S q1006 q1007 q82 q1008) rfl rfl rfl (by decide +kernel) hR) ⟨PC_blind, c_pre F G⟩ rfl rfl hsz rfl (lv_room hW) hd hc) k
/-! StrokesHeard.own -/
def C0_own (y1 : Nat) (S : CS) (Q : Nat → CS → Prop) : Prop := ∀ y_1 : Nat, y_1 ∉ S.2.2.1 → C3_init y_1 (cN S y_1 (.inr (3, [.null]))) (fun S_4 => ∃ fs_7 : List Value, has S_4 y1 (.inr (3, fs_7)) ∧ (C3_isFloats y1 S_4 (fun r_5 S_6 => ∃ fs_11 : List Value, has S_6 y1 (.inr (3, fs_11)) ∧ (C3_size y1 S_6 (fun r_9 S_10 => C0_rowOf r_5 r_9 S_10 (fun y_13 S_14 => ∃ (fs_15 : List Value), has S_14 y_1 (.inr (3, fs_15)) ∧ 0 < fs_15.length ∧ (∃ fs_20 : List Value, has (cP S_14 y_1 (.inr (3, fs_15.set 0 (.ref y_13)))) y1 (.inr (3, fs_20)) ∧ (C3_size y1 (cP S_14 y_1 (.inr (3, fs_15.set 0 (.ref y_13)))) (fun r_18 S_19 => C0_carries y1 0 y_1 0 r_18 S_19 (fun S_23 => Q y_1 S_23))))))))))
abbrev rmX0_own : Room := { frames := 2, cells := 2, slots := 25, locals := 68 }
set_option maxHeartbeats 4000000 in
set_option maxRecDepth 100000 in
theorem wC0_own {l : Launch} {D : va_G} {a : Nat → Nat} {d : Nat → ClassId} (sz : Nat) (y1 : Nat) (S : CS) (Q : Nat → CS → Prop) (h : C0_own y1 S Q) : CMr l D a d yX0_own cX0_own 3 (.object "StrokesHeard$Sheet") rmX0_own 2 25 [.ref (a 0), .ref y1] sz S Q := by
  refine c_enter (Qc := fun A => QRy Q (BC D a d A) A) RX0 (by decide +kernel) rfl (Nat.le_of_ble_eq_true rfl) ?_
  intro p e s m below meth c ls A hmn F hG hl
  have G := hG
  have hl : lv_has ls 3 [(0, .ref (a 0)), (1, .ref y1)] := hl
  obtain ⟨hx, hb, hr, hml, hown, hts, hlocks, hA, hK, hN⟩ := id F
  unfold C0_own at h
  refine pnX0_X3 F G ⟨(Nat.le_of_ble_eq_true rfl), (Nat.le_of_ble_eq_true rfl)⟩ dX0_own_0 (fun y_1 H q_2 G => ?_)
  replace h := h y_1 q_2
  refine lv_dup hx hb dX0_own_3 rfl ?_
  refine kX0_C3_init F G hl.1 ⟨(Nat.le_of_ble_eq_true rfl), (Nat.le_of_ble_eq_true rfl)⟩ ⟨(Nat.le_of_ble_eq_true rfl), (Nat.le_of_ble_eq_true rfl)⟩ (Nat.le_of_ble_eq_true rfl) dX0_own_4 h (fun S_4 H locs G h => ?_)
  refine lv_astore_n (lv' := [(2, .ref y_1), (0, .ref (a 0)), (1, .ref y1)]) hx hb dX0_own_7 rfl hl (by decide) rfl (fun ls hl => ?_)
  refine lv_aload_n hx hb dX0_own_8 rfl (lv_at hl 0 rfl) ?_
  refine lv_aload_n hx hb dX0_own_9 rfl (lv_at hl 2 rfl) ?_
  obtain ⟨fs_7, z_8, h⟩ := h
  refine kX0_C3_isFloats F G z_8 hl.1 ⟨(Nat.le_of_ble_eq_true rfl), (Nat.le_of_ble_eq_true rfl)⟩ ⟨(Nat.le_of_ble_eq_true rfl), (Nat.le_of_ble_eq_true rfl)⟩ (Nat.le_of_ble_eq_true rfl) dX0_own_10 h (fun r_5 S_6 H locs G h => ?_)
  refine lv_aload_n hx hb dX0_own_13 rfl (lv_at hl 2 rfl) ?_
  obtain ⟨fs_11, z_12, h⟩ := h
  refine kX0_C3_size F G z_12 hl.1 ⟨(Nat.le_of_ble_eq_true rfl), (Nat.le_of_ble_eq_true rfl)⟩ ⟨(Nat.le_of_ble_eq_true rfl), (Nat.le_of_ble_eq_true rfl)⟩ (Nat.le_of_ble_eq_true rfl) dX0_own_14 h (fun r_9 S_10 H locs G h => ?_)
  refine kX0_C0_rowOf F G hl.1 ⟨(Nat.le_of_ble_eq_true rfl), (Nat.le_of_ble_eq_true rfl)⟩ ⟨(Nat.le_of_ble_eq_true rfl), (Nat.le_of_ble_eq_true rfl)⟩ (Nat.le_of_ble_eq_true rfl) dX0_own_17 h (fun y_13 S_14 H locs G h => ?_)
  obtain ⟨fs_15, z_16, u_17, h⟩ := h
  refine ppX0_X3_row F G z_16 rfl rfl u_17 dX0_own_20 (fun H locs G => ?_)
  refine lv_aload_n hx hb dX0_own_23 rfl (lv_at hl 1 rfl) ?_
  refine lv_aload_n hx hb dX0_own_24 rfl (lv_at hl 2 rfl) ?_
  refine lv_iconst (v := 0) hx hb dX0_own_25 (by decide) ?_
  refine lv_aload_n hx hb dX0_own_26 rfl (lv_at hl 0 rfl) ?_
  refine lv_iconst (v := 0) hx hb dX0_own_27 (by decide) ?_
  refine lv_aload_n hx hb dX0_own_28 rfl (lv_at hl 2 rfl) ?_
  obtain ⟨fs_20, z_21, h⟩ := h
  refine kX0_C3_size F G z_21 hl.1 ⟨(Nat.le_of_ble_eq_true rfl), (Nat.le_of_ble_eq_true rfl)⟩ ⟨(Nat.le_of_ble_eq_true rfl), (Nat.le_of_ble_eq_true rfl)⟩ (Nat.le_of_ble_eq_true rfl) dX0_own_29 h (fun r_18 S_19 H locs G h => ?_)
  refine kX0_C0_carries F G hl.1 ⟨(Nat.le_of_ble_eq_true rfl), (Nat.le_of_ble_eq_true rfl)⟩ ⟨(Nat.le_of_ble_eq_true rfl), (Nat.le_of_ble_eq_true rfl)⟩ (Nat.le_of_ble_eq_true rfl) dX0_own_32 h (fun S_23 H locs G h => ?_)
  refine lv_aload_n hx hb dX0_own_35 rfl (lv_at hl 0 rfl) ?_
  exact c_aret F G dX0_own_36 h
set_option maxHeartbeats 4000000 in
set_option maxRecDepth 100000 in
theorem kX0_C0_own {p : Program} {l : Launch} {e : Env} {s : State} {m : MethodId} {R : Room} {args : Array Value} {below : List Frame} {meth : Method} {c : Code} {D : va_G} {a : Nat → Nat} {d : Nat → ClassId} {A : Nat → Prop} {Q : State → Prop} {cc : ByteArray} {nL pc cells slots : Nat} {ret : Option FieldType} {ls : Array Slot} {rest : List Value} {y1 : Nat} {S : CS} {H : Heap} {locs : List Loc} {Q1 : Nat → CS → Prop} (F : FC p s m meth c args D a d A RX0 cc nL ret) (G : GC D a d A s.heap S H locs) (hsz : ls.size = nL) (hR : rmX0_own.frames + 1 ≤ R.frames ∧ 8 + (3 + 11) + rmX0_own.locals ≤ R.locals) (hc : cells + 2 ≤ R.cells ∧ slots + 25 ≤ R.slots) (hW : (rest.map fun v => v.category).sum ≤ 8) (hd : decode cc pc = .ok (.invokevirtual 483, 3)) (h : C0_own y1 S Q1) (k : ∀ (r : Nat) (S1 : CS) (H : Heap) (locs : List Loc), GC D a d A s.heap S1 H locs → Q1 r S1 → W p l e R s m args below meth c H locs (cells + 2) (slots + 25) Q (F0 m (pc + 3) ls (.ref r :: rest))) : W p l e R s m args below meth c H locs cells slots Q (F0 m pc ls (.ref y1 :: .ref (a 0) :: rest)) := by
  obtain ⟨hx, hb, hr, hml, hown, hts, hlocks, hA, hK, hN⟩ := id F
  exact c_callr F G (va_runV (As := [.ref y1]) (rest := rest) ⟨hx, hb, hml, hown, hts⟩ (wC0_own H.size y1 S Q1 h) (cwV 1 hts (lw_V q1103 q1105 qs36 q82 q1106) rfl rfl rfl (by decide +kernel) hR) ⟨PC_blind, va_recv hK G.1 (ci := 0) (q0 := 0) rfl rfl, c_pre F G⟩ rfl rfl hsz rfl (lv_room hW) hd hc) k
set_option maxHeartbeats 4000000 in
set_option maxRecDepth 100000 in
theorem kvX6_another {p : Program} {l : Launch} {e : Env} {s : State} {m : MethodId} {R : Room} {args : Array Value} {below : List Frame} {meth : Method} {c : Code} {D : va_G} {a : Nat → Nat} {d : Nat → ClassId} {A : Nat → Prop} {Q : State → Prop} {cc : ByteArray} {nL pc cells slots κ : Nat} {fs0 : List Value} {ret : Option FieldType} {ls : Array Slot} {rest : List Value} {y0 : Nat} {S : CS} {H : Heap} {locs : List Loc} {Q1 : Nat → CS → Prop} (F : FC p s m meth c args D a d A RX6 cc nL ret) (G : GC D a d A s.heap S H locs) (hκ : κ < 6) (hy : has S y0 (.inr (6 + κ, fs0))) (hsz : ls.size = nL) (hR : 4 + 1 ≤ R.frames ∧ 100 ≤ R.locals) (hc : cells + 1 ≤ R.cells ∧ slots + 2 ≤ R.slots) (hW : (rest.map fun v => v.category).sum ≤ 8) (hd : decode cc pc = .ok (.invokevirtual 27, 3)) (h : CV_another κ y0 S Q1) (k : ∀ (r : Nat) (S1 : CS) (H : Heap) (locs : List Loc), GC D a d A s.heap S1 H locs → Q1 r S1 → W p l e R s m args below meth c H locs (cells + 1) (slots + 2) Q (F0 m (pc + 3) ls (.ref r :: rest))) : W p l e R s m args below meth c H locs cells slots Q (F0 m pc ls (.ref y0 :: rest)) := by
  obtain ⟨hx, hb, hr, hml, hown, hts, hlocks, hA, hK, hN⟩ := id F
  obtain rfl | rfl | rfl | rfl | rfl | rfl : κ = 0 ∨ κ = 1 ∨ κ = 2 ∨ κ = 3 ∨ κ = 4 ∨ κ = 5 := by omega
  · exact c_callr F G (va_runU (As := []) (rest := rest) ⟨hx, hb, hml, hown, hts⟩ (wC6_another H.size y0 S Q1 h) (va_cwO (C := RX6) (owner := RX6) 0 hts (lw_O q1101 q935 q933 q934 q933 q91 q961) rfl rfl rfl q961 (by decide +kernel) ⟨Nat.le_trans (Nat.le_of_ble_eq_true rfl) hR.1, Nat.le_trans (Nat.le_of_ble_eq_true rfl) hR.2⟩) ⟨PC_blind, p_recv_X6 F G hy, c_pre F G⟩ rfl rfl hsz rfl (lv_room hW) hd hc) k
  · exact c_callr F G (va_runU (As := []) (rest := rest) ⟨hx, hb, hml, hown, hts⟩ (wC7_another H.size y0 S Q1 h) (va_cwO (C := RX7) (owner := RX6) 0 hts (lw_O q1101 q935 q933 q941 q942 q92 q943) rfl rfl rfl q961 (by decide +kernel) ⟨Nat.le_trans (Nat.le_of_ble_eq_true rfl) hR.1, Nat.le_trans (Nat.le_of_ble_eq_true rfl) hR.2⟩) ⟨PC_blind, p_recv_X7 F G hy, c_pre F G⟩ rfl rfl hsz rfl (lv_room hW) hd hc) k
  · exact c_callr F G (va_runU (As := []) (rest := rest) ⟨hx, hb, hml, hown, hts⟩ (wC8_another H.size y0 S Q1 h) (va_cwO (C := RX8) (owner := RX6) 0 hts (lw_O q1101 q935 q933 q956 q957 q93 q958) rfl rfl rfl q961 (by decide +kernel) ⟨Nat.le_trans (Nat.le_of_ble_eq_true rfl) hR.1, Nat.le_trans (Nat.le_of_ble_eq_true rfl) hR.2⟩) ⟨PC_blind, p_recv_X8 F G hy, c_pre F G⟩ rfl rfl hsz rfl (lv_room hW) hd hc) k
  · exact c_callr F G (va_runU (As := []) (rest := rest) ⟨hx, hb, hml, hown, hts⟩ (wC9_another H.size y0 S Q1 h) (va_cwO (C := RX9) (owner := RX6) 0 hts (lw_O q1101 q935 q933 q951 q952 q94 q953) rfl rfl rfl q961 (by decide +kernel) ⟨Nat.le_trans (Nat.le_of_ble_eq_true rfl) hR.1, Nat.le_trans (Nat.le_of_ble_eq_true rfl) hR.2⟩) ⟨PC_blind, p_recv_X9 F G hy, c_pre F G⟩ rfl rfl hsz rfl (lv_room hW) hd hc) k
  · exact c_callr F G (va_runU (As := []) (rest := rest) ⟨hx, hb, hml, hown, hts⟩ (wC10_another H.size y0 S Q1 h) (va_cwO (C := RX10) (owner := RX6) 0 hts (lw_O q1101 q935 q933 q946 q947 q95 q948) rfl rfl rfl q961 (by decide +kernel) ⟨Nat.le_trans (Nat.le_of_ble_eq_true rfl) hR.1, Nat.le_trans (Nat.le_of_ble_eq_true rfl) hR.2⟩) ⟨PC_blind, p_recv_X10 F G hy, c_pre F G⟩ rfl rfl hsz rfl (lv_room hW) hd hc) k
  · exact c_callr F G (va_runU (As := []) (rest := rest) ⟨hx, hb, hml, hown, hts⟩ (wC11_another H.size y0 S Q1 h) (va_cwO (C := RX11) (owner := RX6) 0 hts (lw_O q1101 q935 q933 q936 q937 q96 q938) rfl rfl rfl q961 (by decide +kernel) ⟨Nat.le_trans (Nat.le_of_ble_eq_true rfl) hR.1, Nat.le_trans (Nat.le_of_ble_eq_true rfl) hR.2⟩) ⟨PC_blind, p_recv_X11 F G hy, c_pre F G⟩ rfl rfl hsz rfl (lv_room hW) hd hc) k
set_option maxHeartbeats 4000000 in
set_option maxRecDepth 100000 in
theorem kvX6_takes {p : Program} {l : Launch} {e : Env} {s : State} {m : MethodId} {R : Room} {args : Array Value} {below : List Frame} {meth : Method} {c : Code} {D : va_G} {a : Nat → Nat} {d : Nat → ClassId} {A : Nat → Prop} {Q : State → Prop} {cc : ByteArray} {nL pc cells slots κ : Nat} {fs0 : List Value} {ret : Option FieldType} {ls : Array Slot} {rest : List Value} {y0 : Nat} {y1 : Nat} {S : CS} {H : Heap} {locs : List Loc} {Q1 : CS → Prop} (F : FC p s m meth c args D a d A RX6 cc nL ret) (G : GC D a d A s.heap S H locs) (hκ : κ < 6) (hy : has S y0 (.inr (6 + κ, fs0))) (hsz : ls.size = nL) (hR : 0 + 1 ≤ R.frames ∧ 21 ≤ R.locals) (hc : cells + 0 ≤ R.cells ∧ slots + 0 ≤ R.slots) (hW : (rest.map fun v => v.category).sum ≤ 8) (hd : decode cc pc = .ok (.invokevirtual 31, 3)) (h : CV_takes κ y0 y1 S Q1) (k : ∀ (S1 : CS) (H : Heap) (locs : List Loc), GC D a d A s.heap S1 H locs → Q1 S1 → W p l e R s m args below meth c H locs cells slots Q (F0 m (pc + 3) ls rest)) : W p l e R s m args below meth c H locs cells slots Q (F0 m pc ls (.ref y1 :: .ref y0 :: rest)) := by
  obtain ⟨hx, hb, hr, hml, hown, hts, hlocks, hA, hK, hN⟩ := id F
  obtain rfl | rfl | rfl | rfl | rfl | rfl : κ = 0 ∨ κ = 1 ∨ κ = 2 ∨ κ = 3 ∨ κ = 4 ∨ κ = 5 := by omega
  · exact c_callv F G (va_runU (As := [.ref y1]) (rest := rest) ⟨hx, hb, hml, hown, hts⟩ (wC6_takes H.size y0 y1 S Q1 h) (va_cwO (C := RX6) (owner := RX6) 1 hts (lw_O q1102 q793 q791 q792 q791 q91 q799) rfl rfl rfl q799 (by decide +kernel) ⟨Nat.le_trans (Nat.le_of_ble_eq_true rfl) hR.1, Nat.le_trans (Nat.le_of_ble_eq_true rfl) hR.2⟩) ⟨PC_blind, p_recv_X6 F G hy, c_pre F G⟩ rfl rfl hsz rfl (lv_room hW) hd hc) k
  · exact c_callv F G (va_runU (As := [.ref y1]) (rest := rest) ⟨hx, hb, hml, hown, hts⟩ (wC6_takes H.size y0 y1 S Q1 h) (va_cwO (C := RX7) (owner := RX6) 1 hts (lw_O q1102 q793 q791 q795 q791 q91 q799) rfl rfl rfl q799 (by decide +kernel) ⟨Nat.le_trans (Nat.le_of_ble_eq_true rfl) hR.1, Nat.le_trans (Nat.le_of_ble_eq_true rfl) hR.2⟩) ⟨PC_blind, p_recv_X7 F G hy, c_pre F G⟩ rfl rfl hsz rfl (lv_room hW) hd hc) k
  · exact c_callv F G (va_runU (As := [.ref y1]) (rest := rest) ⟨hx, hb, hml, hown, hts⟩ (wC6_takes H.size y0 y1 S Q1 h) (va_cwO (C := RX8) (owner := RX6) 1 hts (lw_O q1102 q793 q791 q798 q791 q91 q799) rfl rfl rfl q799 (by decide +kernel) ⟨Nat.le_trans (Nat.le_of_ble_eq_true rfl) hR.1, Nat.le_trans (Nat.le_of_ble_eq_true rfl) hR.2⟩) ⟨PC_blind, p_recv_X8 F G hy, c_pre F G⟩ rfl rfl hsz rfl (lv_room hW) hd hc) k
  · exact c_callv F G (va_runU (As := [.ref y1]) (rest := rest) ⟨hx, hb, hml, hown, hts⟩ (wC6_takes H.size y0 y1 S Q1 h) (va_cwO (C := RX9) (owner := RX6) 1 hts (lw_O q1102 q793 q791 q797 q791 q91 q799) rfl rfl rfl q799 (by decide +kernel) ⟨Nat.le_trans (Nat.le_of_ble_eq_true rfl) hR.1, Nat.le_trans (Nat.le_of_ble_eq_true rfl) hR.2⟩) ⟨PC_blind, p_recv_X9 F G hy, c_pre F G⟩ rfl rfl hsz rfl (lv_room hW) hd hc) k
  · exact c_callv F G (va_runU (As := [.ref y1]) (rest := rest) ⟨hx, hb, hml, hown, hts⟩ (wC6_takes H.size y0 y1 S Q1 h) (va_cwO (C := RX10) (owner := RX6) 1 hts (lw_O q1102 q793 q791 q796 q791 q91 q799) rfl rfl rfl q799 (by decide +kernel) ⟨Nat.le_trans (Nat.le_of_ble_eq_true rfl) hR.1, Nat.le_trans (Nat.le_of_ble_eq_true rfl) hR.2⟩) ⟨PC_blind, p_recv_X10 F G hy, c_pre F G⟩ rfl rfl hsz rfl (lv_room hW) hd hc) k
  · exact c_callv F G (va_runU (As := [.ref y1]) (rest := rest) ⟨hx, hb, hml, hown, hts⟩ (wC6_takes H.size y0 y1 S Q1 h) (va_cwO (C := RX11) (owner := RX6) 1 hts (lw_O q1102 q793 q791 q794 q791 q91 q799) rfl rfl rfl q799 (by decide +kernel) ⟨Nat.le_trans (Nat.le_of_ble_eq_true rfl) hR.1, Nat.le_trans (Nat.le_of_ble_eq_true rfl) hR.2⟩) ⟨PC_blind, p_recv_X11 F G hy, c_pre F G⟩ rfl rfl hsz rfl (lv_room hW) hd hc) k
/-! StrokesHeard$Ringer.copy -/
def C6_copy (y0 : Nat) (S : CS) (Q : Nat → CS → Prop) : Prop := ∃ (κ_3 : Nat) (fs_4 : List Value), κ_3 < 6 ∧ has S y0 (.inr (6 + κ_3, fs_4)) ∧ CV_another κ_3 y0 S (fun y_1 S_2 => ∃ (κ_9 : Nat) (fs_10 : List Value), κ_9 < 6 ∧ has S_2 y_1 (.inr (6 + κ_9, fs_10)) ∧ CV_takes κ_9 y_1 y0 S_2 (fun S_8 => Q y_1 S_8))
abbrev rmX6_copy : Room := { frames := 5, cells := 1, slots := 2, locals := 100 }
set_option maxHeartbeats 4000000 in
set_option maxRecDepth 100000 in
theorem wC6_copy {l : Launch} {D : va_G} {a : Nat → Nat} {d : Nat → ClassId} (sz : Nat) (y0 : Nat) (S : CS) (Q : Nat → CS → Prop) (h : C6_copy y0 S Q) : CMr l D a d yX6_copy cX6_copy 2 (.object "StrokesHeard$Ringer") rmX6_copy 1 2 [.ref y0] sz S Q := by
  refine c_enter (Qc := fun A => QRy Q (BC D a d A) A) RX6 (by decide +kernel) rfl (Nat.le_of_ble_eq_true rfl) ?_
  intro p e s m below meth c ls A hmn F hG hl
  have G := hG
  have hl : lv_has ls 2 [(0, .ref y0)] := hl
  obtain ⟨hx, hb, hr, hml, hown, hts, hlocks, hA, hK, hN⟩ := id F
  unfold C6_copy at h
  refine lv_aload_n hx hb dX6_copy_0 rfl (lv_at hl 0 rfl) ?_
  obtain ⟨κ_3, fs_4, q_5, z_6, h⟩ := h
  refine kvX6_another F G q_5 z_6 hl.1 ⟨(Nat.le_of_ble_eq_true rfl), (Nat.le_of_ble_eq_true rfl)⟩ ⟨(Nat.le_of_ble_eq_true rfl), (Nat.le_of_ble_eq_true rfl)⟩ (Nat.le_of_ble_eq_true rfl) dX6_copy_1 h (fun y_1 S_2 H locs G h => ?_)
  refine lv_astore_n (lv' := [(1, .ref y_1), (0, .ref y0)]) hx hb dX6_copy_4 rfl hl (by decide) rfl (fun ls hl => ?_)
  refine lv_aload_n hx hb dX6_copy_5 rfl (lv_at hl 0 rfl) ?_
  refine lv_aload_n hx hb dX6_copy_6 rfl (lv_at hl 1 rfl) ?_
  obtain ⟨κ_9, fs_10, q_11, z_12, h⟩ := h
  refine kvX6_takes F G q_11 z_12 hl.1 ⟨(Nat.le_of_ble_eq_true rfl), (Nat.le_of_ble_eq_true rfl)⟩ ⟨(Nat.le_of_ble_eq_true rfl), (Nat.le_of_ble_eq_true rfl)⟩ (Nat.le_of_ble_eq_true rfl) dX6_copy_7 h (fun S_8 H locs G h => ?_)
  refine lv_aload_n hx hb dX6_copy_10 rfl (lv_at hl 0 rfl) ?_
  exact c_aret F G dX6_copy_11 h
def CV_copy (κ : Nat) (y0 : Nat) (S : CS) (Q : Nat → CS → Prop) : Prop := match κ with
  | 0 => C6_copy y0 S Q
  | 1 => C6_copy y0 S Q
  | 2 => C6_copy y0 S Q
  | 3 => C6_copy y0 S Q
  | 4 => C6_copy y0 S Q
  | _ => C6_copy y0 S Q
set_option maxHeartbeats 4000000 in
set_option maxRecDepth 100000 in
theorem kvX0_copy {p : Program} {l : Launch} {e : Env} {s : State} {m : MethodId} {R : Room} {args : Array Value} {below : List Frame} {meth : Method} {c : Code} {D : va_G} {a : Nat → Nat} {d : Nat → ClassId} {A : Nat → Prop} {Q : State → Prop} {cc : ByteArray} {nL pc cells slots κ : Nat} {fs0 : List Value} {ret : Option FieldType} {ls : Array Slot} {rest : List Value} {y0 : Nat} {S : CS} {H : Heap} {locs : List Loc} {Q1 : Nat → CS → Prop} (F : FC p s m meth c args D a d A RX0 cc nL ret) (G : GC D a d A s.heap S H locs) (hκ : κ < 6) (hy : has S y0 (.inr (6 + κ, fs0))) (hsz : ls.size = nL) (hR : 5 + 1 ≤ R.frames ∧ 121 ≤ R.locals) (hc : cells + 1 ≤ R.cells ∧ slots + 2 ≤ R.slots) (hW : (rest.map fun v => v.category).sum ≤ 8) (hd : decode cc pc = .ok (.invokevirtual 479, 3)) (h : CV_copy κ y0 S Q1) (k : ∀ (r : Nat) (S1 : CS) (H : Heap) (locs : List Loc), GC D a d A s.heap S1 H locs → Q1 r S1 → W p l e R s m args below meth c H locs (cells + 1) (slots + 2) Q (F0 m (pc + 3) ls (.ref r :: rest))) : W p l e R s m args below meth c H locs cells slots Q (F0 m pc ls (.ref y0 :: rest)) := by
  obtain ⟨hx, hb, hr, hml, hown, hts, hlocks, hA, hK, hN⟩ := id F
  obtain rfl | rfl | rfl | rfl | rfl | rfl : κ = 0 ∨ κ = 1 ∨ κ = 2 ∨ κ = 3 ∨ κ = 4 ∨ κ = 5 := by omega
  · exact c_callr F G (va_runU (As := []) (rest := rest) ⟨hx, hb, hml, hown, hts⟩ (wC6_copy H.size y0 S Q1 h) (va_cwO (C := RX6) (owner := RX6) 0 hts (lw_O q1091 q1094 q1092 q1093 q1092 q91 q1100) rfl rfl rfl q1100 (by decide +kernel) ⟨Nat.le_trans (Nat.le_of_ble_eq_true rfl) hR.1, Nat.le_trans (Nat.le_of_ble_eq_true rfl) hR.2⟩) ⟨PC_blind, p_recv_X6 F G hy, c_pre F G⟩ rfl rfl hsz rfl (lv_room hW) hd hc) k
  · exact c_callr F G (va_runU (As := []) (rest := rest) ⟨hx, hb, hml, hown, hts⟩ (wC6_copy H.size y0 S Q1 h) (va_cwO (C := RX7) (owner := RX6) 0 hts (lw_O q1091 q1094 q1092 q1096 q1092 q91 q1100) rfl rfl rfl q1100 (by decide +kernel) ⟨Nat.le_trans (Nat.le_of_ble_eq_true rfl) hR.1, Nat.le_trans (Nat.le_of_ble_eq_true rfl) hR.2⟩) ⟨PC_blind, p_recv_X7 F G hy, c_pre F G⟩ rfl rfl hsz rfl (lv_room hW) hd hc) k
  · exact c_callr F G (va_runU (As := []) (rest := rest) ⟨hx, hb, hml, hown, hts⟩ (wC6_copy H.size y0 S Q1 h) (va_cwO (C := RX8) (owner := RX6) 0 hts (lw_O q1091 q1094 q1092 q1099 q1092 q91 q1100) rfl rfl rfl q1100 (by decide +kernel) ⟨Nat.le_trans (Nat.le_of_ble_eq_true rfl) hR.1, Nat.le_trans (Nat.le_of_ble_eq_true rfl) hR.2⟩) ⟨PC_blind, p_recv_X8 F G hy, c_pre F G⟩ rfl rfl hsz rfl (lv_room hW) hd hc) k
  · exact c_callr F G (va_runU (As := []) (rest := rest) ⟨hx, hb, hml, hown, hts⟩ (wC6_copy H.size y0 S Q1 h) (va_cwO (C := RX9) (owner := RX6) 0 hts (lw_O q1091 q1094 q1092 q1098 q1092 q91 q1100) rfl rfl rfl q1100 (by decide +kernel) ⟨Nat.le_trans (Nat.le_of_ble_eq_true rfl) hR.1, Nat.le_trans (Nat.le_of_ble_eq_true rfl) hR.2⟩) ⟨PC_blind, p_recv_X9 F G hy, c_pre F G⟩ rfl rfl hsz rfl (lv_room hW) hd hc) k
  · exact c_callr F G (va_runU (As := []) (rest := rest) ⟨hx, hb, hml, hown, hts⟩ (wC6_copy H.size y0 S Q1 h) (va_cwO (C := RX10) (owner := RX6) 0 hts (lw_O q1091 q1094 q1092 q1097 q1092 q91 q1100) rfl rfl rfl q1100 (by decide +kernel) ⟨Nat.le_trans (Nat.le_of_ble_eq_true rfl) hR.1, Nat.le_trans (Nat.le_of_ble_eq_true rfl) hR.2⟩) ⟨PC_blind, p_recv_X10 F G hy, c_pre F G⟩ rfl rfl hsz rfl (lv_room hW) hd hc) k
  · exact c_callr F G (va_runU (As := []) (rest := rest) ⟨hx, hb, hml, hown, hts⟩ (wC6_copy H.size y0 S Q1 h) (va_cwO (C := RX11) (owner := RX6) 0 hts (lw_O q1091 q1094 q1092 q1095 q1092 q91 q1100) rfl rfl rfl q1100 (by decide +kernel) ⟨Nat.le_trans (Nat.le_of_ble_eq_true rfl) hR.1, Nat.le_trans (Nat.le_of_ble_eq_true rfl) hR.2⟩) ⟨PC_blind, p_recv_X11 F G hy, c_pre F G⟩ rfl rfl hsz rfl (lv_room hW) hd hc) k
/-! StrokesHeard.lay -/
def C0_lay_p136 (Q : Int32 → CS → Prop)  (v4 : Int32) (t0 : Option Nat) (t1 : Nat) (S : CS) : Prop := ∃ (fs_50 : List Value), has S t1 (.inr (4, fs_50)) ∧ 0 < fs_50.length ∧ (Q v4 (cP S t1 (.inr (4, fs_50.set 0 (va_rf t0)))))
def C0_lay_p65 (Q : Int32 → CS → Prop)  (v1 : Int32) (v2 : Int32) (v3 : Int32) (S : CS) : Prop := vp_in v1 5 ∧ (∃ y_24 : Nat, (S.2.1 26 v1.toNatClampNeg) = some y_24 ∧ (∃ fs_27 : List Value, has S y_24 (.inr (4, fs_27)) ∧ (C4_thing y_24 S (fun r_25 S_26 => vp_in v1 5 ∧ (∃ y_30 : Nat, (S_26.2.1 26 v1.toNatClampNeg) = some y_30 ∧ ((¬ v2 = 0 → (¬ v2 = 1 → (¬ v2 = 2 → ∀ y_34 : Nat, y_34 ∉ S_26.2.2.1 → C14_init y_34 v3 (cN S_26 y_34 (.inr (14, [.int 0]))) (fun S_37 => C0_lay_p136 Q r_25 (some y_34) y_30 S_37)) ∧ (v2 = 2 → vp_in v3 4 ∧ (∃ y_39 : Nat, (S_26.2.1 25 v3.toNatClampNeg) = some y_39 ∧ (C0_own y_39 S_26 (fun y_40 S_41 => C0_lay_p136 Q r_25 (some y_40) y_30 S_41))))) ∧ (v2 = 1 → vp_in v3 6 ∧ (∃ y_43 : Nat, (S_26.2.1 5 v3.toNatClampNeg) = some y_43 ∧ (∃ (κ_46 : Nat) (fs_47 : List Value), κ_46 < 6 ∧ has S_26 y_43 (.inr (6 + κ_46, fs_47)) ∧ CV_copy κ_46 y_43 S_26 (fun y_44 S_45 => C0_lay_p136 Q r_25 (some y_44) y_30 S_45))))) ∧ (v2 = 0 → C0_lay_p136 Q r_25 none y_30 S_26)))))))
def C0_lay_p44 (Q : Int32 → CS → Prop)  (v1 : Int32) (v2 : Int32) (v3 : Int32) (S : CS) : Prop := (¬ v2 = 2 → C0_lay_p65 Q v1 v2 v3 S) ∧ (v2 = 2 → vp_in v3 4 ∧ (∃ y_17 : Nat, (S.2.1 25 v3.toNatClampNeg) = some y_17 ∧ (∃ fs_20 : List Value, has S y_17 (.inr (3, fs_20)) ∧ (C3_isThere y_17 S (fun r_18 S_19 => (¬ r_18 = 0 → C0_lay_p65 Q v1 v2 v3 S_19) ∧ (r_18 = 0 → Q (-1000000011) S_19))))))
def C0_lay_p29 (Q : Int32 → CS → Prop)  (v1 : Int32) (v2 : Int32) (v3 : Int32) (S : CS) : Prop := (¬ v2 = 2 → C0_lay_p44 Q v1 v2 v3 S) ∧ (v2 = 2 → C0_isSheet v3 S (fun r_12 S_13 => (¬ r_12 = 0 → C0_lay_p44 Q v1 v2 v3 S_13) ∧ (r_12 = 0 → Q (-1000000001) S_13)))
def C0_lay (v1 : Int32) (v2 : Int32) (v3 : Int32) (S : CS) (Q : Int32 → CS → Prop) : Prop := C0_isSlot v1 S (fun r_1 S_2 => (r_1 = 0 → Q (-1000000001) S_2) ∧ (¬ r_1 = 0 → C0_isIn v2 0 3 S_2 (fun r_4 S_5 => (r_4 = 0 → Q (-1000000001) S_5) ∧ (¬ r_4 = 0 → (¬ v2 = 1 → C0_lay_p29 Q v1 v2 v3 S_5) ∧ (v2 = 1 → C0_isClock v3 S_5 (fun r_8 S_9 => (r_8 = 0 → Q (-1000000001) S_9) ∧ (¬ r_8 = 0 → C0_lay_p29 Q v1 v2 v3 S_9)))))))
abbrev rmX0_lay : Room := { frames := 6, cells := 2, slots := 25, locals := 121 }
set_option maxHeartbeats 4000000 in
set_option maxRecDepth 100000 in
theorem wC0_lay_p136 {p : Program} {l : Launch} {e : Env} {s : State} {m : MethodId} {args : Array Value} {below : List Frame} {meth : Method} {c : Code} {D : va_G} {a : Nat → Nat} {d : Nat → ClassId} {A : Nat → Prop} {Q : Int32 → CS → Prop}  (F : FC p s m meth c args D a d A RX0 cX0_lay 5 (some .int)) (v4 : Int32) (t0 : Option Nat) (t1 : Nat) (S : CS)  {H : Heap} {locs : List Loc} {ls : Array Slot} (G : GC D a d A s.heap S H locs) (hl : lv_has ls 5 [(4, .int v4)]) (h : C0_lay_p136 Q v4 t0 t1 S) : wCi p l e rmX0_lay s m args below meth c D a d A Q 2 25 H locs 2 25 (F0 m 136 ls [va_rf t0, .ref t1]) := by
  obtain ⟨hx, hb, hr, hml, hown, hts, hlocks, hA, hK, hN⟩ := id F
  unfold C0_lay_p136 at h
  obtain ⟨fs_50, z_51, u_52, h⟩ := h
  refine ppX0_X4_held F G z_51 (fit_rf _).1 (fit_rf _).2 u_52 dX0_lay_136 (fun H locs G => ?_)
  refine lv_iload hx hb dX0_lay_139 (lv_at hl 0 rfl) ?_
  exact c_iret F G dX0_lay_141 h
set_option maxHeartbeats 4000000 in
set_option maxRecDepth 100000 in
theorem wC0_lay_p65 {p : Program} {l : Launch} {e : Env} {s : State} {m : MethodId} {args : Array Value} {below : List Frame} {meth : Method} {c : Code} {D : va_G} {a : Nat → Nat} {d : Nat → ClassId} {A : Nat → Prop} {Q : Int32 → CS → Prop}  (F : FC p s m meth c args D a d A RX0 cX0_lay 5 (some .int)) (v1 : Int32) (v2 : Int32) (v3 : Int32) (S : CS)  {H : Heap} {locs : List Loc} {ls : Array Slot} (G : GC D a d A s.heap S H locs) (hl : lv_has ls 5 [(0, .ref (a 0)), (1, .int v1), (2, .int v2), (3, .int v3)]) (h : C0_lay_p65 Q v1 v2 v3 S) : wCi p l e rmX0_lay s m args below meth c D a d A Q 2 25 H locs 0 0 (F0 m 65 ls []) := by
  obtain ⟨hx, hb, hr, hml, hown, hts, hlocks, hA, hK, hN⟩ := id F
  unfold C0_lay_p65 at h
  refine lv_aload_n hx hb dX0_lay_65 rfl (lv_at hl 0 rfl) ?_
  refine cgX0_0_slots F G dX0_lay_66 ?_
  refine lv_iload_n hx hb dX0_lay_69 rfl (lv_at hl 1 rfl) ?_
  obtain ⟨b_23, h⟩ := h
  refine c_aaload F G cR_26 rfl b_23 dX0_lay_70 ?_
  obtain ⟨y_24, hy_24, h⟩ := h
  refine c_nn hy_24 ?_
  obtain ⟨fs_27, z_28, h⟩ := h
  refine kX0_C4_thing F G z_28 hl.1 ⟨(Nat.le_of_ble_eq_true rfl), (Nat.le_of_ble_eq_true rfl)⟩ ⟨(Nat.le_of_ble_eq_true rfl), (Nat.le_of_ble_eq_true rfl)⟩ (Nat.le_of_ble_eq_true rfl) dX0_lay_71 h (fun r_25 S_26 H locs G h => ?_)
  refine lv_istore (lv' := [(4, .int r_25), (0, .ref (a 0)), (1, .int v1), (2, .int v2), (3, .int v3)]) hx hb dX0_lay_74 hl (by decide) rfl (fun ls hl => ?_)
  refine lv_aload_n hx hb dX0_lay_76 rfl (lv_at hl 1 rfl) ?_
  refine cgX0_0_slots F G dX0_lay_77 ?_
  refine lv_iload_n hx hb dX0_lay_80 rfl (lv_at hl 2 rfl) ?_
  obtain ⟨b_29, h⟩ := h
  refine c_aaload F G cR_26 rfl b_29 dX0_lay_81 ?_
  obtain ⟨y_30, hy_30, h⟩ := h
  refine c_nn hy_30 ?_
  refine lv_iload_n hx hb dX0_lay_82 rfl (lv_at hl 3 rfl) ?_
  refine lv_if_ne (tgt := 90) hx hb dX0_lay_83 (by decide) (fun c_31 => ?_) (fun c_31 => ?_)
  · replace h := h.1 c_31
    refine lv_iload_n hx hb dX0_lay_90 rfl (lv_at hl 3 rfl) ?_
    refine lv_iconst (v := 1) hx hb dX0_lay_91 (by decide) ?_
    refine lv_icmp_ne (tgt := 110) hx hb dX0_lay_92 (by decide) (fun c_32 => ?_) (fun c_32 => ?_)
    · replace h := h.1 c_32
      refine lv_iload_n hx hb dX0_lay_110 rfl (lv_at hl 3 rfl) ?_
      refine lv_iconst (v := 2) hx hb dX0_lay_111 (by decide) ?_
      refine lv_icmp_ne (tgt := 128) hx hb dX0_lay_112 (by decide) (fun c_33 => ?_) (fun c_33 => ?_)
      · replace h := h.1 c_33
        refine pnX0_X14 F G ⟨(Nat.le_of_ble_eq_true rfl), (Nat.le_of_ble_eq_true rfl)⟩ dX0_lay_128 (fun y_34 H q_35 G => ?_)
        replace h := h y_34 q_35
        refine lv_dup hx hb dX0_lay_131 rfl ?_
        refine lv_iload_n hx hb dX0_lay_132 rfl (lv_at hl 4 rfl) ?_
        refine kX0_C14_init F G hl.1 ⟨(Nat.le_of_ble_eq_true rfl), (Nat.le_of_ble_eq_true rfl)⟩ ⟨(Nat.le_of_ble_eq_true rfl), (Nat.le_of_ble_eq_true rfl)⟩ (Nat.le_of_ble_eq_true rfl) dX0_lay_133 h (fun S_37 H locs G h => ?_)
        refine W.widen (k := 2) (n := 25) (by decide) (by decide) ?_
        exact wC0_lay_p136 F r_25 (some y_34) y_30 S_37  G (lv_sub hl [0] rfl) h
      · replace h := h.2 c_33
        refine lv_aload_n hx hb dX0_lay_115 rfl (lv_at hl 1 rfl) ?_
        refine lv_aload_n hx hb dX0_lay_116 rfl (lv_at hl 1 rfl) ?_
        refine cgX0_0_sheets F G dX0_lay_117 ?_
        refine lv_iload_n hx hb dX0_lay_120 rfl (lv_at hl 4 rfl) ?_
        obtain ⟨b_38, h⟩ := h
        refine c_aaload F G cR_25 rfl b_38 dX0_lay_121 ?_
        obtain ⟨y_39, hy_39, h⟩ := h
        refine c_nn hy_39 ?_
        refine kX0_C0_own F G hl.1 ⟨(Nat.le_of_ble_eq_true rfl), (Nat.le_of_ble_eq_true rfl)⟩ ⟨(Nat.le_of_ble_eq_true rfl), (Nat.le_of_ble_eq_true rfl)⟩ (Nat.le_of_ble_eq_true rfl) dX0_lay_122 h (fun y_40 S_41 H locs G h => ?_)
        refine lv_goto (tgt := 136) hx hb dX0_lay_125 (by decide) ?_
        exact wC0_lay_p136 F r_25 (some y_40) y_30 S_41  G (lv_sub hl [0] rfl) h
    · replace h := h.2 c_32
      refine lv_aload_n hx hb dX0_lay_95 rfl (lv_at hl 1 rfl) ?_
      refine cgX0_0_now F G dX0_lay_96 ?_
      refine cgX0_1_clock F G dX0_lay_99 ?_
      refine lv_iload_n hx hb dX0_lay_102 rfl (lv_at hl 4 rfl) ?_
      obtain ⟨b_42, h⟩ := h
      refine c_aaload F G cR_5 rfl b_42 dX0_lay_103 ?_
      obtain ⟨y_43, hy_43, h⟩ := h
      refine c_nn hy_43 ?_
      obtain ⟨κ_46, fs_47, q_48, z_49, h⟩ := h
      refine kvX0_copy F G q_48 z_49 hl.1 ⟨(Nat.le_of_ble_eq_true rfl), (Nat.le_of_ble_eq_true rfl)⟩ ⟨(Nat.le_of_ble_eq_true rfl), (Nat.le_of_ble_eq_true rfl)⟩ (Nat.le_of_ble_eq_true rfl) dX0_lay_104 h (fun y_44 S_45 H locs G h => ?_)
      refine lv_goto (tgt := 136) hx hb dX0_lay_107 (by decide) ?_
      refine W.widen (k := 2) (n := 25) (by decide) (by decide) ?_
      exact wC0_lay_p136 F r_25 (some y_44) y_30 S_45  G (lv_sub hl [0] rfl) h
  · replace h := h.2 c_31
    refine lv_null hx hb dX0_lay_86 ?_
    refine lv_goto (tgt := 136) hx hb dX0_lay_87 (by decide) ?_
    refine W.widen (k := 2) (n := 25) (by decide) (by decide) ?_
    exact wC0_lay_p136 F r_25 none y_30 S_26  G (lv_sub hl [0] rfl) h
set_option maxHeartbeats 4000000 in
set_option maxRecDepth 100000 in
theorem wC0_lay_p44 {p : Program} {l : Launch} {e : Env} {s : State} {m : MethodId} {args : Array Value} {below : List Frame} {meth : Method} {c : Code} {D : va_G} {a : Nat → Nat} {d : Nat → ClassId} {A : Nat → Prop} {Q : Int32 → CS → Prop}  (F : FC p s m meth c args D a d A RX0 cX0_lay 5 (some .int)) (v1 : Int32) (v2 : Int32) (v3 : Int32) (S : CS)  {H : Heap} {locs : List Loc} {ls : Array Slot} (G : GC D a d A s.heap S H locs) (hl : lv_has ls 5 [(0, .ref (a 0)), (1, .int v1), (2, .int v2), (3, .int v3)]) (h : C0_lay_p44 Q v1 v2 v3 S) : wCi p l e rmX0_lay s m args below meth c D a d A Q 2 25 H locs 0 0 (F0 m 44 ls []) := by
  obtain ⟨hx, hb, hr, hml, hown, hts, hlocks, hA, hK, hN⟩ := id F
  unfold C0_lay_p44 at h
  refine lv_iload_n hx hb dX0_lay_44 rfl (lv_at hl 2 rfl) ?_
  refine lv_iconst (v := 2) hx hb dX0_lay_45 (by decide) ?_
  refine lv_icmp_ne (tgt := 65) hx hb dX0_lay_46 (by decide) (fun c_15 => ?_) (fun c_15 => ?_)
  · replace h := h.1 c_15
    exact wC0_lay_p65 F v1 v2 v3 S  G (lv_sub hl [0, 1, 2, 3] rfl) h
  · replace h := h.2 c_15
    refine lv_aload_n hx hb dX0_lay_49 rfl (lv_at hl 0 rfl) ?_
    refine cgX0_0_sheets F G dX0_lay_50 ?_
    refine lv_iload_n hx hb dX0_lay_53 rfl (lv_at hl 3 rfl) ?_
    obtain ⟨b_16, h⟩ := h
    refine c_aaload F G cR_25 rfl b_16 dX0_lay_54 ?_
    obtain ⟨y_17, hy_17, h⟩ := h
    refine c_nn hy_17 ?_
    obtain ⟨fs_20, z_21, h⟩ := h
    refine kX0_C3_isThere F G z_21 hl.1 ⟨(Nat.le_of_ble_eq_true rfl), (Nat.le_of_ble_eq_true rfl)⟩ ⟨(Nat.le_of_ble_eq_true rfl), (Nat.le_of_ble_eq_true rfl)⟩ (Nat.le_of_ble_eq_true rfl) dX0_lay_55 h (fun r_18 S_19 H locs G h => ?_)
    refine lv_if_ne (tgt := 65) hx hb dX0_lay_58 (by decide) (fun c_22 => ?_) (fun c_22 => ?_)
    · replace h := h.1 c_22
      exact wC0_lay_p65 F v1 v2 v3 S_19  G (lv_sub hl [0, 1, 2, 3] rfl) h
    · replace h := h.2 c_22
      refine lv_ldcw hx hb hown (hts _ q1019) dX0_lay_61 ?_
      refine W.widen (k := 2) (n := 25) (by decide) (by decide) ?_
      exact c_iret F G dX0_lay_64 h
set_option maxHeartbeats 4000000 in
set_option maxRecDepth 100000 in
theorem wC0_lay_p29 {p : Program} {l : Launch} {e : Env} {s : State} {m : MethodId} {args : Array Value} {below : List Frame} {meth : Method} {c : Code} {D : va_G} {a : Nat → Nat} {d : Nat → ClassId} {A : Nat → Prop} {Q : Int32 → CS → Prop}  (F : FC p s m meth c args D a d A RX0 cX0_lay 5 (some .int)) (v1 : Int32) (v2 : Int32) (v3 : Int32) (S : CS)  {H : Heap} {locs : List Loc} {ls : Array Slot} (G : GC D a d A s.heap S H locs) (hl : lv_has ls 5 [(0, .ref (a 0)), (1, .int v1), (2, .int v2), (3, .int v3)]) (h : C0_lay_p29 Q v1 v2 v3 S) : wCi p l e rmX0_lay s m args below meth c D a d A Q 2 25 H locs 0 0 (F0 m 29 ls []) := by
  obtain ⟨hx, hb, hr, hml, hown, hts, hlocks, hA, hK, hN⟩ := id F
  unfold C0_lay_p29 at h
  refine lv_iload_n hx hb dX0_lay_29 rfl (lv_at hl 2 rfl) ?_
  refine lv_iconst (v := 2) hx hb dX0_lay_30 (by decide) ?_
  refine lv_icmp_ne (tgt := 44) hx hb dX0_lay_31 (by decide) (fun c_11 => ?_) (fun c_11 => ?_)
  · replace h := h.1 c_11
    exact wC0_lay_p44 F v1 v2 v3 S  G (lv_sub hl [0, 1, 2, 3] rfl) h
  · replace h := h.2 c_11
    refine lv_iload_n hx hb dX0_lay_34 rfl (lv_at hl 3 rfl) ?_
    refine kX0_C0_isSheet F G hl.1 ⟨(Nat.le_of_ble_eq_true rfl), (Nat.le_of_ble_eq_true rfl)⟩ ⟨(Nat.le_of_ble_eq_true rfl), (Nat.le_of_ble_eq_true rfl)⟩ (Nat.le_of_ble_eq_true rfl) dX0_lay_35 h (fun r_12 S_13 H locs G h => ?_)
    refine lv_if_ne (tgt := 44) hx hb dX0_lay_38 (by decide) (fun c_14 => ?_) (fun c_14 => ?_)
    · replace h := h.1 c_14
      exact wC0_lay_p44 F v1 v2 v3 S_13  G (lv_sub hl [0, 1, 2, 3] rfl) h
    · replace h := h.2 c_14
      refine lv_ldc hx hb hown (hts _ q368) dX0_lay_41 ?_
      refine W.widen (k := 2) (n := 25) (by decide) (by decide) ?_
      exact c_iret F G dX0_lay_43 h
set_option maxHeartbeats 4000000 in
set_option maxRecDepth 100000 in
theorem wC0_lay {l : Launch} {D : va_G} {a : Nat → Nat} {d : Nat → ClassId} (sz : Nat) (v1 : Int32) (v2 : Int32) (v3 : Int32) (S : CS) (Q : Int32 → CS → Prop) (h : C0_lay v1 v2 v3 S Q) : CMi l D a d yX0_lay cX0_lay 5 .int rmX0_lay 2 25 [.ref (a 0), .int v1, .int v2, .int v3] sz S Q := by
  refine c_enter (Qc := fun A => va_Qi Q (BC D a d A) A) RX0 (by decide +kernel) rfl (Nat.le_of_ble_eq_true rfl) ?_
  intro p e s m below meth c ls A hmn F hG hl
  have G := hG
  have hl : lv_has ls 5 [(0, .ref (a 0)), (1, .int v1), (2, .int v2), (3, .int v3)] := hl
  obtain ⟨hx, hb, hr, hml, hown, hts, hlocks, hA, hK, hN⟩ := id F
  unfold C0_lay at h
  refine lv_iload_n hx hb dX0_lay_0 rfl (lv_at hl 1 rfl) ?_
  refine kX0_C0_isSlot F G hl.1 ⟨(Nat.le_of_ble_eq_true rfl), (Nat.le_of_ble_eq_true rfl)⟩ ⟨(Nat.le_of_ble_eq_true rfl), (Nat.le_of_ble_eq_true rfl)⟩ (Nat.le_of_ble_eq_true rfl) dX0_lay_1 h (fun r_1 S_2 H locs G h => ?_)
  refine lv_if_eq (tgt := 41) hx hb dX0_lay_4 (by decide) (fun c_3 => ?_) (fun c_3 => ?_)
  · replace h := h.1 c_3
    refine lv_ldc hx hb hown (hts _ q368) dX0_lay_41 ?_
    refine W.widen (k := 2) (n := 25) (by decide) (by decide) ?_
    exact c_iret F G dX0_lay_43 h
  · replace h := h.2 c_3
    refine lv_iload_n hx hb dX0_lay_7 rfl (lv_at hl 2 rfl) ?_
    refine lv_iconst (v := 0) hx hb dX0_lay_8 (by decide) ?_
    refine lv_iconst (v := 3) hx hb dX0_lay_9 (by decide) ?_
    refine kX0_C0_isIn F G hl.1 ⟨(Nat.le_of_ble_eq_true rfl), (Nat.le_of_ble_eq_true rfl)⟩ ⟨(Nat.le_of_ble_eq_true rfl), (Nat.le_of_ble_eq_true rfl)⟩ (Nat.le_of_ble_eq_true rfl) dX0_lay_10 h (fun r_4 S_5 H locs G h => ?_)
    refine lv_if_eq (tgt := 41) hx hb dX0_lay_13 (by decide) (fun c_6 => ?_) (fun c_6 => ?_)
    · replace h := h.1 c_6
      refine lv_ldc hx hb hown (hts _ q368) dX0_lay_41 ?_
      refine W.widen (k := 2) (n := 25) (by decide) (by decide) ?_
      exact c_iret F G dX0_lay_43 h
    · replace h := h.2 c_6
      refine lv_iload_n hx hb dX0_lay_16 rfl (lv_at hl 2 rfl) ?_
      refine lv_iconst (v := 1) hx hb dX0_lay_17 (by decide) ?_
      refine lv_icmp_ne (tgt := 29) hx hb dX0_lay_18 (by decide) (fun c_7 => ?_) (fun c_7 => ?_)
      · replace h := h.1 c_7
        exact wC0_lay_p29 F v1 v2 v3 S_5  G (lv_sub hl [0, 1, 2, 3] rfl) h
      · replace h := h.2 c_7
        refine lv_aload_n hx hb dX0_lay_21 rfl (lv_at hl 0 rfl) ?_
        refine lv_iload_n hx hb dX0_lay_22 rfl (lv_at hl 3 rfl) ?_
        refine kX0_C0_isClock F G hl.1 ⟨(Nat.le_of_ble_eq_true rfl), (Nat.le_of_ble_eq_true rfl)⟩ ⟨(Nat.le_of_ble_eq_true rfl), (Nat.le_of_ble_eq_true rfl)⟩ (Nat.le_of_ble_eq_true rfl) dX0_lay_23 h (fun r_8 S_9 H locs G h => ?_)
        refine lv_if_eq (tgt := 41) hx hb dX0_lay_26 (by decide) (fun c_10 => ?_) (fun c_10 => ?_)
        · replace h := h.1 c_10
          refine lv_ldc hx hb hown (hts _ q368) dX0_lay_41 ?_
          refine W.widen (k := 2) (n := 25) (by decide) (by decide) ?_
          exact c_iret F G dX0_lay_43 h
        · replace h := h.2 c_10
          exact wC0_lay_p29 F v1 v2 v3 S_9  G (lv_sub hl [0, 1, 2, 3] rfl) h
/-! StrokesHeard.rest -/
def C0_rest (v1 : Int32) (v2 : Int32) (S : CS) (Q : Int32 → CS → Prop) : Prop := C0_isSlot v1 S (fun r_1 S_2 => (¬ r_1 = 0 → vp_in v1 5 ∧ (∃ y_5 : Nat, (S_2.2.1 26 v1.toNatClampNeg) = some y_5 ∧ (∃ (fs_6 : List Value) (o_9 : Option Nat), has S_2 y_5 (.inr (4, fs_6)) ∧ fs_6[0]? = some (va_rf o_9) ∧ ((o_9 = none → Q (-1000000011) S_2) ∧ (∀ y_11 : Nat, o_9 = some y_11 → ∃ y_12 : Nat, o_9 = some y_12 ∧ ((∃ fs_13 : List Value, has S_2 y_12 (.inr (3, fs_13)) ∧ (Q (-1000000012) S_2)) ∨ (∃ fs_16 : List Value, has S_2 y_12 (.inr (6, fs_16)) ∧ (Q (-1000000012) S_2)) ∨ (∃ fs_19 : List Value, has S_2 y_12 (.inr (7, fs_19)) ∧ (Q (-1000000012) S_2)) ∨ (∃ fs_22 : List Value, has S_2 y_12 (.inr (8, fs_22)) ∧ (Q (-1000000012) S_2)) ∨ (∃ fs_25 : List Value, has S_2 y_12 (.inr (9, fs_25)) ∧ (Q (-1000000012) S_2)) ∨ (∃ fs_28 : List Value, has S_2 y_12 (.inr (10, fs_28)) ∧ (Q (-1000000012) S_2)) ∨ (∃ fs_31 : List Value, has S_2 y_12 (.inr (11, fs_31)) ∧ (Q (-1000000012) S_2)) ∨ (∃ fs_34 : List Value, has S_2 y_12 (.inr (14, fs_34)) ∧ (∃ y_37 : Nat, o_9 = some y_37 ∧ (∃ fs_38 : List Value, has S_2 y_37 (.inr (14, fs_38)) ∧ (∃ (fs_40 : List Value) (i_43 : Int32), has S_2 y_37 (.inr (14, fs_40)) ∧ fs_40[0]? = some (.int i_43) ∧ ((¬ v2 = 0 → ¬ v2 = 0 ∧ (Q (i_43 - i_43 / v2 * v2) S_2)) ∧ (v2 = 0 → Q (-1000000002) S_2)))))))))))) ∧ (r_1 = 0 → Q (-1000000001) S_2))
abbrev rmX0_rest : Room := { frames := 2, cells := 0, slots := 0, locals := 42 }
set_option maxHeartbeats 4000000 in
set_option maxRecDepth 100000 in
theorem wC0_rest {l : Launch} {D : va_G} {a : Nat → Nat} {d : Nat → ClassId} (sz : Nat) (v1 : Int32) (v2 : Int32) (S : CS) (Q : Int32 → CS → Prop) (h : C0_rest v1 v2 S Q) : CMi l D a d yX0_rest cX0_rest 5 .int rmX0_rest 0 0 [.ref (a 0), .int v1, .int v2] sz S Q := by
  refine c_enter (Qc := fun A => va_Qi Q (BC D a d A) A) RX0 (by decide +kernel) rfl (Nat.le_of_ble_eq_true rfl) ?_
  intro p e s m below meth c ls A hmn F hG hl
  have G := hG
  have hl : lv_has ls 5 [(0, .ref (a 0)), (1, .int v1), (2, .int v2)] := hl
  obtain ⟨hx, hb, hr, hml, hown, hts, hlocks, hA, hK, hN⟩ := id F
  unfold C0_rest at h
  refine lv_iload_n hx hb dX0_rest_0 rfl (lv_at hl 1 rfl) ?_
  refine kX0_C0_isSlot F G hl.1 ⟨(Nat.le_of_ble_eq_true rfl), (Nat.le_of_ble_eq_true rfl)⟩ ⟨(Nat.le_of_ble_eq_true rfl), (Nat.le_of_ble_eq_true rfl)⟩ (Nat.le_of_ble_eq_true rfl) dX0_rest_1 h (fun r_1 S_2 H locs G h => ?_)
  refine lv_if_ne (tgt := 10) hx hb dX0_rest_4 (by decide) (fun c_3 => ?_) (fun c_3 => ?_)
  · replace h := h.1 c_3
    refine lv_aload_n hx hb dX0_rest_10 rfl (lv_at hl 0 rfl) ?_
    refine cgX0_0_slots F G dX0_rest_11 ?_
    refine lv_iload_n hx hb dX0_rest_14 rfl (lv_at hl 1 rfl) ?_
    obtain ⟨b_4, h⟩ := h
    refine c_aaload F G cR_26 rfl b_4 dX0_rest_15 ?_
    obtain ⟨y_5, hy_5, h⟩ := h
    refine c_nn hy_5 ?_
    obtain ⟨fs_6, o_9, z_7, u_8, h⟩ := h
    refine pgX0_X4_held F G z_7 u_8 dX0_rest_16 ?_
    refine c_astore_nr (lv2 := [(3, va_rf o_9), (0, .ref (a 0)), (1, .int v1), (2, .int v2)]) hx hb dX0_rest_19 rfl hl (by decide) rfl (fun ls hl => ?_)
    refine c_aload_nr hx hb dX0_rest_20 rfl (lv_at hl 0 rfl) ?_
    refine c_ifnonnull (tgt := 28) hx hb dX0_rest_21 (by decide) (fun y_11 c_10 => ?_) (fun c_10 => ?_)
    · replace h := h.2 y_11 c_10
      refine c_aload_nr hx hb dX0_rest_28 rfl (lv_at hl 0 rfl) ?_
      obtain ⟨y_12, hy_12, h⟩ := h
      refine c_nn hy_12 ?_
      rcases h with ⟨fs_13, z_14, h⟩ | ⟨fs_16, z_17, h⟩ | ⟨fs_19, z_20, h⟩ | ⟨fs_22, z_23, h⟩ | ⟨fs_25, z_26, h⟩ | ⟨fs_28, z_29, h⟩ | ⟨fs_31, z_32, h⟩ | ⟨fs_34, z_35, h⟩
      · refine p_inst_X0_X14_3 F G z_14 dX0_rest_29 ?_
        refine lv_if_ne (tgt := 39) hx hb dX0_rest_32 (by decide) (fun c_15 => ?_) (fun c_15 => ?_)
        · exact absurd c_15 (by decide)
        · refine lv_ldcw hx hb hown (hts _ q785) dX0_rest_35 ?_
          exact c_iret F G dX0_rest_38 h
      · refine p_inst_X0_X14_6 F G z_17 dX0_rest_29 ?_
        refine lv_if_ne (tgt := 39) hx hb dX0_rest_32 (by decide) (fun c_18 => ?_) (fun c_18 => ?_)
        · exact absurd c_18 (by decide)
        · refine lv_ldcw hx hb hown (hts _ q785) dX0_rest_35 ?_
          exact c_iret F G dX0_rest_38 h
      · refine p_inst_X0_X14_7 F G z_20 dX0_rest_29 ?_
        refine lv_if_ne (tgt := 39) hx hb dX0_rest_32 (by decide) (fun c_21 => ?_) (fun c_21 => ?_)
        · exact absurd c_21 (by decide)
        · refine lv_ldcw hx hb hown (hts _ q785) dX0_rest_35 ?_
          exact c_iret F G dX0_rest_38 h
      · refine p_inst_X0_X14_8 F G z_23 dX0_rest_29 ?_
        refine lv_if_ne (tgt := 39) hx hb dX0_rest_32 (by decide) (fun c_24 => ?_) (fun c_24 => ?_)
        · exact absurd c_24 (by decide)
        · refine lv_ldcw hx hb hown (hts _ q785) dX0_rest_35 ?_
          exact c_iret F G dX0_rest_38 h
      · refine p_inst_X0_X14_9 F G z_26 dX0_rest_29 ?_
        refine lv_if_ne (tgt := 39) hx hb dX0_rest_32 (by decide) (fun c_27 => ?_) (fun c_27 => ?_)
        · exact absurd c_27 (by decide)
        · refine lv_ldcw hx hb hown (hts _ q785) dX0_rest_35 ?_
          exact c_iret F G dX0_rest_38 h
      · refine p_inst_X0_X14_10 F G z_29 dX0_rest_29 ?_
        refine lv_if_ne (tgt := 39) hx hb dX0_rest_32 (by decide) (fun c_30 => ?_) (fun c_30 => ?_)
        · exact absurd c_30 (by decide)
        · refine lv_ldcw hx hb hown (hts _ q785) dX0_rest_35 ?_
          exact c_iret F G dX0_rest_38 h
      · refine p_inst_X0_X14_11 F G z_32 dX0_rest_29 ?_
        refine lv_if_ne (tgt := 39) hx hb dX0_rest_32 (by decide) (fun c_33 => ?_) (fun c_33 => ?_)
        · exact absurd c_33 (by decide)
        · refine lv_ldcw hx hb hown (hts _ q785) dX0_rest_35 ?_
          exact c_iret F G dX0_rest_38 h
      · refine p_inst_X0_X14_14 F G z_35 dX0_rest_29 ?_
        refine lv_if_ne (tgt := 39) hx hb dX0_rest_32 (by decide) (fun c_36 => ?_) (fun c_36 => ?_)
        · refine c_aload_nr hx hb dX0_rest_39 rfl (lv_at hl 0 rfl) ?_
          obtain ⟨y_37, hy_37, h⟩ := h
          refine c_nn hy_37 ?_
          obtain ⟨fs_38, z_39, h⟩ := h
          refine p_cast_X14_14 F G z_39 dX0_rest_40 ?_
          obtain ⟨fs_40, i_43, z_41, u_42, h⟩ := h
          refine pgX0_X14_v F G z_41 u_42 dX0_rest_43 ?_
          refine lv_istore (lv' := [(4, .int i_43), (3, va_rf o_9), (0, .ref (a 0)), (1, .int v1), (2, .int v2)]) hx hb dX0_rest_46 hl (by decide) (by simp [va_rf_cat]) (fun ls hl => ?_)
          refine lv_iload_n hx hb dX0_rest_48 rfl (lv_at hl 4 rfl) ?_
          refine lv_if_ne (tgt := 58) hx hb dX0_rest_49 (by decide) (fun c_44 => ?_) (fun c_44 => ?_)
          · replace h := h.1 c_44
            refine lv_iload hx hb dX0_rest_58 (lv_at hl 0 rfl) ?_
            refine lv_iload_n hx hb dX0_rest_60 rfl (lv_at hl 4 rfl) ?_
            obtain ⟨z_45, h⟩ := h
            refine lv_irem hx hb dX0_rest_61 z_45 ?_
            exact c_iret F G dX0_rest_62 h
          · replace h := h.2 c_44
            refine lv_ldcw hx hb hown (hts _ q1158) dX0_rest_52 ?_
            refine lv_goto (tgt := 62) hx hb dX0_rest_55 (by decide) ?_
            exact c_iret F G dX0_rest_62 h
        · exact absurd c_36 (by decide)
    · replace h := h.1 c_10
      refine lv_ldcw hx hb hown (hts _ q1019) dX0_rest_24 ?_
      exact c_iret F G dX0_rest_27 h
  · replace h := h.2 c_3
    refine lv_ldc hx hb hown (hts _ q368) dX0_rest_7 ?_
    exact c_iret F G dX0_rest_9 h
/-! StrokesHeard.tell -/
def C0_tell (v1 : Int32) (S : CS) (Q : Int32 → CS → Prop) : Prop := (¬ (S.1 0 25) = 60 → vp_in (S.1 0 25) 60 ∧ (Q ((cF (cA S 27 (S.1 0 25) v1) 0 25 (((cA S 27 (S.1 0 25) v1).1 0 25) + 1)).1 0 25) (cF (cA S 27 (S.1 0 25) v1) 0 25 (((cA S 27 (S.1 0 25) v1).1 0 25) + 1)))) ∧ ((S.1 0 25) = 60 → Q (-1000000003) S)
abbrev rmX0_tell : Room := { frames := 0, cells := 0, slots := 0, locals := 0 }
set_option maxHeartbeats 4000000 in
set_option maxRecDepth 100000 in
theorem wC0_tell {l : Launch} {D : va_G} {a : Nat → Nat} {d : Nat → ClassId} (sz : Nat) (v1 : Int32) (S : CS) (Q : Int32 → CS → Prop) (h : C0_tell v1 S Q) : CMi l D a d yX0_tell cX0_tell 2 .int rmX0_tell 0 0 [.ref (a 0), .int v1] sz S Q := by
  refine c_enter (Qc := fun A => va_Qi Q (BC D a d A) A) RX0 (by decide +kernel) rfl (Nat.le_of_ble_eq_true rfl) ?_
  intro p e s m below meth c ls A hmn F hG hl
  have G := hG
  have hl : lv_has ls 2 [(0, .ref (a 0)), (1, .int v1)] := hl
  obtain ⟨hx, hb, hr, hml, hown, hts, hlocks, hA, hK, hN⟩ := id F
  unfold C0_tell at h
  refine lv_aload_n hx hb dX0_tell_0 rfl (lv_at hl 0 rfl) ?_
  refine cgX0_0_waitMany F G dX0_tell_1 ?_
  refine lv_bipush (v := 60) hx hb dX0_tell_4 (by decide) ?_
  refine lv_icmp_ne (tgt := 12) hx hb dX0_tell_6 (by decide) (fun c_1 => ?_) (fun c_1 => ?_)
  · replace h := h.1 c_1
    refine lv_aload_n hx hb dX0_tell_12 rfl (lv_at hl 0 rfl) ?_
    refine cgX0_0_waits F G dX0_tell_13 ?_
    refine lv_aload_n hx hb dX0_tell_16 rfl (lv_at hl 0 rfl) ?_
    refine cgX0_0_waitMany F G dX0_tell_17 ?_
    refine lv_iload_n hx hb dX0_tell_20 rfl (lv_at hl 1 rfl) ?_
    obtain ⟨b_2, h⟩ := h
    refine c_iastore F G cI_27 b_2 dX0_tell_21 (fun H locs G => ?_)
    refine lv_aload_n hx hb dX0_tell_22 rfl (lv_at hl 0 rfl) ?_
    refine lv_dup hx hb dX0_tell_23 rfl ?_
    refine cgX0_0_waitMany F G dX0_tell_24 ?_
    refine lv_iconst (v := 1) hx hb dX0_tell_27 (by decide) ?_
    refine lv_iadd hx hb dX0_tell_28 ?_
    refine cpX0_0_waitMany F G dX0_tell_29 (fun H locs G => ?_)
    refine lv_aload_n hx hb dX0_tell_32 rfl (lv_at hl 0 rfl) ?_
    refine cgX0_0_waitMany F G dX0_tell_33 ?_
    exact c_iret F G dX0_tell_36 h
  · replace h := h.2 c_1
    refine lv_ldc hx hb hown (hts _ q356) dX0_tell_9 ?_
    exact c_iret F G dX0_tell_11 h
/-! StrokesHeard.copyRow -/
def C0_copyRow_9_11  (S : CS) (Q : CS → Prop) : Prop := ¬ (0 : Int32) < 0 ∧ ¬ (0 : Int32) < 0 ∧ ¬ (2 : Int32) < 0 ∧ (0 : Int32).toNatClampNeg + (2 : Int32).toNatClampNeg ≤ 2 ∧ (0 : Int32).toNatClampNeg + (2 : Int32).toNatClampNeg ≤ 2 ∧ (Q (u2 S.1 11 (va_cpy (S.1 9) (S.1 11) ((0 : Int32).toNatClampNeg) ((0 : Int32).toNatClampNeg) ((2 : Int32).toNatClampNeg)), S.2))
abbrev rmX0_copyRow_9_11 : Room := { frames := 1, cells := 0, slots := 0, locals := 40 }
set_option maxHeartbeats 4000000 in
set_option maxRecDepth 100000 in
theorem wC0_copyRow_9_11 {l : Launch} {D : va_G} {a : Nat → Nat} {d : Nat → ClassId} (sz : Nat)  (S : CS) (Q : CS → Prop) (h : C0_copyRow_9_11  S Q) : CMv l D a d yX0_copyRow cX0_copyRow 2 rmX0_copyRow_9_11 0 0 [.ref (a 9), .ref (a 11)] sz S Q := by
  refine c_enter (Qc := fun A => va_Qv Q (BC D a d A) A) RX0 (by decide +kernel) rfl (Nat.le_of_ble_eq_true rfl) ?_
  intro p e s m below meth c ls A hmn F hG hl
  have G := hG
  have hl : lv_has ls 2 [(0, .ref (a 9)), (1, .ref (a 11))] := hl
  obtain ⟨hx, hb, hr, hml, hown, hts, hlocks, hA, hK, hN⟩ := id F
  unfold C0_copyRow_9_11 at h
  refine lv_aload_n hx hb dX0_copyRow_0 rfl (lv_at hl 0 rfl) ?_
  refine lv_iconst (v := 0) hx hb dX0_copyRow_1 (by decide) ?_
  refine lv_aload_n hx hb dX0_copyRow_2 rfl (lv_at hl 1 rfl) ?_
  refine lv_iconst (v := 0) hx hb dX0_copyRow_3 (by decide) ?_
  refine lv_aload_n hx hb dX0_copyRow_4 rfl (lv_at hl 1 rfl) ?_
  refine c_len (v := 2) F G cI_11 ⟨_, rfl⟩ (by decide) dX0_copyRow_5 ?_
  obtain ⟨b_1, b_2, b_3, b_4, b_5, h⟩ := h
  refine c_copy_i_X0 F G cI_9 cI_11 hl.1 b_1 b_2 b_3 b_4 b_5 (Nat.le_of_ble_eq_true rfl) (by decide) dX0_copyRow_6 (fun H locs G => ?_)
  exact c_vret F G dX0_copyRow_9 h
set_option maxHeartbeats 4000000 in
set_option maxRecDepth 100000 in
theorem kX1_C0_copyRow_9_11 {p : Program} {l : Launch} {e : Env} {s : State} {m : MethodId} {R : Room} {args : Array Value} {below : List Frame} {meth : Method} {c : Code} {D : va_G} {a : Nat → Nat} {d : Nat → ClassId} {A : Nat → Prop} {Q : State → Prop} {cc : ByteArray} {nL pc cells slots : Nat} {ret : Option FieldType} {ls : Array Slot} {rest : List Value}  {S : CS} {H : Heap} {locs : List Loc} {Q1 : CS → Prop} (F : FC p s m meth c args D a d A RX1 cc nL ret) (G : GC D a d A s.heap S H locs) (hsz : ls.size = nL) (hR : rmX0_copyRow_9_11.frames + 1 ≤ R.frames ∧ 8 + (2 + 11) + rmX0_copyRow_9_11.locals ≤ R.locals) (hc : cells + 0 ≤ R.cells ∧ slots + 0 ≤ R.slots) (hW : (rest.map fun v => v.category).sum ≤ 8) (hd : decode cc pc = .ok (.invokestatic 49, 3)) (h : C0_copyRow_9_11  S Q1) (k : ∀ (S1 : CS) (H : Heap) (locs : List Loc), GC D a d A s.heap S1 H locs → Q1 S1 → W p l e R s m args below meth c H locs cells slots Q (F0 m (pc + 3) ls rest)) : W p l e R s m args below meth c H locs cells slots Q (F0 m pc ls (.ref (a 11) :: .ref (a 9) :: rest)) := by
  obtain ⟨hx, hb, hr, hml, hown, hts, hlocks, hA, hK, hN⟩ := id F
  exact c_callv F G (va_runSN (As := [.ref (a 9), .ref (a 11)]) (rest := rest) ⟨hx, hb, hml, hown, hts⟩ (wC0_copyRow_9_11 H.size  S Q1 h) ⟨va_cnB 2 hts (lw_meth q967) rfl rfl rfl (hN.1 _ (List.mem_of_getElem? (i := 33) rfl)) (hts _ q82) (by decide +kernel) hR, hts _ q966, trivial⟩ ⟨PC_blind, c_pre F G⟩ rfl rfl hsz rfl (lv_room hW) hd hc) k
/-! StrokesHeard.copyRow -/
def C0_copyRow_13_15  (S : CS) (Q : CS → Prop) : Prop := ¬ (0 : Int32) < 0 ∧ ¬ (0 : Int32) < 0 ∧ ¬ (12 : Int32) < 0 ∧ (0 : Int32).toNatClampNeg + (12 : Int32).toNatClampNeg ≤ 12 ∧ (0 : Int32).toNatClampNeg + (12 : Int32).toNatClampNeg ≤ 12 ∧ (Q (u2 S.1 15 (va_cpy (S.1 13) (S.1 15) ((0 : Int32).toNatClampNeg) ((0 : Int32).toNatClampNeg) ((12 : Int32).toNatClampNeg)), S.2))
abbrev rmX0_copyRow_13_15 : Room := { frames := 1, cells := 0, slots := 0, locals := 40 }
set_option maxHeartbeats 4000000 in
set_option maxRecDepth 100000 in
theorem wC0_copyRow_13_15 {l : Launch} {D : va_G} {a : Nat → Nat} {d : Nat → ClassId} (sz : Nat)  (S : CS) (Q : CS → Prop) (h : C0_copyRow_13_15  S Q) : CMv l D a d yX0_copyRow cX0_copyRow 2 rmX0_copyRow_13_15 0 0 [.ref (a 13), .ref (a 15)] sz S Q := by
  refine c_enter (Qc := fun A => va_Qv Q (BC D a d A) A) RX0 (by decide +kernel) rfl (Nat.le_of_ble_eq_true rfl) ?_
  intro p e s m below meth c ls A hmn F hG hl
  have G := hG
  have hl : lv_has ls 2 [(0, .ref (a 13)), (1, .ref (a 15))] := hl
  obtain ⟨hx, hb, hr, hml, hown, hts, hlocks, hA, hK, hN⟩ := id F
  unfold C0_copyRow_13_15 at h
  refine lv_aload_n hx hb dX0_copyRow_0 rfl (lv_at hl 0 rfl) ?_
  refine lv_iconst (v := 0) hx hb dX0_copyRow_1 (by decide) ?_
  refine lv_aload_n hx hb dX0_copyRow_2 rfl (lv_at hl 1 rfl) ?_
  refine lv_iconst (v := 0) hx hb dX0_copyRow_3 (by decide) ?_
  refine lv_aload_n hx hb dX0_copyRow_4 rfl (lv_at hl 1 rfl) ?_
  refine c_len (v := 12) F G cI_15 ⟨_, rfl⟩ (by decide) dX0_copyRow_5 ?_
  obtain ⟨b_1, b_2, b_3, b_4, b_5, h⟩ := h
  refine c_copy_i_X0 F G cI_13 cI_15 hl.1 b_1 b_2 b_3 b_4 b_5 (Nat.le_of_ble_eq_true rfl) (by decide) dX0_copyRow_6 (fun H locs G => ?_)
  exact c_vret F G dX0_copyRow_9 h
set_option maxHeartbeats 4000000 in
set_option maxRecDepth 100000 in
theorem kX1_C0_copyRow_13_15 {p : Program} {l : Launch} {e : Env} {s : State} {m : MethodId} {R : Room} {args : Array Value} {below : List Frame} {meth : Method} {c : Code} {D : va_G} {a : Nat → Nat} {d : Nat → ClassId} {A : Nat → Prop} {Q : State → Prop} {cc : ByteArray} {nL pc cells slots : Nat} {ret : Option FieldType} {ls : Array Slot} {rest : List Value}  {S : CS} {H : Heap} {locs : List Loc} {Q1 : CS → Prop} (F : FC p s m meth c args D a d A RX1 cc nL ret) (G : GC D a d A s.heap S H locs) (hsz : ls.size = nL) (hR : rmX0_copyRow_13_15.frames + 1 ≤ R.frames ∧ 8 + (2 + 11) + rmX0_copyRow_13_15.locals ≤ R.locals) (hc : cells + 0 ≤ R.cells ∧ slots + 0 ≤ R.slots) (hW : (rest.map fun v => v.category).sum ≤ 8) (hd : decode cc pc = .ok (.invokestatic 49, 3)) (h : C0_copyRow_13_15  S Q1) (k : ∀ (S1 : CS) (H : Heap) (locs : List Loc), GC D a d A s.heap S1 H locs → Q1 S1 → W p l e R s m args below meth c H locs cells slots Q (F0 m (pc + 3) ls rest)) : W p l e R s m args below meth c H locs cells slots Q (F0 m pc ls (.ref (a 15) :: .ref (a 13) :: rest)) := by
  obtain ⟨hx, hb, hr, hml, hown, hts, hlocks, hA, hK, hN⟩ := id F
  exact c_callv F G (va_runSN (As := [.ref (a 13), .ref (a 15)]) (rest := rest) ⟨hx, hb, hml, hown, hts⟩ (wC0_copyRow_13_15 H.size  S Q1 h) ⟨va_cnB 2 hts (lw_meth q967) rfl rfl rfl (hN.1 _ (List.mem_of_getElem? (i := 33) rfl)) (hts _ q82) (by decide +kernel) hR, hts _ q966, trivial⟩ ⟨PC_blind, c_pre F G⟩ rfl rfl hsz rfl (lv_room hW) hd hc) k
/-! StrokesHeard$State.copyOf -/
def C1_copyOf_3_1_p71 (Q : CS → Prop) (K18 : Int32 → CS → Prop) (v2 : Int32) (S : CS) : Prop := vp_in v2 6 ∧ (∃ y_46 : Nat, (S.2.1 7 v2.toNatClampNeg) = some y_46 ∧ (vp_in v2 6 ∧ (∃ y_48 : Nat, (S.2.1 5 v2.toNatClampNeg) = some y_48 ∧ (∃ (κ_51 : Nat) (fs_52 : List Value), κ_51 < 6 ∧ has S y_46 (.inr (6 + κ_51, fs_52)) ∧ CV_takes κ_51 y_46 y_48 S (fun S_50 => K18 (v2 + 1) S_50)))))
def C1_copyOf_3_1_p56 (Q : CS → Prop) (K18 : Int32 → CS → Prop) (v2 : Int32) (S : CS) : Prop := vp_in v2 6 ∧ (∃ y_33 : Nat, (S.2.1 5 v2.toNatClampNeg) = some y_33 ∧ (∃ (κ_36 : Nat) (fs_37 : List Value), κ_36 < 6 ∧ has S y_33 (.inr (6 + κ_36, fs_37)) ∧ CV_another κ_36 y_33 S (fun y_34 S_35 => vp_in v2 6 ∧ ∃ (κ_43 : Nat) (fs_41 : List Value), κ_43 < 6 ∧ has S_35 y_34 (.inr (6 + κ_43, fs_41)) ∧ (C1_copyOf_3_1_p71 Q K18 v2 (cR S_35 7 v2 (some y_34))))))
def C1_copyOf_3_1_L18 (Q : CS → Prop)   : Nat → Int32 → CS → Prop
  | 0, _, _ => False
  | n + 1, v2, S => ((S.1 3 1) ≤ v2 → C0_copyRow_9_11  S (fun S_3 => C0_copyRow_13_15  (cF (cF (cF (cF S_3 3 4 (S_3.1 1 4)) 3 5 ((cF S_3 3 4 (S_3.1 1 4)).1 1 5)) 3 6 ((cF (cF S_3 3 4 (S_3.1 1 4)) 3 5 ((cF S_3 3 4 (S_3.1 1 4)).1 1 5)).1 1 6)) 3 7 ((cF (cF (cF S_3 3 4 (S_3.1 1 4)) 3 5 ((cF S_3 3 4 (S_3.1 1 4)).1 1 5)) 3 6 ((cF (cF S_3 3 4 (S_3.1 1 4)) 3 5 ((cF S_3 3 4 (S_3.1 1 4)).1 1 5)).1 1 6)).1 1 7)) (fun S_5 => ¬ (0 : Int32) < 0 ∧ ¬ (0 : Int32) < 0 ∧ ¬ (14 : Int32) < 0 ∧ (0 : Int32).toNatClampNeg + (14 : Int32).toNatClampNeg ≤ 14 ∧ (0 : Int32).toNatClampNeg + (14 : Int32).toNatClampNeg ≤ 14 ∧ (∀ i : Nat, i < (14 : Int32).toNatClampNeg → ∀ y : Nat, (cF (cF S_5 3 9 (S_5.1 1 9)) 3 10 ((cF S_5 3 9 (S_5.1 1 9)).1 1 10)).2.1 17 ((0 : Int32).toNatClampNeg + i) = some y → ∃ fs, has (cF (cF S_5 3 9 (S_5.1 1 9)) 3 10 ((cF S_5 3 9 (S_5.1 1 9)).1 1 10)) y (.inr (13, fs))) ∧ (Q ((cF (cF S_5 3 9 (S_5.1 1 9)) 3 10 ((cF S_5 3 9 (S_5.1 1 9)).1 1 10)).1, u2 (cF (cF S_5 3 9 (S_5.1 1 9)) 3 10 ((cF S_5 3 9 (S_5.1 1 9)).1 1 10)).2.1 19 (va_cpy ((cF (cF S_5 3 9 (S_5.1 1 9)) 3 10 ((cF S_5 3 9 (S_5.1 1 9)).1 1 10)).2.1 17) ((cF (cF S_5 3 9 (S_5.1 1 9)) 3 10 ((cF S_5 3 9 (S_5.1 1 9)).1 1 10)).2.1 19) ((0 : Int32).toNatClampNeg) ((0 : Int32).toNatClampNeg) ((14 : Int32).toNatClampNeg)), (cF (cF S_5 3 9 (S_5.1 1 9)) 3 10 ((cF S_5 3 9 (S_5.1 1 9)).1 1 10)).2.2))))) ∧ (¬ (S.1 3 1) ≤ v2 → vp_in v2 6 ∧ (((S.2.1 7 v2.toNatClampNeg) = none → C1_copyOf_3_1_p56 Q (fun v2_ S_ => C1_copyOf_3_1_L18 Q n v2_ S_) v2 S) ∧ (∀ y_14 : Nat, (S.2.1 7 v2.toNatClampNeg) = some y_14 → vp_in v2 6 ∧ (∃ y_16 : Nat, (S.2.1 7 v2.toNatClampNeg) = some y_16 ∧ (∃ (κ_19 : Nat) (fs_20 : List Value), κ_19 < 6 ∧ has S y_16 (.inr (6 + κ_19, fs_20)) ∧ CV_kind κ_19 y_16 S (fun r_17 S_18 => vp_in v2 6 ∧ (∃ y_24 : Nat, (S_18.2.1 5 v2.toNatClampNeg) = some y_24 ∧ (∃ (κ_27 : Nat) (fs_28 : List Value), κ_27 < 6 ∧ has S_18 y_24 (.inr (6 + κ_27, fs_28)) ∧ CV_kind κ_27 y_24 S_18 (fun r_25 S_26 => (r_17 = r_25 → C1_copyOf_3_1_p71 Q (fun v2_ S_ => C1_copyOf_3_1_L18 Q n v2_ S_) v2 S_26) ∧ (¬ r_17 = r_25 → C1_copyOf_3_1_p56 Q (fun v2_ S_ => C1_copyOf_3_1_L18 Q n v2_ S_) v2 S_26))))))))))
def C1_copyOf_3_1  (S : CS) (Q : CS → Prop) : Prop := ∃ k18, k18 ≤ 7 ∧ C1_copyOf_3_1_L18 Q k18 0 (cF (cF S 3 0 (S.1 1 0)) 3 1 ((cF S 3 0 (S.1 1 0)).1 1 1))
abbrev rmX1_copyOf_3_1 : Room := { frames := 5, cells := 7, slots := 14, locals := 100 }
set_option maxHeartbeats 4000000 in
set_option maxRecDepth 100000 in
theorem wC1_copyOf_3_1_p71 {p : Program} {l : Launch} {e : Env} {s : State} {m : MethodId} {args : Array Value} {below : List Frame} {meth : Method} {c : Code} {D : va_G} {a : Nat → Nat} {d : Nat → ClassId} {A : Nat → Prop} {Q : CS → Prop} {K18 : Int32 → CS → Prop} (F : FC p s m meth c args D a d A RX1 cX1_copyOf 3 none) (v2 : Int32) (S : CS) {nn : Nat} (hK18 : ∀ (v2 : Int32) (S : CS) (H : Heap) (locs : List Loc) (ls : Array Slot) (cells slots : Nat), cells + nn * 1 ≤ 7 → slots + nn * 2 ≤ 14 → GC D a d A s.heap S H locs → lv_has ls 3 [(0, .ref (a 3)), (1, .ref (a 1)), (2, .int v2)] → K18 v2 S → wCv p l e rmX1_copyOf_3_1 s m args below meth c D a d A Q 7 14 H locs cells slots (F0 m 18 ls [])) (cells slots : Nat) (hc1 : cells + nn * 1 + 0 ≤ 7) (hc2 : slots + nn * 2 + 0 ≤ 14) {H : Heap} {locs : List Loc} {ls : Array Slot} (G : GC D a d A s.heap S H locs) (hl : lv_has ls 3 [(0, .ref (a 3)), (1, .ref (a 1)), (2, .int v2)]) (h : C1_copyOf_3_1_p71 Q K18 v2 S) : wCv p l e rmX1_copyOf_3_1 s m args below meth c D a d A Q 7 14 H locs cells slots (F0 m 71 ls []) := by
  obtain ⟨hx, hb, hr, hml, hown, hts, hlocks, hA, hK, hN⟩ := id F
  unfold C1_copyOf_3_1_p71 at h
  refine lv_aload_n hx hb dX1_copyOf_71 rfl (lv_at hl 0 rfl) ?_
  refine cgX1_3_clock F G dX1_copyOf_72 ?_
  refine lv_iload_n hx hb dX1_copyOf_75 rfl (lv_at hl 2 rfl) ?_
  obtain ⟨b_45, h⟩ := h
  refine c_aaload F G cR_7 rfl b_45 dX1_copyOf_76 ?_
  obtain ⟨y_46, hy_46, h⟩ := h
  refine c_nn hy_46 ?_
  refine lv_aload_n hx hb dX1_copyOf_77 rfl (lv_at hl 1 rfl) ?_
  refine cgX1_1_clock F G dX1_copyOf_78 ?_
  refine lv_iload_n hx hb dX1_copyOf_81 rfl (lv_at hl 2 rfl) ?_
  obtain ⟨b_47, h⟩ := h
  refine c_aaload F G cR_5 rfl b_47 dX1_copyOf_82 ?_
  obtain ⟨y_48, hy_48, h⟩ := h
  refine c_nn hy_48 ?_
  obtain ⟨κ_51, fs_52, q_53, z_54, h⟩ := h
  refine kvX1_takes F G q_53 z_54 hl.1 ⟨(Nat.le_of_ble_eq_true rfl), (Nat.le_of_ble_eq_true rfl)⟩ ⟨show _ ≤ 7 by omega, show _ ≤ 14 by omega⟩ (Nat.le_of_ble_eq_true rfl) dX1_copyOf_83 h (fun S_50 H locs G h => ?_)
  refine lv_iinc (v := (v2 + 1)) (lv' := [(2, .int (v2 + 1)), (0, .ref (a 3)), (1, .ref (a 1))]) hx hb dX1_copyOf_86 hl (k := 2) rfl rfl (by decide) rfl (fun ls hl => ?_)
  refine lv_goto (tgt := 18) hx hb dX1_copyOf_89 (by decide) ?_
  exact hK18 (v2 + 1) S_50 _ _ _ cells slots (by omega) (by omega) G (lv_sub hl [1, 2, 0] rfl) h
set_option maxHeartbeats 4000000 in
set_option maxRecDepth 100000 in
theorem wC1_copyOf_3_1_p56 {p : Program} {l : Launch} {e : Env} {s : State} {m : MethodId} {args : Array Value} {below : List Frame} {meth : Method} {c : Code} {D : va_G} {a : Nat → Nat} {d : Nat → ClassId} {A : Nat → Prop} {Q : CS → Prop} {K18 : Int32 → CS → Prop} (F : FC p s m meth c args D a d A RX1 cX1_copyOf 3 none) (v2 : Int32) (S : CS) {nn : Nat} (hK18 : ∀ (v2 : Int32) (S : CS) (H : Heap) (locs : List Loc) (ls : Array Slot) (cells slots : Nat), cells + nn * 1 ≤ 7 → slots + nn * 2 ≤ 14 → GC D a d A s.heap S H locs → lv_has ls 3 [(0, .ref (a 3)), (1, .ref (a 1)), (2, .int v2)] → K18 v2 S → wCv p l e rmX1_copyOf_3_1 s m args below meth c D a d A Q 7 14 H locs cells slots (F0 m 18 ls [])) (cells slots : Nat) (hc1 : cells + nn * 1 + 1 ≤ 7) (hc2 : slots + nn * 2 + 2 ≤ 14) {H : Heap} {locs : List Loc} {ls : Array Slot} (G : GC D a d A s.heap S H locs) (hl : lv_has ls 3 [(0, .ref (a 3)), (1, .ref (a 1)), (2, .int v2)]) (h : C1_copyOf_3_1_p56 Q K18 v2 S) : wCv p l e rmX1_copyOf_3_1 s m args below meth c D a d A Q 7 14 H locs cells slots (F0 m 56 ls []) := by
  obtain ⟨hx, hb, hr, hml, hown, hts, hlocks, hA, hK, hN⟩ := id F
  unfold C1_copyOf_3_1_p56 at h
  refine lv_aload_n hx hb dX1_copyOf_56 rfl (lv_at hl 0 rfl) ?_
  refine cgX1_3_clock F G dX1_copyOf_57 ?_
  refine lv_iload_n hx hb dX1_copyOf_60 rfl (lv_at hl 2 rfl) ?_
  refine lv_aload_n hx hb dX1_copyOf_61 rfl (lv_at hl 1 rfl) ?_
  refine cgX1_1_clock F G dX1_copyOf_62 ?_
  refine lv_iload_n hx hb dX1_copyOf_65 rfl (lv_at hl 2 rfl) ?_
  obtain ⟨b_32, h⟩ := h
  refine c_aaload F G cR_5 rfl b_32 dX1_copyOf_66 ?_
  obtain ⟨y_33, hy_33, h⟩ := h
  refine c_nn hy_33 ?_
  obtain ⟨κ_36, fs_37, q_38, z_39, h⟩ := h
  refine kvX1_another F G q_38 z_39 hl.1 ⟨(Nat.le_of_ble_eq_true rfl), (Nat.le_of_ble_eq_true rfl)⟩ ⟨show _ ≤ 7 by omega, show _ ≤ 14 by omega⟩ (Nat.le_of_ble_eq_true rfl) dX1_copyOf_67 h (fun y_34 S_35 H locs G h => ?_)
  obtain ⟨b_40, κ_43, fs_41, q_44, z_42, h⟩ := h
  refine c_aastore F G cR_7 rfl (p_any_R F G q_44 z_42) b_40 dX1_copyOf_70 (fun H locs G => ?_)
  exact wC1_copyOf_3_1_p71 F v2 (cR S_35 7 v2 (some y_34)) hK18 (cells + 1) (slots + 2) (by omega) (by omega) G (lv_sub hl [0, 1, 2] rfl) h
set_option maxHeartbeats 4000000 in
set_option maxRecDepth 100000 in
theorem wC1_copyOf_3_1_L18 {p : Program} {l : Launch} {e : Env} {s : State} {m : MethodId} {args : Array Value} {below : List Frame} {meth : Method} {c : Code} {D : va_G} {a : Nat → Nat} {d : Nat → ClassId} {A : Nat → Prop} {Q : CS → Prop}  (F : FC p s m meth c args D a d A RX1 cX1_copyOf 3 none)   :
    ∀ (n : Nat) (v2 : Int32) (S : CS) (H : Heap) (locs : List Loc) (ls : Array Slot) (cells slots : Nat), cells + n * 1 ≤ 7 → slots + n * 2 ≤ 14 → GC D a d A s.heap S H locs → lv_has ls 3 [(0, .ref (a 3)), (1, .ref (a 1)), (2, .int v2)] → C1_copyOf_3_1_L18 Q n v2 S → wCv p l e rmX1_copyOf_3_1 s m args below meth c D a d A Q 7 14 H locs cells slots (F0 m 18 ls []) := by
  obtain ⟨hx, hb, hr, hml, hown, hts, hlocks, hA, hK, hN⟩ := id F
  intro n
  induction n with
  | zero => intro v2 S H locs ls cells slots hc1 hc2 G hl h; exact absurd h (fun q => q)
  | succ n ih =>
    intro v2 S H locs ls cells slots hc1 hc2 G hl h
    unfold C1_copyOf_3_1_L18 at h
    refine lv_iload_n hx hb dX1_copyOf_18 rfl (lv_at hl 2 rfl) ?_
    refine lv_aload_n hx hb dX1_copyOf_19 rfl (lv_at hl 0 rfl) ?_
    refine cgX1_3_many F G dX1_copyOf_20 ?_
    refine lv_icmp_ge (tgt := 92) hx hb dX1_copyOf_23 (by decide) (fun c_1 => ?_) (fun c_1 => ?_)
    · replace h := h.1 c_1
      refine lv_aload_n hx hb dX1_copyOf_92 rfl (lv_at hl 1 rfl) ?_
      refine cgX1_1_bed F G dX1_copyOf_93 ?_
      refine lv_aload_n hx hb dX1_copyOf_96 rfl (lv_at hl 0 rfl) ?_
      refine cgX1_3_bed F G dX1_copyOf_97 ?_
      refine kX1_C0_copyRow_9_11 F G hl.1 ⟨(Nat.le_of_ble_eq_true rfl), (Nat.le_of_ble_eq_true rfl)⟩ ⟨show _ ≤ 7 by omega, show _ ≤ 14 by omega⟩ (Nat.le_of_ble_eq_true rfl) dX1_copyOf_100 h (fun S_3 H locs G h => ?_)
      refine lv_aload_n hx hb dX1_copyOf_103 rfl (lv_at hl 0 rfl) ?_
      refine lv_aload_n hx hb dX1_copyOf_104 rfl (lv_at hl 1 rfl) ?_
      refine cgX1_1_heard F G dX1_copyOf_105 ?_
      refine cpX1_3_heard F G dX1_copyOf_108 (fun H locs G => ?_)
      refine lv_aload_n hx hb dX1_copyOf_111 rfl (lv_at hl 0 rfl) ?_
      refine lv_aload_n hx hb dX1_copyOf_112 rfl (lv_at hl 1 rfl) ?_
      refine cgX1_1_missed F G dX1_copyOf_113 ?_
      refine cpX1_3_missed F G dX1_copyOf_116 (fun H locs G => ?_)
      refine lv_aload_n hx hb dX1_copyOf_119 rfl (lv_at hl 0 rfl) ?_
      refine lv_aload_n hx hb dX1_copyOf_120 rfl (lv_at hl 1 rfl) ?_
      refine cgX1_1_mistaken F G dX1_copyOf_121 ?_
      refine cpX1_3_mistaken F G dX1_copyOf_124 (fun H locs G => ?_)
      refine lv_aload_n hx hb dX1_copyOf_127 rfl (lv_at hl 0 rfl) ?_
      refine lv_aload_n hx hb dX1_copyOf_128 rfl (lv_at hl 1 rfl) ?_
      refine cgX1_1_minute F G dX1_copyOf_129 ?_
      refine cpX1_3_minute F G dX1_copyOf_132 (fun H locs G => ?_)
      refine lv_aload_n hx hb dX1_copyOf_135 rfl (lv_at hl 1 rfl) ?_
      refine cgX1_1_note F G dX1_copyOf_136 ?_
      refine lv_aload_n hx hb dX1_copyOf_139 rfl (lv_at hl 0 rfl) ?_
      refine cgX1_3_note F G dX1_copyOf_140 ?_
      refine kX1_C0_copyRow_13_15 F G hl.1 ⟨(Nat.le_of_ble_eq_true rfl), (Nat.le_of_ble_eq_true rfl)⟩ ⟨show _ ≤ 7 by omega, show _ ≤ 14 by omega⟩ (Nat.le_of_ble_eq_true rfl) dX1_copyOf_143 h (fun S_5 H locs G h => ?_)
      refine lv_aload_n hx hb dX1_copyOf_146 rfl (lv_at hl 0 rfl) ?_
      refine lv_aload_n hx hb dX1_copyOf_147 rfl (lv_at hl 1 rfl) ?_
      refine cgX1_1_notes F G dX1_copyOf_148 ?_
      refine cpX1_3_notes F G dX1_copyOf_151 (fun H locs G => ?_)
      refine lv_aload_n hx hb dX1_copyOf_154 rfl (lv_at hl 0 rfl) ?_
      refine lv_aload_n hx hb dX1_copyOf_155 rfl (lv_at hl 1 rfl) ?_
      refine cgX1_1_texts F G dX1_copyOf_156 ?_
      refine cpX1_3_texts F G dX1_copyOf_159 (fun H locs G => ?_)
      refine lv_aload_n hx hb dX1_copyOf_162 rfl (lv_at hl 1 rfl) ?_
      refine cgX1_1_text F G dX1_copyOf_163 ?_
      refine lv_iconst (v := 0) hx hb dX1_copyOf_166 (by decide) ?_
      refine lv_aload_n hx hb dX1_copyOf_167 rfl (lv_at hl 0 rfl) ?_
      refine cgX1_3_text F G dX1_copyOf_168 ?_
      refine lv_iconst (v := 0) hx hb dX1_copyOf_171 (by decide) ?_
      refine lv_bipush (v := 14) hx hb dX1_copyOf_172 (by decide) ?_
      obtain ⟨b_6, b_7, b_8, b_9, b_10, b_11, h⟩ := h
      refine c_copy_r_X1 F G cR_17 cR_19 hl.1 b_6 b_7 b_8 b_9 b_10 b_11 (Nat.le_of_ble_eq_true rfl) (by decide) dX1_copyOf_174 (fun H locs G => ?_)
      refine W.widen (k := 7) (n := 14) (by omega) (by omega) ?_
      exact c_vret F G dX1_copyOf_177 h
    · replace h := h.2 c_1
      refine lv_aload_n hx hb dX1_copyOf_26 rfl (lv_at hl 0 rfl) ?_
      refine cgX1_3_clock F G dX1_copyOf_27 ?_
      refine lv_iload_n hx hb dX1_copyOf_30 rfl (lv_at hl 2 rfl) ?_
      obtain ⟨b_12, h⟩ := h
      refine c_aaload F G cR_7 rfl b_12 dX1_copyOf_31 ?_
      refine c_ifnull (tgt := 56) hx hb dX1_copyOf_32 (by decide) (fun c_13 => ?_) (fun y_14 c_13 => ?_)
      · replace h := h.1 c_13
        exact wC1_copyOf_3_1_p56 F v2 S ih cells slots (by omega) (by omega) G (lv_sub hl [0, 1, 2] rfl) h
      · replace h := h.2 y_14 c_13
        refine lv_aload_n hx hb dX1_copyOf_35 rfl (lv_at hl 0 rfl) ?_
        refine cgX1_3_clock F G dX1_copyOf_36 ?_
        refine lv_iload_n hx hb dX1_copyOf_39 rfl (lv_at hl 2 rfl) ?_
        obtain ⟨b_15, h⟩ := h
        refine c_aaload F G cR_7 rfl b_15 dX1_copyOf_40 ?_
        obtain ⟨y_16, hy_16, h⟩ := h
        refine c_nn hy_16 ?_
        obtain ⟨κ_19, fs_20, q_21, z_22, h⟩ := h
        refine kvX1_kind F G q_21 z_22 hl.1 ⟨(Nat.le_of_ble_eq_true rfl), (Nat.le_of_ble_eq_true rfl)⟩ ⟨show _ ≤ 7 by omega, show _ ≤ 14 by omega⟩ (Nat.le_of_ble_eq_true rfl) dX1_copyOf_41 h (fun r_17 S_18 H locs G h => ?_)
        refine lv_aload_n hx hb dX1_copyOf_44 rfl (lv_at hl 1 rfl) ?_
        refine cgX1_1_clock F G dX1_copyOf_45 ?_
        refine lv_iload_n hx hb dX1_copyOf_48 rfl (lv_at hl 2 rfl) ?_
        obtain ⟨b_23, h⟩ := h
        refine c_aaload F G cR_5 rfl b_23 dX1_copyOf_49 ?_
        obtain ⟨y_24, hy_24, h⟩ := h
        refine c_nn hy_24 ?_
        obtain ⟨κ_27, fs_28, q_29, z_30, h⟩ := h
        refine kvX1_kind F G q_29 z_30 hl.1 ⟨(Nat.le_of_ble_eq_true rfl), (Nat.le_of_ble_eq_true rfl)⟩ ⟨show _ ≤ 7 by omega, show _ ≤ 14 by omega⟩ (Nat.le_of_ble_eq_true rfl) dX1_copyOf_50 h (fun r_25 S_26 H locs G h => ?_)
        refine lv_icmp_eq (tgt := 71) hx hb dX1_copyOf_53 (by decide) (fun c_31 => ?_) (fun c_31 => ?_)
        · replace h := h.1 c_31
          exact wC1_copyOf_3_1_p71 F v2 S_26 ih cells slots (by omega) (by omega) G (lv_sub hl [0, 1, 2] rfl) h
        · replace h := h.2 c_31
          exact wC1_copyOf_3_1_p56 F v2 S_26 ih cells slots (by omega) (by omega) G (lv_sub hl [0, 1, 2] rfl) h
set_option maxHeartbeats 4000000 in
set_option maxRecDepth 100000 in
theorem wC1_copyOf_3_1 {l : Launch} {D : va_G} {a : Nat → Nat} {d : Nat → ClassId} (sz : Nat)  (S : CS) (Q : CS → Prop) (h : C1_copyOf_3_1  S Q) : CMv l D a d yX1_copyOf cX1_copyOf 3 rmX1_copyOf_3_1 7 14 [.ref (a 3), .ref (a 1)] sz S Q := by
  refine c_enter (Qc := fun A => va_Qv Q (BC D a d A) A) RX1 (by decide +kernel) rfl (Nat.le_of_ble_eq_true rfl) ?_
  intro p e s m below meth c ls A hmn F hG hl
  have G := hG
  have hl : lv_has ls 3 [(0, .ref (a 3)), (1, .ref (a 1))] := hl
  obtain ⟨hx, hb, hr, hml, hown, hts, hlocks, hA, hK, hN⟩ := id F
  unfold C1_copyOf_3_1 at h
  refine lv_aload_n hx hb dX1_copyOf_0 rfl (lv_at hl 0 rfl) ?_
  refine lv_aload_n hx hb dX1_copyOf_1 rfl (lv_at hl 1 rfl) ?_
  refine cgX1_1_z F G dX1_copyOf_2 ?_
  refine cpX1_3_z F G dX1_copyOf_5 (fun H locs G => ?_)
  refine lv_aload_n hx hb dX1_copyOf_8 rfl (lv_at hl 0 rfl) ?_
  refine lv_aload_n hx hb dX1_copyOf_9 rfl (lv_at hl 1 rfl) ?_
  refine cgX1_1_many F G dX1_copyOf_10 ?_
  refine cpX1_3_many F G dX1_copyOf_13 (fun H locs G => ?_)
  refine lv_iconst (v := 0) hx hb dX1_copyOf_16 (by decide) ?_
  refine lv_istore_n (lv' := [(2, .int 0), (0, .ref (a 3)), (1, .ref (a 1))]) hx hb dX1_copyOf_17 rfl hl (by decide) rfl (fun ls hl => ?_)
  obtain ⟨k18, hk18, h⟩ := h
  exact wC1_copyOf_3_1_L18 F   k18 0 (cF (cF S 3 0 (S.1 1 0)) 3 1 ((cF S 3 0 (S.1 1 0)).1 1 1)) _ _ _ 0 0 (by omega) (by omega) G (lv_sub hl [1, 2, 0] rfl) h
set_option maxHeartbeats 4000000 in
set_option maxRecDepth 100000 in
theorem kX0_C1_copyOf_3_1 {p : Program} {l : Launch} {e : Env} {s : State} {m : MethodId} {R : Room} {args : Array Value} {below : List Frame} {meth : Method} {c : Code} {D : va_G} {a : Nat → Nat} {d : Nat → ClassId} {A : Nat → Prop} {Q : State → Prop} {cc : ByteArray} {nL pc cells slots : Nat} {ret : Option FieldType} {ls : Array Slot} {rest : List Value}  {S : CS} {H : Heap} {locs : List Loc} {Q1 : CS → Prop} (F : FC p s m meth c args D a d A RX0 cc nL ret) (G : GC D a d A s.heap S H locs) (hsz : ls.size = nL) (hR : rmX1_copyOf_3_1.frames + 1 ≤ R.frames ∧ 8 + (3 + 11) + rmX1_copyOf_3_1.locals ≤ R.locals) (hc : cells + 7 ≤ R.cells ∧ slots + 14 ≤ R.slots) (hW : (rest.map fun v => v.category).sum ≤ 8) (hd : decode cc pc = .ok (.invokevirtual 403, 3)) (h : C1_copyOf_3_1  S Q1) (k : ∀ (S1 : CS) (H : Heap) (locs : List Loc), GC D a d A s.heap S1 H locs → Q1 S1 → W p l e R s m args below meth c H locs (cells + 7) (slots + 14) Q (F0 m (pc + 3) ls rest)) : W p l e R s m args below meth c H locs cells slots Q (F0 m pc ls (.ref (a 1) :: .ref (a 3) :: rest)) := by
  obtain ⟨hx, hb, hr, hml, hown, hts, hlocks, hA, hK, hN⟩ := id F
  exact c_callv F G (va_runV (As := [.ref (a 1)]) (rest := rest) ⟨hx, hb, hml, hown, hts⟩ (wC1_copyOf_3_1 H.size  S Q1 h) (cwV 1 hts (lw_V q927 q928 q929 q83 q930) rfl rfl rfl (by decide +kernel) hR) ⟨PC_blind, va_recv hK G.1 (ci := 1) (q0 := 3) rfl rfl, c_pre F G⟩ rfl rfl hsz rfl (lv_room hW) hd hc) k
/-! StrokesHeard.copyRow -/
def C0_copyRow_10_9  (S : CS) (Q : CS → Prop) : Prop := ¬ (0 : Int32) < 0 ∧ ¬ (0 : Int32) < 0 ∧ ¬ (2 : Int32) < 0 ∧ (0 : Int32).toNatClampNeg + (2 : Int32).toNatClampNeg ≤ 2 ∧ (0 : Int32).toNatClampNeg + (2 : Int32).toNatClampNeg ≤ 2 ∧ (Q (u2 S.1 9 (va_cpy (S.1 10) (S.1 9) ((0 : Int32).toNatClampNeg) ((0 : Int32).toNatClampNeg) ((2 : Int32).toNatClampNeg)), S.2))
abbrev rmX0_copyRow_10_9 : Room := { frames := 1, cells := 0, slots := 0, locals := 40 }
set_option maxHeartbeats 4000000 in
set_option maxRecDepth 100000 in
theorem wC0_copyRow_10_9 {l : Launch} {D : va_G} {a : Nat → Nat} {d : Nat → ClassId} (sz : Nat)  (S : CS) (Q : CS → Prop) (h : C0_copyRow_10_9  S Q) : CMv l D a d yX0_copyRow cX0_copyRow 2 rmX0_copyRow_10_9 0 0 [.ref (a 10), .ref (a 9)] sz S Q := by
  refine c_enter (Qc := fun A => va_Qv Q (BC D a d A) A) RX0 (by decide +kernel) rfl (Nat.le_of_ble_eq_true rfl) ?_
  intro p e s m below meth c ls A hmn F hG hl
  have G := hG
  have hl : lv_has ls 2 [(0, .ref (a 10)), (1, .ref (a 9))] := hl
  obtain ⟨hx, hb, hr, hml, hown, hts, hlocks, hA, hK, hN⟩ := id F
  unfold C0_copyRow_10_9 at h
  refine lv_aload_n hx hb dX0_copyRow_0 rfl (lv_at hl 0 rfl) ?_
  refine lv_iconst (v := 0) hx hb dX0_copyRow_1 (by decide) ?_
  refine lv_aload_n hx hb dX0_copyRow_2 rfl (lv_at hl 1 rfl) ?_
  refine lv_iconst (v := 0) hx hb dX0_copyRow_3 (by decide) ?_
  refine lv_aload_n hx hb dX0_copyRow_4 rfl (lv_at hl 1 rfl) ?_
  refine c_len (v := 2) F G cI_9 ⟨_, rfl⟩ (by decide) dX0_copyRow_5 ?_
  obtain ⟨b_1, b_2, b_3, b_4, b_5, h⟩ := h
  refine c_copy_i_X0 F G cI_10 cI_9 hl.1 b_1 b_2 b_3 b_4 b_5 (Nat.le_of_ble_eq_true rfl) (by decide) dX0_copyRow_6 (fun H locs G => ?_)
  exact c_vret F G dX0_copyRow_9 h
set_option maxHeartbeats 4000000 in
set_option maxRecDepth 100000 in
theorem kX1_C0_copyRow_10_9 {p : Program} {l : Launch} {e : Env} {s : State} {m : MethodId} {R : Room} {args : Array Value} {below : List Frame} {meth : Method} {c : Code} {D : va_G} {a : Nat → Nat} {d : Nat → ClassId} {A : Nat → Prop} {Q : State → Prop} {cc : ByteArray} {nL pc cells slots : Nat} {ret : Option FieldType} {ls : Array Slot} {rest : List Value}  {S : CS} {H : Heap} {locs : List Loc} {Q1 : CS → Prop} (F : FC p s m meth c args D a d A RX1 cc nL ret) (G : GC D a d A s.heap S H locs) (hsz : ls.size = nL) (hR : rmX0_copyRow_10_9.frames + 1 ≤ R.frames ∧ 8 + (2 + 11) + rmX0_copyRow_10_9.locals ≤ R.locals) (hc : cells + 0 ≤ R.cells ∧ slots + 0 ≤ R.slots) (hW : (rest.map fun v => v.category).sum ≤ 8) (hd : decode cc pc = .ok (.invokestatic 49, 3)) (h : C0_copyRow_10_9  S Q1) (k : ∀ (S1 : CS) (H : Heap) (locs : List Loc), GC D a d A s.heap S1 H locs → Q1 S1 → W p l e R s m args below meth c H locs cells slots Q (F0 m (pc + 3) ls rest)) : W p l e R s m args below meth c H locs cells slots Q (F0 m pc ls (.ref (a 9) :: .ref (a 10) :: rest)) := by
  obtain ⟨hx, hb, hr, hml, hown, hts, hlocks, hA, hK, hN⟩ := id F
  exact c_callv F G (va_runSN (As := [.ref (a 10), .ref (a 9)]) (rest := rest) ⟨hx, hb, hml, hown, hts⟩ (wC0_copyRow_10_9 H.size  S Q1 h) ⟨va_cnB 2 hts (lw_meth q967) rfl rfl rfl (hN.1 _ (List.mem_of_getElem? (i := 33) rfl)) (hts _ q82) (by decide +kernel) hR, hts _ q966, trivial⟩ ⟨PC_blind, c_pre F G⟩ rfl rfl hsz rfl (lv_room hW) hd hc) k
/-! StrokesHeard.copyRow -/
def C0_copyRow_14_13  (S : CS) (Q : CS → Prop) : Prop := ¬ (0 : Int32) < 0 ∧ ¬ (0 : Int32) < 0 ∧ ¬ (12 : Int32) < 0 ∧ (0 : Int32).toNatClampNeg + (12 : Int32).toNatClampNeg ≤ 12 ∧ (0 : Int32).toNatClampNeg + (12 : Int32).toNatClampNeg ≤ 12 ∧ (Q (u2 S.1 13 (va_cpy (S.1 14) (S.1 13) ((0 : Int32).toNatClampNeg) ((0 : Int32).toNatClampNeg) ((12 : Int32).toNatClampNeg)), S.2))
abbrev rmX0_copyRow_14_13 : Room := { frames := 1, cells := 0, slots := 0, locals := 40 }
set_option maxHeartbeats 4000000 in
set_option maxRecDepth 100000 in
theorem wC0_copyRow_14_13 {l : Launch} {D : va_G} {a : Nat → Nat} {d : Nat → ClassId} (sz : Nat)  (S : CS) (Q : CS → Prop) (h : C0_copyRow_14_13  S Q) : CMv l D a d yX0_copyRow cX0_copyRow 2 rmX0_copyRow_14_13 0 0 [.ref (a 14), .ref (a 13)] sz S Q := by
  refine c_enter (Qc := fun A => va_Qv Q (BC D a d A) A) RX0 (by decide +kernel) rfl (Nat.le_of_ble_eq_true rfl) ?_
  intro p e s m below meth c ls A hmn F hG hl
  have G := hG
  have hl : lv_has ls 2 [(0, .ref (a 14)), (1, .ref (a 13))] := hl
  obtain ⟨hx, hb, hr, hml, hown, hts, hlocks, hA, hK, hN⟩ := id F
  unfold C0_copyRow_14_13 at h
  refine lv_aload_n hx hb dX0_copyRow_0 rfl (lv_at hl 0 rfl) ?_
  refine lv_iconst (v := 0) hx hb dX0_copyRow_1 (by decide) ?_
  refine lv_aload_n hx hb dX0_copyRow_2 rfl (lv_at hl 1 rfl) ?_
  refine lv_iconst (v := 0) hx hb dX0_copyRow_3 (by decide) ?_
  refine lv_aload_n hx hb dX0_copyRow_4 rfl (lv_at hl 1 rfl) ?_
  refine c_len (v := 12) F G cI_13 ⟨_, rfl⟩ (by decide) dX0_copyRow_5 ?_
  obtain ⟨b_1, b_2, b_3, b_4, b_5, h⟩ := h
  refine c_copy_i_X0 F G cI_14 cI_13 hl.1 b_1 b_2 b_3 b_4 b_5 (Nat.le_of_ble_eq_true rfl) (by decide) dX0_copyRow_6 (fun H locs G => ?_)
  exact c_vret F G dX0_copyRow_9 h
set_option maxHeartbeats 4000000 in
set_option maxRecDepth 100000 in
theorem kX1_C0_copyRow_14_13 {p : Program} {l : Launch} {e : Env} {s : State} {m : MethodId} {R : Room} {args : Array Value} {below : List Frame} {meth : Method} {c : Code} {D : va_G} {a : Nat → Nat} {d : Nat → ClassId} {A : Nat → Prop} {Q : State → Prop} {cc : ByteArray} {nL pc cells slots : Nat} {ret : Option FieldType} {ls : Array Slot} {rest : List Value}  {S : CS} {H : Heap} {locs : List Loc} {Q1 : CS → Prop} (F : FC p s m meth c args D a d A RX1 cc nL ret) (G : GC D a d A s.heap S H locs) (hsz : ls.size = nL) (hR : rmX0_copyRow_14_13.frames + 1 ≤ R.frames ∧ 8 + (2 + 11) + rmX0_copyRow_14_13.locals ≤ R.locals) (hc : cells + 0 ≤ R.cells ∧ slots + 0 ≤ R.slots) (hW : (rest.map fun v => v.category).sum ≤ 8) (hd : decode cc pc = .ok (.invokestatic 49, 3)) (h : C0_copyRow_14_13  S Q1) (k : ∀ (S1 : CS) (H : Heap) (locs : List Loc), GC D a d A s.heap S1 H locs → Q1 S1 → W p l e R s m args below meth c H locs cells slots Q (F0 m (pc + 3) ls rest)) : W p l e R s m args below meth c H locs cells slots Q (F0 m pc ls (.ref (a 13) :: .ref (a 14) :: rest)) := by
  obtain ⟨hx, hb, hr, hml, hown, hts, hlocks, hA, hK, hN⟩ := id F
  exact c_callv F G (va_runSN (As := [.ref (a 14), .ref (a 13)]) (rest := rest) ⟨hx, hb, hml, hown, hts⟩ (wC0_copyRow_14_13 H.size  S Q1 h) ⟨va_cnB 2 hts (lw_meth q967) rfl rfl rfl (hN.1 _ (List.mem_of_getElem? (i := 33) rfl)) (hts _ q82) (by decide +kernel) hR, hts _ q966, trivial⟩ ⟨PC_blind, c_pre F G⟩ rfl rfl hsz rfl (lv_room hW) hd hc) k
/-! StrokesHeard$State.copyOf -/
def C1_copyOf_1_2_p71 (Q : CS → Prop) (K18 : Int32 → CS → Prop) (v2 : Int32) (S : CS) : Prop := vp_in v2 6 ∧ (∃ y_46 : Nat, (S.2.1 5 v2.toNatClampNeg) = some y_46 ∧ (vp_in v2 6 ∧ (∃ y_48 : Nat, (S.2.1 6 v2.toNatClampNeg) = some y_48 ∧ (∃ (κ_51 : Nat) (fs_52 : List Value), κ_51 < 6 ∧ has S y_46 (.inr (6 + κ_51, fs_52)) ∧ CV_takes κ_51 y_46 y_48 S (fun S_50 => K18 (v2 + 1) S_50)))))
def C1_copyOf_1_2_p56 (Q : CS → Prop) (K18 : Int32 → CS → Prop) (v2 : Int32) (S : CS) : Prop := vp_in v2 6 ∧ (∃ y_33 : Nat, (S.2.1 6 v2.toNatClampNeg) = some y_33 ∧ (∃ (κ_36 : Nat) (fs_37 : List Value), κ_36 < 6 ∧ has S y_33 (.inr (6 + κ_36, fs_37)) ∧ CV_another κ_36 y_33 S (fun y_34 S_35 => vp_in v2 6 ∧ ∃ (κ_43 : Nat) (fs_41 : List Value), κ_43 < 6 ∧ has S_35 y_34 (.inr (6 + κ_43, fs_41)) ∧ (C1_copyOf_1_2_p71 Q K18 v2 (cR S_35 5 v2 (some y_34))))))
def C1_copyOf_1_2_L18 (Q : CS → Prop)   : Nat → Int32 → CS → Prop
  | 0, _, _ => False
  | n + 1, v2, S => ((S.1 1 1) ≤ v2 → C0_copyRow_10_9  S (fun S_3 => C0_copyRow_14_13  (cF (cF (cF (cF S_3 1 4 (S_3.1 2 4)) 1 5 ((cF S_3 1 4 (S_3.1 2 4)).1 2 5)) 1 6 ((cF (cF S_3 1 4 (S_3.1 2 4)) 1 5 ((cF S_3 1 4 (S_3.1 2 4)).1 2 5)).1 2 6)) 1 7 ((cF (cF (cF S_3 1 4 (S_3.1 2 4)) 1 5 ((cF S_3 1 4 (S_3.1 2 4)).1 2 5)) 1 6 ((cF (cF S_3 1 4 (S_3.1 2 4)) 1 5 ((cF S_3 1 4 (S_3.1 2 4)).1 2 5)).1 2 6)).1 2 7)) (fun S_5 => ¬ (0 : Int32) < 0 ∧ ¬ (0 : Int32) < 0 ∧ ¬ (14 : Int32) < 0 ∧ (0 : Int32).toNatClampNeg + (14 : Int32).toNatClampNeg ≤ 14 ∧ (0 : Int32).toNatClampNeg + (14 : Int32).toNatClampNeg ≤ 14 ∧ (∀ i : Nat, i < (14 : Int32).toNatClampNeg → ∀ y : Nat, (cF (cF S_5 1 9 (S_5.1 2 9)) 1 10 ((cF S_5 1 9 (S_5.1 2 9)).1 2 10)).2.1 18 ((0 : Int32).toNatClampNeg + i) = some y → ∃ fs, has (cF (cF S_5 1 9 (S_5.1 2 9)) 1 10 ((cF S_5 1 9 (S_5.1 2 9)).1 2 10)) y (.inr (13, fs))) ∧ (Q ((cF (cF S_5 1 9 (S_5.1 2 9)) 1 10 ((cF S_5 1 9 (S_5.1 2 9)).1 2 10)).1, u2 (cF (cF S_5 1 9 (S_5.1 2 9)) 1 10 ((cF S_5 1 9 (S_5.1 2 9)).1 2 10)).2.1 17 (va_cpy ((cF (cF S_5 1 9 (S_5.1 2 9)) 1 10 ((cF S_5 1 9 (S_5.1 2 9)).1 2 10)).2.1 18) ((cF (cF S_5 1 9 (S_5.1 2 9)) 1 10 ((cF S_5 1 9 (S_5.1 2 9)).1 2 10)).2.1 17) ((0 : Int32).toNatClampNeg) ((0 : Int32).toNatClampNeg) ((14 : Int32).toNatClampNeg)), (cF (cF S_5 1 9 (S_5.1 2 9)) 1 10 ((cF S_5 1 9 (S_5.1 2 9)).1 2 10)).2.2))))) ∧ (¬ (S.1 1 1) ≤ v2 → vp_in v2 6 ∧ (((S.2.1 5 v2.toNatClampNeg) = none → C1_copyOf_1_2_p56 Q (fun v2_ S_ => C1_copyOf_1_2_L18 Q n v2_ S_) v2 S) ∧ (∀ y_14 : Nat, (S.2.1 5 v2.toNatClampNeg) = some y_14 → vp_in v2 6 ∧ (∃ y_16 : Nat, (S.2.1 5 v2.toNatClampNeg) = some y_16 ∧ (∃ (κ_19 : Nat) (fs_20 : List Value), κ_19 < 6 ∧ has S y_16 (.inr (6 + κ_19, fs_20)) ∧ CV_kind κ_19 y_16 S (fun r_17 S_18 => vp_in v2 6 ∧ (∃ y_24 : Nat, (S_18.2.1 6 v2.toNatClampNeg) = some y_24 ∧ (∃ (κ_27 : Nat) (fs_28 : List Value), κ_27 < 6 ∧ has S_18 y_24 (.inr (6 + κ_27, fs_28)) ∧ CV_kind κ_27 y_24 S_18 (fun r_25 S_26 => (r_17 = r_25 → C1_copyOf_1_2_p71 Q (fun v2_ S_ => C1_copyOf_1_2_L18 Q n v2_ S_) v2 S_26) ∧ (¬ r_17 = r_25 → C1_copyOf_1_2_p56 Q (fun v2_ S_ => C1_copyOf_1_2_L18 Q n v2_ S_) v2 S_26))))))))))
def C1_copyOf_1_2  (S : CS) (Q : CS → Prop) : Prop := ∃ k18, k18 ≤ 7 ∧ C1_copyOf_1_2_L18 Q k18 0 (cF (cF S 1 0 (S.1 2 0)) 1 1 ((cF S 1 0 (S.1 2 0)).1 2 1))
abbrev rmX1_copyOf_1_2 : Room := { frames := 5, cells := 7, slots := 14, locals := 100 }
set_option maxHeartbeats 4000000 in
set_option maxRecDepth 100000 in
theorem wC1_copyOf_1_2_p71 {p : Program} {l : Launch} {e : Env} {s : State} {m : MethodId} {args : Array Value} {below : List Frame} {meth : Method} {c : Code} {D : va_G} {a : Nat → Nat} {d : Nat → ClassId} {A : Nat → Prop} {Q : CS → Prop} {K18 : Int32 → CS → Prop} (F : FC p s m meth c args D a d A RX1 cX1_copyOf 3 none) (v2 : Int32) (S : CS) {nn : Nat} (hK18 : ∀ (v2 : Int32) (S : CS) (H : Heap) (locs : List Loc) (ls : Array Slot) (cells slots : Nat), cells + nn * 1 ≤ 7 → slots + nn * 2 ≤ 14 → GC D a d A s.heap S H locs → lv_has ls 3 [(0, .ref (a 1)), (1, .ref (a 2)), (2, .int v2)] → K18 v2 S → wCv p l e rmX1_copyOf_1_2 s m args below meth c D a d A Q 7 14 H locs cells slots (F0 m 18 ls [])) (cells slots : Nat) (hc1 : cells + nn * 1 + 0 ≤ 7) (hc2 : slots + nn * 2 + 0 ≤ 14) {H : Heap} {locs : List Loc} {ls : Array Slot} (G : GC D a d A s.heap S H locs) (hl : lv_has ls 3 [(0, .ref (a 1)), (1, .ref (a 2)), (2, .int v2)]) (h : C1_copyOf_1_2_p71 Q K18 v2 S) : wCv p l e rmX1_copyOf_1_2 s m args below meth c D a d A Q 7 14 H locs cells slots (F0 m 71 ls []) := by
  obtain ⟨hx, hb, hr, hml, hown, hts, hlocks, hA, hK, hN⟩ := id F
  unfold C1_copyOf_1_2_p71 at h
  refine lv_aload_n hx hb dX1_copyOf_71 rfl (lv_at hl 0 rfl) ?_
  refine cgX1_1_clock F G dX1_copyOf_72 ?_
  refine lv_iload_n hx hb dX1_copyOf_75 rfl (lv_at hl 2 rfl) ?_
  obtain ⟨b_45, h⟩ := h
  refine c_aaload F G cR_5 rfl b_45 dX1_copyOf_76 ?_
  obtain ⟨y_46, hy_46, h⟩ := h
  refine c_nn hy_46 ?_
  refine lv_aload_n hx hb dX1_copyOf_77 rfl (lv_at hl 1 rfl) ?_
  refine cgX1_2_clock F G dX1_copyOf_78 ?_
  refine lv_iload_n hx hb dX1_copyOf_81 rfl (lv_at hl 2 rfl) ?_
  obtain ⟨b_47, h⟩ := h
  refine c_aaload F G cR_6 rfl b_47 dX1_copyOf_82 ?_
  obtain ⟨y_48, hy_48, h⟩ := h
  refine c_nn hy_48 ?_
  obtain ⟨κ_51, fs_52, q_53, z_54, h⟩ := h
  refine kvX1_takes F G q_53 z_54 hl.1 ⟨(Nat.le_of_ble_eq_true rfl), (Nat.le_of_ble_eq_true rfl)⟩ ⟨show _ ≤ 7 by omega, show _ ≤ 14 by omega⟩ (Nat.le_of_ble_eq_true rfl) dX1_copyOf_83 h (fun S_50 H locs G h => ?_)
  refine lv_iinc (v := (v2 + 1)) (lv' := [(2, .int (v2 + 1)), (0, .ref (a 1)), (1, .ref (a 2))]) hx hb dX1_copyOf_86 hl (k := 2) rfl rfl (by decide) rfl (fun ls hl => ?_)
  refine lv_goto (tgt := 18) hx hb dX1_copyOf_89 (by decide) ?_
  exact hK18 (v2 + 1) S_50 _ _ _ cells slots (by omega) (by omega) G (lv_sub hl [1, 2, 0] rfl) h
set_option maxHeartbeats 4000000 in
set_option maxRecDepth 100000 in
theorem wC1_copyOf_1_2_p56 {p : Program} {l : Launch} {e : Env} {s : State} {m : MethodId} {args : Array Value} {below : List Frame} {meth : Method} {c : Code} {D : va_G} {a : Nat → Nat} {d : Nat → ClassId} {A : Nat → Prop} {Q : CS → Prop} {K18 : Int32 → CS → Prop} (F : FC p s m meth c args D a d A RX1 cX1_copyOf 3 none) (v2 : Int32) (S : CS) {nn : Nat} (hK18 : ∀ (v2 : Int32) (S : CS) (H : Heap) (locs : List Loc) (ls : Array Slot) (cells slots : Nat), cells + nn * 1 ≤ 7 → slots + nn * 2 ≤ 14 → GC D a d A s.heap S H locs → lv_has ls 3 [(0, .ref (a 1)), (1, .ref (a 2)), (2, .int v2)] → K18 v2 S → wCv p l e rmX1_copyOf_1_2 s m args below meth c D a d A Q 7 14 H locs cells slots (F0 m 18 ls [])) (cells slots : Nat) (hc1 : cells + nn * 1 + 1 ≤ 7) (hc2 : slots + nn * 2 + 2 ≤ 14) {H : Heap} {locs : List Loc} {ls : Array Slot} (G : GC D a d A s.heap S H locs) (hl : lv_has ls 3 [(0, .ref (a 1)), (1, .ref (a 2)), (2, .int v2)]) (h : C1_copyOf_1_2_p56 Q K18 v2 S) : wCv p l e rmX1_copyOf_1_2 s m args below meth c D a d A Q 7 14 H locs cells slots (F0 m 56 ls []) := by
  obtain ⟨hx, hb, hr, hml, hown, hts, hlocks, hA, hK, hN⟩ := id F
  unfold C1_copyOf_1_2_p56 at h
  refine lv_aload_n hx hb dX1_copyOf_56 rfl (lv_at hl 0 rfl) ?_
  refine cgX1_1_clock F G dX1_copyOf_57 ?_
  refine lv_iload_n hx hb dX1_copyOf_60 rfl (lv_at hl 2 rfl) ?_
  refine lv_aload_n hx hb dX1_copyOf_61 rfl (lv_at hl 1 rfl) ?_
  refine cgX1_2_clock F G dX1_copyOf_62 ?_
  refine lv_iload_n hx hb dX1_copyOf_65 rfl (lv_at hl 2 rfl) ?_
  obtain ⟨b_32, h⟩ := h
  refine c_aaload F G cR_6 rfl b_32 dX1_copyOf_66 ?_
  obtain ⟨y_33, hy_33, h⟩ := h
  refine c_nn hy_33 ?_
  obtain ⟨κ_36, fs_37, q_38, z_39, h⟩ := h
  refine kvX1_another F G q_38 z_39 hl.1 ⟨(Nat.le_of_ble_eq_true rfl), (Nat.le_of_ble_eq_true rfl)⟩ ⟨show _ ≤ 7 by omega, show _ ≤ 14 by omega⟩ (Nat.le_of_ble_eq_true rfl) dX1_copyOf_67 h (fun y_34 S_35 H locs G h => ?_)
  obtain ⟨b_40, κ_43, fs_41, q_44, z_42, h⟩ := h
  refine c_aastore F G cR_5 rfl (p_any_R F G q_44 z_42) b_40 dX1_copyOf_70 (fun H locs G => ?_)
  exact wC1_copyOf_1_2_p71 F v2 (cR S_35 5 v2 (some y_34)) hK18 (cells + 1) (slots + 2) (by omega) (by omega) G (lv_sub hl [0, 1, 2] rfl) h
set_option maxHeartbeats 4000000 in
set_option maxRecDepth 100000 in
theorem wC1_copyOf_1_2_L18 {p : Program} {l : Launch} {e : Env} {s : State} {m : MethodId} {args : Array Value} {below : List Frame} {meth : Method} {c : Code} {D : va_G} {a : Nat → Nat} {d : Nat → ClassId} {A : Nat → Prop} {Q : CS → Prop}  (F : FC p s m meth c args D a d A RX1 cX1_copyOf 3 none)   :
    ∀ (n : Nat) (v2 : Int32) (S : CS) (H : Heap) (locs : List Loc) (ls : Array Slot) (cells slots : Nat), cells + n * 1 ≤ 7 → slots + n * 2 ≤ 14 → GC D a d A s.heap S H locs → lv_has ls 3 [(0, .ref (a 1)), (1, .ref (a 2)), (2, .int v2)] → C1_copyOf_1_2_L18 Q n v2 S → wCv p l e rmX1_copyOf_1_2 s m args below meth c D a d A Q 7 14 H locs cells slots (F0 m 18 ls []) := by
  obtain ⟨hx, hb, hr, hml, hown, hts, hlocks, hA, hK, hN⟩ := id F
  intro n
  induction n with
  | zero => intro v2 S H locs ls cells slots hc1 hc2 G hl h; exact absurd h (fun q => q)
  | succ n ih =>
    intro v2 S H locs ls cells slots hc1 hc2 G hl h
    unfold C1_copyOf_1_2_L18 at h
    refine lv_iload_n hx hb dX1_copyOf_18 rfl (lv_at hl 2 rfl) ?_
    refine lv_aload_n hx hb dX1_copyOf_19 rfl (lv_at hl 0 rfl) ?_
    refine cgX1_1_many F G dX1_copyOf_20 ?_
    refine lv_icmp_ge (tgt := 92) hx hb dX1_copyOf_23 (by decide) (fun c_1 => ?_) (fun c_1 => ?_)
    · replace h := h.1 c_1
      refine lv_aload_n hx hb dX1_copyOf_92 rfl (lv_at hl 1 rfl) ?_
      refine cgX1_2_bed F G dX1_copyOf_93 ?_
      refine lv_aload_n hx hb dX1_copyOf_96 rfl (lv_at hl 0 rfl) ?_
      refine cgX1_1_bed F G dX1_copyOf_97 ?_
      refine kX1_C0_copyRow_10_9 F G hl.1 ⟨(Nat.le_of_ble_eq_true rfl), (Nat.le_of_ble_eq_true rfl)⟩ ⟨show _ ≤ 7 by omega, show _ ≤ 14 by omega⟩ (Nat.le_of_ble_eq_true rfl) dX1_copyOf_100 h (fun S_3 H locs G h => ?_)
      refine lv_aload_n hx hb dX1_copyOf_103 rfl (lv_at hl 0 rfl) ?_
      refine lv_aload_n hx hb dX1_copyOf_104 rfl (lv_at hl 1 rfl) ?_
      refine cgX1_2_heard F G dX1_copyOf_105 ?_
      refine cpX1_1_heard F G dX1_copyOf_108 (fun H locs G => ?_)
      refine lv_aload_n hx hb dX1_copyOf_111 rfl (lv_at hl 0 rfl) ?_
      refine lv_aload_n hx hb dX1_copyOf_112 rfl (lv_at hl 1 rfl) ?_
      refine cgX1_2_missed F G dX1_copyOf_113 ?_
      refine cpX1_1_missed F G dX1_copyOf_116 (fun H locs G => ?_)
      refine lv_aload_n hx hb dX1_copyOf_119 rfl (lv_at hl 0 rfl) ?_
      refine lv_aload_n hx hb dX1_copyOf_120 rfl (lv_at hl 1 rfl) ?_
      refine cgX1_2_mistaken F G dX1_copyOf_121 ?_
      refine cpX1_1_mistaken F G dX1_copyOf_124 (fun H locs G => ?_)
      refine lv_aload_n hx hb dX1_copyOf_127 rfl (lv_at hl 0 rfl) ?_
      refine lv_aload_n hx hb dX1_copyOf_128 rfl (lv_at hl 1 rfl) ?_
      refine cgX1_2_minute F G dX1_copyOf_129 ?_
      refine cpX1_1_minute F G dX1_copyOf_132 (fun H locs G => ?_)
      refine lv_aload_n hx hb dX1_copyOf_135 rfl (lv_at hl 1 rfl) ?_
      refine cgX1_2_note F G dX1_copyOf_136 ?_
      refine lv_aload_n hx hb dX1_copyOf_139 rfl (lv_at hl 0 rfl) ?_
      refine cgX1_1_note F G dX1_copyOf_140 ?_
      refine kX1_C0_copyRow_14_13 F G hl.1 ⟨(Nat.le_of_ble_eq_true rfl), (Nat.le_of_ble_eq_true rfl)⟩ ⟨show _ ≤ 7 by omega, show _ ≤ 14 by omega⟩ (Nat.le_of_ble_eq_true rfl) dX1_copyOf_143 h (fun S_5 H locs G h => ?_)
      refine lv_aload_n hx hb dX1_copyOf_146 rfl (lv_at hl 0 rfl) ?_
      refine lv_aload_n hx hb dX1_copyOf_147 rfl (lv_at hl 1 rfl) ?_
      refine cgX1_2_notes F G dX1_copyOf_148 ?_
      refine cpX1_1_notes F G dX1_copyOf_151 (fun H locs G => ?_)
      refine lv_aload_n hx hb dX1_copyOf_154 rfl (lv_at hl 0 rfl) ?_
      refine lv_aload_n hx hb dX1_copyOf_155 rfl (lv_at hl 1 rfl) ?_
      refine cgX1_2_texts F G dX1_copyOf_156 ?_
      refine cpX1_1_texts F G dX1_copyOf_159 (fun H locs G => ?_)
      refine lv_aload_n hx hb dX1_copyOf_162 rfl (lv_at hl 1 rfl) ?_
      refine cgX1_2_text F G dX1_copyOf_163 ?_
      refine lv_iconst (v := 0) hx hb dX1_copyOf_166 (by decide) ?_
      refine lv_aload_n hx hb dX1_copyOf_167 rfl (lv_at hl 0 rfl) ?_
      refine cgX1_1_text F G dX1_copyOf_168 ?_
      refine lv_iconst (v := 0) hx hb dX1_copyOf_171 (by decide) ?_
      refine lv_bipush (v := 14) hx hb dX1_copyOf_172 (by decide) ?_
      obtain ⟨b_6, b_7, b_8, b_9, b_10, b_11, h⟩ := h
      refine c_copy_r_X1 F G cR_18 cR_17 hl.1 b_6 b_7 b_8 b_9 b_10 b_11 (Nat.le_of_ble_eq_true rfl) (by decide) dX1_copyOf_174 (fun H locs G => ?_)
      refine W.widen (k := 7) (n := 14) (by omega) (by omega) ?_
      exact c_vret F G dX1_copyOf_177 h
    · replace h := h.2 c_1
      refine lv_aload_n hx hb dX1_copyOf_26 rfl (lv_at hl 0 rfl) ?_
      refine cgX1_1_clock F G dX1_copyOf_27 ?_
      refine lv_iload_n hx hb dX1_copyOf_30 rfl (lv_at hl 2 rfl) ?_
      obtain ⟨b_12, h⟩ := h
      refine c_aaload F G cR_5 rfl b_12 dX1_copyOf_31 ?_
      refine c_ifnull (tgt := 56) hx hb dX1_copyOf_32 (by decide) (fun c_13 => ?_) (fun y_14 c_13 => ?_)
      · replace h := h.1 c_13
        exact wC1_copyOf_1_2_p56 F v2 S ih cells slots (by omega) (by omega) G (lv_sub hl [0, 1, 2] rfl) h
      · replace h := h.2 y_14 c_13
        refine lv_aload_n hx hb dX1_copyOf_35 rfl (lv_at hl 0 rfl) ?_
        refine cgX1_1_clock F G dX1_copyOf_36 ?_
        refine lv_iload_n hx hb dX1_copyOf_39 rfl (lv_at hl 2 rfl) ?_
        obtain ⟨b_15, h⟩ := h
        refine c_aaload F G cR_5 rfl b_15 dX1_copyOf_40 ?_
        obtain ⟨y_16, hy_16, h⟩ := h
        refine c_nn hy_16 ?_
        obtain ⟨κ_19, fs_20, q_21, z_22, h⟩ := h
        refine kvX1_kind F G q_21 z_22 hl.1 ⟨(Nat.le_of_ble_eq_true rfl), (Nat.le_of_ble_eq_true rfl)⟩ ⟨show _ ≤ 7 by omega, show _ ≤ 14 by omega⟩ (Nat.le_of_ble_eq_true rfl) dX1_copyOf_41 h (fun r_17 S_18 H locs G h => ?_)
        refine lv_aload_n hx hb dX1_copyOf_44 rfl (lv_at hl 1 rfl) ?_
        refine cgX1_2_clock F G dX1_copyOf_45 ?_
        refine lv_iload_n hx hb dX1_copyOf_48 rfl (lv_at hl 2 rfl) ?_
        obtain ⟨b_23, h⟩ := h
        refine c_aaload F G cR_6 rfl b_23 dX1_copyOf_49 ?_
        obtain ⟨y_24, hy_24, h⟩ := h
        refine c_nn hy_24 ?_
        obtain ⟨κ_27, fs_28, q_29, z_30, h⟩ := h
        refine kvX1_kind F G q_29 z_30 hl.1 ⟨(Nat.le_of_ble_eq_true rfl), (Nat.le_of_ble_eq_true rfl)⟩ ⟨show _ ≤ 7 by omega, show _ ≤ 14 by omega⟩ (Nat.le_of_ble_eq_true rfl) dX1_copyOf_50 h (fun r_25 S_26 H locs G h => ?_)
        refine lv_icmp_eq (tgt := 71) hx hb dX1_copyOf_53 (by decide) (fun c_31 => ?_) (fun c_31 => ?_)
        · replace h := h.1 c_31
          exact wC1_copyOf_1_2_p71 F v2 S_26 ih cells slots (by omega) (by omega) G (lv_sub hl [0, 1, 2] rfl) h
        · replace h := h.2 c_31
          exact wC1_copyOf_1_2_p56 F v2 S_26 ih cells slots (by omega) (by omega) G (lv_sub hl [0, 1, 2] rfl) h
set_option maxHeartbeats 4000000 in
set_option maxRecDepth 100000 in
theorem wC1_copyOf_1_2 {l : Launch} {D : va_G} {a : Nat → Nat} {d : Nat → ClassId} (sz : Nat)  (S : CS) (Q : CS → Prop) (h : C1_copyOf_1_2  S Q) : CMv l D a d yX1_copyOf cX1_copyOf 3 rmX1_copyOf_1_2 7 14 [.ref (a 1), .ref (a 2)] sz S Q := by
  refine c_enter (Qc := fun A => va_Qv Q (BC D a d A) A) RX1 (by decide +kernel) rfl (Nat.le_of_ble_eq_true rfl) ?_
  intro p e s m below meth c ls A hmn F hG hl
  have G := hG
  have hl : lv_has ls 3 [(0, .ref (a 1)), (1, .ref (a 2))] := hl
  obtain ⟨hx, hb, hr, hml, hown, hts, hlocks, hA, hK, hN⟩ := id F
  unfold C1_copyOf_1_2 at h
  refine lv_aload_n hx hb dX1_copyOf_0 rfl (lv_at hl 0 rfl) ?_
  refine lv_aload_n hx hb dX1_copyOf_1 rfl (lv_at hl 1 rfl) ?_
  refine cgX1_2_z F G dX1_copyOf_2 ?_
  refine cpX1_1_z F G dX1_copyOf_5 (fun H locs G => ?_)
  refine lv_aload_n hx hb dX1_copyOf_8 rfl (lv_at hl 0 rfl) ?_
  refine lv_aload_n hx hb dX1_copyOf_9 rfl (lv_at hl 1 rfl) ?_
  refine cgX1_2_many F G dX1_copyOf_10 ?_
  refine cpX1_1_many F G dX1_copyOf_13 (fun H locs G => ?_)
  refine lv_iconst (v := 0) hx hb dX1_copyOf_16 (by decide) ?_
  refine lv_istore_n (lv' := [(2, .int 0), (0, .ref (a 1)), (1, .ref (a 2))]) hx hb dX1_copyOf_17 rfl hl (by decide) rfl (fun ls hl => ?_)
  obtain ⟨k18, hk18, h⟩ := h
  exact wC1_copyOf_1_2_L18 F   k18 0 (cF (cF S 1 0 (S.1 2 0)) 1 1 ((cF S 1 0 (S.1 2 0)).1 2 1)) _ _ _ 0 0 (by omega) (by omega) G (lv_sub hl [1, 2, 0] rfl) h
set_option maxHeartbeats 4000000 in
set_option maxRecDepth 100000 in
theorem kX0_C1_copyOf_1_2 {p : Program} {l : Launch} {e : Env} {s : State} {m : MethodId} {R : Room} {args : Array Value} {below : List Frame} {meth : Method} {c : Code} {D : va_G} {a : Nat → Nat} {d : Nat → ClassId} {A : Nat → Prop} {Q : State → Prop} {cc : ByteArray} {nL pc cells slots : Nat} {ret : Option FieldType} {ls : Array Slot} {rest : List Value}  {S : CS} {H : Heap} {locs : List Loc} {Q1 : CS → Prop} (F : FC p s m meth c args D a d A RX0 cc nL ret) (G : GC D a d A s.heap S H locs) (hsz : ls.size = nL) (hR : rmX1_copyOf_1_2.frames + 1 ≤ R.frames ∧ 8 + (3 + 11) + rmX1_copyOf_1_2.locals ≤ R.locals) (hc : cells + 7 ≤ R.cells ∧ slots + 14 ≤ R.slots) (hW : (rest.map fun v => v.category).sum ≤ 8) (hd : decode cc pc = .ok (.invokevirtual 403, 3)) (h : C1_copyOf_1_2  S Q1) (k : ∀ (S1 : CS) (H : Heap) (locs : List Loc), GC D a d A s.heap S1 H locs → Q1 S1 → W p l e R s m args below meth c H locs (cells + 7) (slots + 14) Q (F0 m (pc + 3) ls rest)) : W p l e R s m args below meth c H locs cells slots Q (F0 m pc ls (.ref (a 2) :: .ref (a 1) :: rest)) := by
  obtain ⟨hx, hb, hr, hml, hown, hts, hlocks, hA, hK, hN⟩ := id F
  exact c_callv F G (va_runV (As := [.ref (a 2)]) (rest := rest) ⟨hx, hb, hml, hown, hts⟩ (wC1_copyOf_1_2 H.size  S Q1 h) (cwV 1 hts (lw_V q927 q928 q929 q83 q930) rfl rfl rfl (by decide +kernel) hR) ⟨PC_blind, va_recv hK G.1 (ci := 1) (q0 := 1) rfl rfl, c_pre F G⟩ rfl rfl hsz rfl (lv_room hW) hd hc) k
/-! StrokesHeard.copyRow -/
def C0_copyRow_11_9  (S : CS) (Q : CS → Prop) : Prop := ¬ (0 : Int32) < 0 ∧ ¬ (0 : Int32) < 0 ∧ ¬ (2 : Int32) < 0 ∧ (0 : Int32).toNatClampNeg + (2 : Int32).toNatClampNeg ≤ 2 ∧ (0 : Int32).toNatClampNeg + (2 : Int32).toNatClampNeg ≤ 2 ∧ (Q (u2 S.1 9 (va_cpy (S.1 11) (S.1 9) ((0 : Int32).toNatClampNeg) ((0 : Int32).toNatClampNeg) ((2 : Int32).toNatClampNeg)), S.2))
abbrev rmX0_copyRow_11_9 : Room := { frames := 1, cells := 0, slots := 0, locals := 40 }
set_option maxHeartbeats 4000000 in
set_option maxRecDepth 100000 in
theorem wC0_copyRow_11_9 {l : Launch} {D : va_G} {a : Nat → Nat} {d : Nat → ClassId} (sz : Nat)  (S : CS) (Q : CS → Prop) (h : C0_copyRow_11_9  S Q) : CMv l D a d yX0_copyRow cX0_copyRow 2 rmX0_copyRow_11_9 0 0 [.ref (a 11), .ref (a 9)] sz S Q := by
  refine c_enter (Qc := fun A => va_Qv Q (BC D a d A) A) RX0 (by decide +kernel) rfl (Nat.le_of_ble_eq_true rfl) ?_
  intro p e s m below meth c ls A hmn F hG hl
  have G := hG
  have hl : lv_has ls 2 [(0, .ref (a 11)), (1, .ref (a 9))] := hl
  obtain ⟨hx, hb, hr, hml, hown, hts, hlocks, hA, hK, hN⟩ := id F
  unfold C0_copyRow_11_9 at h
  refine lv_aload_n hx hb dX0_copyRow_0 rfl (lv_at hl 0 rfl) ?_
  refine lv_iconst (v := 0) hx hb dX0_copyRow_1 (by decide) ?_
  refine lv_aload_n hx hb dX0_copyRow_2 rfl (lv_at hl 1 rfl) ?_
  refine lv_iconst (v := 0) hx hb dX0_copyRow_3 (by decide) ?_
  refine lv_aload_n hx hb dX0_copyRow_4 rfl (lv_at hl 1 rfl) ?_
  refine c_len (v := 2) F G cI_9 ⟨_, rfl⟩ (by decide) dX0_copyRow_5 ?_
  obtain ⟨b_1, b_2, b_3, b_4, b_5, h⟩ := h
  refine c_copy_i_X0 F G cI_11 cI_9 hl.1 b_1 b_2 b_3 b_4 b_5 (Nat.le_of_ble_eq_true rfl) (by decide) dX0_copyRow_6 (fun H locs G => ?_)
  exact c_vret F G dX0_copyRow_9 h
set_option maxHeartbeats 4000000 in
set_option maxRecDepth 100000 in
theorem kX1_C0_copyRow_11_9 {p : Program} {l : Launch} {e : Env} {s : State} {m : MethodId} {R : Room} {args : Array Value} {below : List Frame} {meth : Method} {c : Code} {D : va_G} {a : Nat → Nat} {d : Nat → ClassId} {A : Nat → Prop} {Q : State → Prop} {cc : ByteArray} {nL pc cells slots : Nat} {ret : Option FieldType} {ls : Array Slot} {rest : List Value}  {S : CS} {H : Heap} {locs : List Loc} {Q1 : CS → Prop} (F : FC p s m meth c args D a d A RX1 cc nL ret) (G : GC D a d A s.heap S H locs) (hsz : ls.size = nL) (hR : rmX0_copyRow_11_9.frames + 1 ≤ R.frames ∧ 8 + (2 + 11) + rmX0_copyRow_11_9.locals ≤ R.locals) (hc : cells + 0 ≤ R.cells ∧ slots + 0 ≤ R.slots) (hW : (rest.map fun v => v.category).sum ≤ 8) (hd : decode cc pc = .ok (.invokestatic 49, 3)) (h : C0_copyRow_11_9  S Q1) (k : ∀ (S1 : CS) (H : Heap) (locs : List Loc), GC D a d A s.heap S1 H locs → Q1 S1 → W p l e R s m args below meth c H locs cells slots Q (F0 m (pc + 3) ls rest)) : W p l e R s m args below meth c H locs cells slots Q (F0 m pc ls (.ref (a 9) :: .ref (a 11) :: rest)) := by
  obtain ⟨hx, hb, hr, hml, hown, hts, hlocks, hA, hK, hN⟩ := id F
  exact c_callv F G (va_runSN (As := [.ref (a 11), .ref (a 9)]) (rest := rest) ⟨hx, hb, hml, hown, hts⟩ (wC0_copyRow_11_9 H.size  S Q1 h) ⟨va_cnB 2 hts (lw_meth q967) rfl rfl rfl (hN.1 _ (List.mem_of_getElem? (i := 33) rfl)) (hts _ q82) (by decide +kernel) hR, hts _ q966, trivial⟩ ⟨PC_blind, c_pre F G⟩ rfl rfl hsz rfl (lv_room hW) hd hc) k
/-! StrokesHeard.copyRow -/
def C0_copyRow_15_13  (S : CS) (Q : CS → Prop) : Prop := ¬ (0 : Int32) < 0 ∧ ¬ (0 : Int32) < 0 ∧ ¬ (12 : Int32) < 0 ∧ (0 : Int32).toNatClampNeg + (12 : Int32).toNatClampNeg ≤ 12 ∧ (0 : Int32).toNatClampNeg + (12 : Int32).toNatClampNeg ≤ 12 ∧ (Q (u2 S.1 13 (va_cpy (S.1 15) (S.1 13) ((0 : Int32).toNatClampNeg) ((0 : Int32).toNatClampNeg) ((12 : Int32).toNatClampNeg)), S.2))
abbrev rmX0_copyRow_15_13 : Room := { frames := 1, cells := 0, slots := 0, locals := 40 }
set_option maxHeartbeats 4000000 in
set_option maxRecDepth 100000 in
theorem wC0_copyRow_15_13 {l : Launch} {D : va_G} {a : Nat → Nat} {d : Nat → ClassId} (sz : Nat)  (S : CS) (Q : CS → Prop) (h : C0_copyRow_15_13  S Q) : CMv l D a d yX0_copyRow cX0_copyRow 2 rmX0_copyRow_15_13 0 0 [.ref (a 15), .ref (a 13)] sz S Q := by
  refine c_enter (Qc := fun A => va_Qv Q (BC D a d A) A) RX0 (by decide +kernel) rfl (Nat.le_of_ble_eq_true rfl) ?_
  intro p e s m below meth c ls A hmn F hG hl
  have G := hG
  have hl : lv_has ls 2 [(0, .ref (a 15)), (1, .ref (a 13))] := hl
  obtain ⟨hx, hb, hr, hml, hown, hts, hlocks, hA, hK, hN⟩ := id F
  unfold C0_copyRow_15_13 at h
  refine lv_aload_n hx hb dX0_copyRow_0 rfl (lv_at hl 0 rfl) ?_
  refine lv_iconst (v := 0) hx hb dX0_copyRow_1 (by decide) ?_
  refine lv_aload_n hx hb dX0_copyRow_2 rfl (lv_at hl 1 rfl) ?_
  refine lv_iconst (v := 0) hx hb dX0_copyRow_3 (by decide) ?_
  refine lv_aload_n hx hb dX0_copyRow_4 rfl (lv_at hl 1 rfl) ?_
  refine c_len (v := 12) F G cI_13 ⟨_, rfl⟩ (by decide) dX0_copyRow_5 ?_
  obtain ⟨b_1, b_2, b_3, b_4, b_5, h⟩ := h
  refine c_copy_i_X0 F G cI_15 cI_13 hl.1 b_1 b_2 b_3 b_4 b_5 (Nat.le_of_ble_eq_true rfl) (by decide) dX0_copyRow_6 (fun H locs G => ?_)
  exact c_vret F G dX0_copyRow_9 h
set_option maxHeartbeats 4000000 in
set_option maxRecDepth 100000 in
theorem kX1_C0_copyRow_15_13 {p : Program} {l : Launch} {e : Env} {s : State} {m : MethodId} {R : Room} {args : Array Value} {below : List Frame} {meth : Method} {c : Code} {D : va_G} {a : Nat → Nat} {d : Nat → ClassId} {A : Nat → Prop} {Q : State → Prop} {cc : ByteArray} {nL pc cells slots : Nat} {ret : Option FieldType} {ls : Array Slot} {rest : List Value}  {S : CS} {H : Heap} {locs : List Loc} {Q1 : CS → Prop} (F : FC p s m meth c args D a d A RX1 cc nL ret) (G : GC D a d A s.heap S H locs) (hsz : ls.size = nL) (hR : rmX0_copyRow_15_13.frames + 1 ≤ R.frames ∧ 8 + (2 + 11) + rmX0_copyRow_15_13.locals ≤ R.locals) (hc : cells + 0 ≤ R.cells ∧ slots + 0 ≤ R.slots) (hW : (rest.map fun v => v.category).sum ≤ 8) (hd : decode cc pc = .ok (.invokestatic 49, 3)) (h : C0_copyRow_15_13  S Q1) (k : ∀ (S1 : CS) (H : Heap) (locs : List Loc), GC D a d A s.heap S1 H locs → Q1 S1 → W p l e R s m args below meth c H locs cells slots Q (F0 m (pc + 3) ls rest)) : W p l e R s m args below meth c H locs cells slots Q (F0 m pc ls (.ref (a 13) :: .ref (a 15) :: rest)) := by
  obtain ⟨hx, hb, hr, hml, hown, hts, hlocks, hA, hK, hN⟩ := id F
  exact c_callv F G (va_runSN (As := [.ref (a 15), .ref (a 13)]) (rest := rest) ⟨hx, hb, hml, hown, hts⟩ (wC0_copyRow_15_13 H.size  S Q1 h) ⟨va_cnB 2 hts (lw_meth q967) rfl rfl rfl (hN.1 _ (List.mem_of_getElem? (i := 33) rfl)) (hts _ q82) (by decide +kernel) hR, hts _ q966, trivial⟩ ⟨PC_blind, c_pre F G⟩ rfl rfl hsz rfl (lv_room hW) hd hc) k
/-! StrokesHeard$State.copyOf -/
def C1_copyOf_1_3_p71 (Q : CS → Prop) (K18 : Int32 → CS → Prop) (v2 : Int32) (S : CS) : Prop := vp_in v2 6 ∧ (∃ y_46 : Nat, (S.2.1 5 v2.toNatClampNeg) = some y_46 ∧ (vp_in v2 6 ∧ (∃ y_48 : Nat, (S.2.1 7 v2.toNatClampNeg) = some y_48 ∧ (∃ (κ_51 : Nat) (fs_52 : List Value), κ_51 < 6 ∧ has S y_46 (.inr (6 + κ_51, fs_52)) ∧ CV_takes κ_51 y_46 y_48 S (fun S_50 => K18 (v2 + 1) S_50)))))
def C1_copyOf_1_3_p56 (Q : CS → Prop) (K18 : Int32 → CS → Prop) (v2 : Int32) (S : CS) : Prop := vp_in v2 6 ∧ (∃ y_33 : Nat, (S.2.1 7 v2.toNatClampNeg) = some y_33 ∧ (∃ (κ_36 : Nat) (fs_37 : List Value), κ_36 < 6 ∧ has S y_33 (.inr (6 + κ_36, fs_37)) ∧ CV_another κ_36 y_33 S (fun y_34 S_35 => vp_in v2 6 ∧ ∃ (κ_43 : Nat) (fs_41 : List Value), κ_43 < 6 ∧ has S_35 y_34 (.inr (6 + κ_43, fs_41)) ∧ (C1_copyOf_1_3_p71 Q K18 v2 (cR S_35 5 v2 (some y_34))))))
def C1_copyOf_1_3_L18 (Q : CS → Prop)   : Nat → Int32 → CS → Prop
  | 0, _, _ => False
  | n + 1, v2, S => ((S.1 1 1) ≤ v2 → C0_copyRow_11_9  S (fun S_3 => C0_copyRow_15_13  (cF (cF (cF (cF S_3 1 4 (S_3.1 3 4)) 1 5 ((cF S_3 1 4 (S_3.1 3 4)).1 3 5)) 1 6 ((cF (cF S_3 1 4 (S_3.1 3 4)) 1 5 ((cF S_3 1 4 (S_3.1 3 4)).1 3 5)).1 3 6)) 1 7 ((cF (cF (cF S_3 1 4 (S_3.1 3 4)) 1 5 ((cF S_3 1 4 (S_3.1 3 4)).1 3 5)) 1 6 ((cF (cF S_3 1 4 (S_3.1 3 4)) 1 5 ((cF S_3 1 4 (S_3.1 3 4)).1 3 5)).1 3 6)).1 3 7)) (fun S_5 => ¬ (0 : Int32) < 0 ∧ ¬ (0 : Int32) < 0 ∧ ¬ (14 : Int32) < 0 ∧ (0 : Int32).toNatClampNeg + (14 : Int32).toNatClampNeg ≤ 14 ∧ (0 : Int32).toNatClampNeg + (14 : Int32).toNatClampNeg ≤ 14 ∧ (∀ i : Nat, i < (14 : Int32).toNatClampNeg → ∀ y : Nat, (cF (cF S_5 1 9 (S_5.1 3 9)) 1 10 ((cF S_5 1 9 (S_5.1 3 9)).1 3 10)).2.1 19 ((0 : Int32).toNatClampNeg + i) = some y → ∃ fs, has (cF (cF S_5 1 9 (S_5.1 3 9)) 1 10 ((cF S_5 1 9 (S_5.1 3 9)).1 3 10)) y (.inr (13, fs))) ∧ (Q ((cF (cF S_5 1 9 (S_5.1 3 9)) 1 10 ((cF S_5 1 9 (S_5.1 3 9)).1 3 10)).1, u2 (cF (cF S_5 1 9 (S_5.1 3 9)) 1 10 ((cF S_5 1 9 (S_5.1 3 9)).1 3 10)).2.1 17 (va_cpy ((cF (cF S_5 1 9 (S_5.1 3 9)) 1 10 ((cF S_5 1 9 (S_5.1 3 9)).1 3 10)).2.1 19) ((cF (cF S_5 1 9 (S_5.1 3 9)) 1 10 ((cF S_5 1 9 (S_5.1 3 9)).1 3 10)).2.1 17) ((0 : Int32).toNatClampNeg) ((0 : Int32).toNatClampNeg) ((14 : Int32).toNatClampNeg)), (cF (cF S_5 1 9 (S_5.1 3 9)) 1 10 ((cF S_5 1 9 (S_5.1 3 9)).1 3 10)).2.2))))) ∧ (¬ (S.1 1 1) ≤ v2 → vp_in v2 6 ∧ (((S.2.1 5 v2.toNatClampNeg) = none → C1_copyOf_1_3_p56 Q (fun v2_ S_ => C1_copyOf_1_3_L18 Q n v2_ S_) v2 S) ∧ (∀ y_14 : Nat, (S.2.1 5 v2.toNatClampNeg) = some y_14 → vp_in v2 6 ∧ (∃ y_16 : Nat, (S.2.1 5 v2.toNatClampNeg) = some y_16 ∧ (∃ (κ_19 : Nat) (fs_20 : List Value), κ_19 < 6 ∧ has S y_16 (.inr (6 + κ_19, fs_20)) ∧ CV_kind κ_19 y_16 S (fun r_17 S_18 => vp_in v2 6 ∧ (∃ y_24 : Nat, (S_18.2.1 7 v2.toNatClampNeg) = some y_24 ∧ (∃ (κ_27 : Nat) (fs_28 : List Value), κ_27 < 6 ∧ has S_18 y_24 (.inr (6 + κ_27, fs_28)) ∧ CV_kind κ_27 y_24 S_18 (fun r_25 S_26 => (r_17 = r_25 → C1_copyOf_1_3_p71 Q (fun v2_ S_ => C1_copyOf_1_3_L18 Q n v2_ S_) v2 S_26) ∧ (¬ r_17 = r_25 → C1_copyOf_1_3_p56 Q (fun v2_ S_ => C1_copyOf_1_3_L18 Q n v2_ S_) v2 S_26))))))))))
def C1_copyOf_1_3  (S : CS) (Q : CS → Prop) : Prop := ∃ k18, k18 ≤ 7 ∧ C1_copyOf_1_3_L18 Q k18 0 (cF (cF S 1 0 (S.1 3 0)) 1 1 ((cF S 1 0 (S.1 3 0)).1 3 1))
abbrev rmX1_copyOf_1_3 : Room := { frames := 5, cells := 7, slots := 14, locals := 100 }
set_option maxHeartbeats 4000000 in
set_option maxRecDepth 100000 in
theorem wC1_copyOf_1_3_p71 {p : Program} {l : Launch} {e : Env} {s : State} {m : MethodId} {args : Array Value} {below : List Frame} {meth : Method} {c : Code} {D : va_G} {a : Nat → Nat} {d : Nat → ClassId} {A : Nat → Prop} {Q : CS → Prop} {K18 : Int32 → CS → Prop} (F : FC p s m meth c args D a d A RX1 cX1_copyOf 3 none) (v2 : Int32) (S : CS) {nn : Nat} (hK18 : ∀ (v2 : Int32) (S : CS) (H : Heap) (locs : List Loc) (ls : Array Slot) (cells slots : Nat), cells + nn * 1 ≤ 7 → slots + nn * 2 ≤ 14 → GC D a d A s.heap S H locs → lv_has ls 3 [(0, .ref (a 1)), (1, .ref (a 3)), (2, .int v2)] → K18 v2 S → wCv p l e rmX1_copyOf_1_3 s m args below meth c D a d A Q 7 14 H locs cells slots (F0 m 18 ls [])) (cells slots : Nat) (hc1 : cells + nn * 1 + 0 ≤ 7) (hc2 : slots + nn * 2 + 0 ≤ 14) {H : Heap} {locs : List Loc} {ls : Array Slot} (G : GC D a d A s.heap S H locs) (hl : lv_has ls 3 [(0, .ref (a 1)), (1, .ref (a 3)), (2, .int v2)]) (h : C1_copyOf_1_3_p71 Q K18 v2 S) : wCv p l e rmX1_copyOf_1_3 s m args below meth c D a d A Q 7 14 H locs cells slots (F0 m 71 ls []) := by
  obtain ⟨hx, hb, hr, hml, hown, hts, hlocks, hA, hK, hN⟩ := id F
  unfold C1_copyOf_1_3_p71 at h
  refine lv_aload_n hx hb dX1_copyOf_71 rfl (lv_at hl 0 rfl) ?_
  refine cgX1_1_clock F G dX1_copyOf_72 ?_
  refine lv_iload_n hx hb dX1_copyOf_75 rfl (lv_at hl 2 rfl) ?_
  obtain ⟨b_45, h⟩ := h
  refine c_aaload F G cR_5 rfl b_45 dX1_copyOf_76 ?_
  obtain ⟨y_46, hy_46, h⟩ := h
  refine c_nn hy_46 ?_
  refine lv_aload_n hx hb dX1_copyOf_77 rfl (lv_at hl 1 rfl) ?_
  refine cgX1_3_clock F G dX1_copyOf_78 ?_
  refine lv_iload_n hx hb dX1_copyOf_81 rfl (lv_at hl 2 rfl) ?_
  obtain ⟨b_47, h⟩ := h
  refine c_aaload F G cR_7 rfl b_47 dX1_copyOf_82 ?_
  obtain ⟨y_48, hy_48, h⟩ := h
  refine c_nn hy_48 ?_
  obtain ⟨κ_51, fs_52, q_53, z_54, h⟩ := h
  refine kvX1_takes F G q_53 z_54 hl.1 ⟨(Nat.le_of_ble_eq_true rfl), (Nat.le_of_ble_eq_true rfl)⟩ ⟨show _ ≤ 7 by omega, show _ ≤ 14 by omega⟩ (Nat.le_of_ble_eq_true rfl) dX1_copyOf_83 h (fun S_50 H locs G h => ?_)
  refine lv_iinc (v := (v2 + 1)) (lv' := [(2, .int (v2 + 1)), (0, .ref (a 1)), (1, .ref (a 3))]) hx hb dX1_copyOf_86 hl (k := 2) rfl rfl (by decide) rfl (fun ls hl => ?_)
  refine lv_goto (tgt := 18) hx hb dX1_copyOf_89 (by decide) ?_
  exact hK18 (v2 + 1) S_50 _ _ _ cells slots (by omega) (by omega) G (lv_sub hl [1, 2, 0] rfl) h
set_option maxHeartbeats 4000000 in
set_option maxRecDepth 100000 in
theorem wC1_copyOf_1_3_p56 {p : Program} {l : Launch} {e : Env} {s : State} {m : MethodId} {args : Array Value} {below : List Frame} {meth : Method} {c : Code} {D : va_G} {a : Nat → Nat} {d : Nat → ClassId} {A : Nat → Prop} {Q : CS → Prop} {K18 : Int32 → CS → Prop} (F : FC p s m meth c args D a d A RX1 cX1_copyOf 3 none) (v2 : Int32) (S : CS) {nn : Nat} (hK18 : ∀ (v2 : Int32) (S : CS) (H : Heap) (locs : List Loc) (ls : Array Slot) (cells slots : Nat), cells + nn * 1 ≤ 7 → slots + nn * 2 ≤ 14 → GC D a d A s.heap S H locs → lv_has ls 3 [(0, .ref (a 1)), (1, .ref (a 3)), (2, .int v2)] → K18 v2 S → wCv p l e rmX1_copyOf_1_3 s m args below meth c D a d A Q 7 14 H locs cells slots (F0 m 18 ls [])) (cells slots : Nat) (hc1 : cells + nn * 1 + 1 ≤ 7) (hc2 : slots + nn * 2 + 2 ≤ 14) {H : Heap} {locs : List Loc} {ls : Array Slot} (G : GC D a d A s.heap S H locs) (hl : lv_has ls 3 [(0, .ref (a 1)), (1, .ref (a 3)), (2, .int v2)]) (h : C1_copyOf_1_3_p56 Q K18 v2 S) : wCv p l e rmX1_copyOf_1_3 s m args below meth c D a d A Q 7 14 H locs cells slots (F0 m 56 ls []) := by
  obtain ⟨hx, hb, hr, hml, hown, hts, hlocks, hA, hK, hN⟩ := id F
  unfold C1_copyOf_1_3_p56 at h
  refine lv_aload_n hx hb dX1_copyOf_56 rfl (lv_at hl 0 rfl) ?_
  refine cgX1_1_clock F G dX1_copyOf_57 ?_
  refine lv_iload_n hx hb dX1_copyOf_60 rfl (lv_at hl 2 rfl) ?_
  refine lv_aload_n hx hb dX1_copyOf_61 rfl (lv_at hl 1 rfl) ?_
  refine cgX1_3_clock F G dX1_copyOf_62 ?_
  refine lv_iload_n hx hb dX1_copyOf_65 rfl (lv_at hl 2 rfl) ?_
  obtain ⟨b_32, h⟩ := h
  refine c_aaload F G cR_7 rfl b_32 dX1_copyOf_66 ?_
  obtain ⟨y_33, hy_33, h⟩ := h
  refine c_nn hy_33 ?_
  obtain ⟨κ_36, fs_37, q_38, z_39, h⟩ := h
  refine kvX1_another F G q_38 z_39 hl.1 ⟨(Nat.le_of_ble_eq_true rfl), (Nat.le_of_ble_eq_true rfl)⟩ ⟨show _ ≤ 7 by omega, show _ ≤ 14 by omega⟩ (Nat.le_of_ble_eq_true rfl) dX1_copyOf_67 h (fun y_34 S_35 H locs G h => ?_)
  obtain ⟨b_40, κ_43, fs_41, q_44, z_42, h⟩ := h
  refine c_aastore F G cR_5 rfl (p_any_R F G q_44 z_42) b_40 dX1_copyOf_70 (fun H locs G => ?_)
  exact wC1_copyOf_1_3_p71 F v2 (cR S_35 5 v2 (some y_34)) hK18 (cells + 1) (slots + 2) (by omega) (by omega) G (lv_sub hl [0, 1, 2] rfl) h
set_option maxHeartbeats 4000000 in
set_option maxRecDepth 100000 in
theorem wC1_copyOf_1_3_L18 {p : Program} {l : Launch} {e : Env} {s : State} {m : MethodId} {args : Array Value} {below : List Frame} {meth : Method} {c : Code} {D : va_G} {a : Nat → Nat} {d : Nat → ClassId} {A : Nat → Prop} {Q : CS → Prop}  (F : FC p s m meth c args D a d A RX1 cX1_copyOf 3 none)   :
    ∀ (n : Nat) (v2 : Int32) (S : CS) (H : Heap) (locs : List Loc) (ls : Array Slot) (cells slots : Nat), cells + n * 1 ≤ 7 → slots + n * 2 ≤ 14 → GC D a d A s.heap S H locs → lv_has ls 3 [(0, .ref (a 1)), (1, .ref (a 3)), (2, .int v2)] → C1_copyOf_1_3_L18 Q n v2 S → wCv p l e rmX1_copyOf_1_3 s m args below meth c D a d A Q 7 14 H locs cells slots (F0 m 18 ls []) := by
  obtain ⟨hx, hb, hr, hml, hown, hts, hlocks, hA, hK, hN⟩ := id F
  intro n
  induction n with
  | zero => intro v2 S H locs ls cells slots hc1 hc2 G hl h; exact absurd h (fun q => q)
  | succ n ih =>
    intro v2 S H locs ls cells slots hc1 hc2 G hl h
    unfold C1_copyOf_1_3_L18 at h
    refine lv_iload_n hx hb dX1_copyOf_18 rfl (lv_at hl 2 rfl) ?_
    refine lv_aload_n hx hb dX1_copyOf_19 rfl (lv_at hl 0 rfl) ?_
    refine cgX1_1_many F G dX1_copyOf_20 ?_
    refine lv_icmp_ge (tgt := 92) hx hb dX1_copyOf_23 (by decide) (fun c_1 => ?_) (fun c_1 => ?_)
    · replace h := h.1 c_1
      refine lv_aload_n hx hb dX1_copyOf_92 rfl (lv_at hl 1 rfl) ?_
      refine cgX1_3_bed F G dX1_copyOf_93 ?_
      refine lv_aload_n hx hb dX1_copyOf_96 rfl (lv_at hl 0 rfl) ?_
      refine cgX1_1_bed F G dX1_copyOf_97 ?_
      refine kX1_C0_copyRow_11_9 F G hl.1 ⟨(Nat.le_of_ble_eq_true rfl), (Nat.le_of_ble_eq_true rfl)⟩ ⟨show _ ≤ 7 by omega, show _ ≤ 14 by omega⟩ (Nat.le_of_ble_eq_true rfl) dX1_copyOf_100 h (fun S_3 H locs G h => ?_)
      refine lv_aload_n hx hb dX1_copyOf_103 rfl (lv_at hl 0 rfl) ?_
      refine lv_aload_n hx hb dX1_copyOf_104 rfl (lv_at hl 1 rfl) ?_
      refine cgX1_3_heard F G dX1_copyOf_105 ?_
      refine cpX1_1_heard F G dX1_copyOf_108 (fun H locs G => ?_)
      refine lv_aload_n hx hb dX1_copyOf_111 rfl (lv_at hl 0 rfl) ?_
      refine lv_aload_n hx hb dX1_copyOf_112 rfl (lv_at hl 1 rfl) ?_
      refine cgX1_3_missed F G dX1_copyOf_113 ?_
      refine cpX1_1_missed F G dX1_copyOf_116 (fun H locs G => ?_)
      refine lv_aload_n hx hb dX1_copyOf_119 rfl (lv_at hl 0 rfl) ?_
      refine lv_aload_n hx hb dX1_copyOf_120 rfl (lv_at hl 1 rfl) ?_
      refine cgX1_3_mistaken F G dX1_copyOf_121 ?_
      refine cpX1_1_mistaken F G dX1_copyOf_124 (fun H locs G => ?_)
      refine lv_aload_n hx hb dX1_copyOf_127 rfl (lv_at hl 0 rfl) ?_
      refine lv_aload_n hx hb dX1_copyOf_128 rfl (lv_at hl 1 rfl) ?_
      refine cgX1_3_minute F G dX1_copyOf_129 ?_
      refine cpX1_1_minute F G dX1_copyOf_132 (fun H locs G => ?_)
      refine lv_aload_n hx hb dX1_copyOf_135 rfl (lv_at hl 1 rfl) ?_
      refine cgX1_3_note F G dX1_copyOf_136 ?_
      refine lv_aload_n hx hb dX1_copyOf_139 rfl (lv_at hl 0 rfl) ?_
      refine cgX1_1_note F G dX1_copyOf_140 ?_
      refine kX1_C0_copyRow_15_13 F G hl.1 ⟨(Nat.le_of_ble_eq_true rfl), (Nat.le_of_ble_eq_true rfl)⟩ ⟨show _ ≤ 7 by omega, show _ ≤ 14 by omega⟩ (Nat.le_of_ble_eq_true rfl) dX1_copyOf_143 h (fun S_5 H locs G h => ?_)
      refine lv_aload_n hx hb dX1_copyOf_146 rfl (lv_at hl 0 rfl) ?_
      refine lv_aload_n hx hb dX1_copyOf_147 rfl (lv_at hl 1 rfl) ?_
      refine cgX1_3_notes F G dX1_copyOf_148 ?_
      refine cpX1_1_notes F G dX1_copyOf_151 (fun H locs G => ?_)
      refine lv_aload_n hx hb dX1_copyOf_154 rfl (lv_at hl 0 rfl) ?_
      refine lv_aload_n hx hb dX1_copyOf_155 rfl (lv_at hl 1 rfl) ?_
      refine cgX1_3_texts F G dX1_copyOf_156 ?_
      refine cpX1_1_texts F G dX1_copyOf_159 (fun H locs G => ?_)
      refine lv_aload_n hx hb dX1_copyOf_162 rfl (lv_at hl 1 rfl) ?_
      refine cgX1_3_text F G dX1_copyOf_163 ?_
      refine lv_iconst (v := 0) hx hb dX1_copyOf_166 (by decide) ?_
      refine lv_aload_n hx hb dX1_copyOf_167 rfl (lv_at hl 0 rfl) ?_
      refine cgX1_1_text F G dX1_copyOf_168 ?_
      refine lv_iconst (v := 0) hx hb dX1_copyOf_171 (by decide) ?_
      refine lv_bipush (v := 14) hx hb dX1_copyOf_172 (by decide) ?_
      obtain ⟨b_6, b_7, b_8, b_9, b_10, b_11, h⟩ := h
      refine c_copy_r_X1 F G cR_19 cR_17 hl.1 b_6 b_7 b_8 b_9 b_10 b_11 (Nat.le_of_ble_eq_true rfl) (by decide) dX1_copyOf_174 (fun H locs G => ?_)
      refine W.widen (k := 7) (n := 14) (by omega) (by omega) ?_
      exact c_vret F G dX1_copyOf_177 h
    · replace h := h.2 c_1
      refine lv_aload_n hx hb dX1_copyOf_26 rfl (lv_at hl 0 rfl) ?_
      refine cgX1_1_clock F G dX1_copyOf_27 ?_
      refine lv_iload_n hx hb dX1_copyOf_30 rfl (lv_at hl 2 rfl) ?_
      obtain ⟨b_12, h⟩ := h
      refine c_aaload F G cR_5 rfl b_12 dX1_copyOf_31 ?_
      refine c_ifnull (tgt := 56) hx hb dX1_copyOf_32 (by decide) (fun c_13 => ?_) (fun y_14 c_13 => ?_)
      · replace h := h.1 c_13
        exact wC1_copyOf_1_3_p56 F v2 S ih cells slots (by omega) (by omega) G (lv_sub hl [0, 1, 2] rfl) h
      · replace h := h.2 y_14 c_13
        refine lv_aload_n hx hb dX1_copyOf_35 rfl (lv_at hl 0 rfl) ?_
        refine cgX1_1_clock F G dX1_copyOf_36 ?_
        refine lv_iload_n hx hb dX1_copyOf_39 rfl (lv_at hl 2 rfl) ?_
        obtain ⟨b_15, h⟩ := h
        refine c_aaload F G cR_5 rfl b_15 dX1_copyOf_40 ?_
        obtain ⟨y_16, hy_16, h⟩ := h
        refine c_nn hy_16 ?_
        obtain ⟨κ_19, fs_20, q_21, z_22, h⟩ := h
        refine kvX1_kind F G q_21 z_22 hl.1 ⟨(Nat.le_of_ble_eq_true rfl), (Nat.le_of_ble_eq_true rfl)⟩ ⟨show _ ≤ 7 by omega, show _ ≤ 14 by omega⟩ (Nat.le_of_ble_eq_true rfl) dX1_copyOf_41 h (fun r_17 S_18 H locs G h => ?_)
        refine lv_aload_n hx hb dX1_copyOf_44 rfl (lv_at hl 1 rfl) ?_
        refine cgX1_3_clock F G dX1_copyOf_45 ?_
        refine lv_iload_n hx hb dX1_copyOf_48 rfl (lv_at hl 2 rfl) ?_
        obtain ⟨b_23, h⟩ := h
        refine c_aaload F G cR_7 rfl b_23 dX1_copyOf_49 ?_
        obtain ⟨y_24, hy_24, h⟩ := h
        refine c_nn hy_24 ?_
        obtain ⟨κ_27, fs_28, q_29, z_30, h⟩ := h
        refine kvX1_kind F G q_29 z_30 hl.1 ⟨(Nat.le_of_ble_eq_true rfl), (Nat.le_of_ble_eq_true rfl)⟩ ⟨show _ ≤ 7 by omega, show _ ≤ 14 by omega⟩ (Nat.le_of_ble_eq_true rfl) dX1_copyOf_50 h (fun r_25 S_26 H locs G h => ?_)
        refine lv_icmp_eq (tgt := 71) hx hb dX1_copyOf_53 (by decide) (fun c_31 => ?_) (fun c_31 => ?_)
        · replace h := h.1 c_31
          exact wC1_copyOf_1_3_p71 F v2 S_26 ih cells slots (by omega) (by omega) G (lv_sub hl [0, 1, 2] rfl) h
        · replace h := h.2 c_31
          exact wC1_copyOf_1_3_p56 F v2 S_26 ih cells slots (by omega) (by omega) G (lv_sub hl [0, 1, 2] rfl) h
set_option maxHeartbeats 4000000 in
set_option maxRecDepth 100000 in
theorem wC1_copyOf_1_3 {l : Launch} {D : va_G} {a : Nat → Nat} {d : Nat → ClassId} (sz : Nat)  (S : CS) (Q : CS → Prop) (h : C1_copyOf_1_3  S Q) : CMv l D a d yX1_copyOf cX1_copyOf 3 rmX1_copyOf_1_3 7 14 [.ref (a 1), .ref (a 3)] sz S Q := by
  refine c_enter (Qc := fun A => va_Qv Q (BC D a d A) A) RX1 (by decide +kernel) rfl (Nat.le_of_ble_eq_true rfl) ?_
  intro p e s m below meth c ls A hmn F hG hl
  have G := hG
  have hl : lv_has ls 3 [(0, .ref (a 1)), (1, .ref (a 3))] := hl
  obtain ⟨hx, hb, hr, hml, hown, hts, hlocks, hA, hK, hN⟩ := id F
  unfold C1_copyOf_1_3 at h
  refine lv_aload_n hx hb dX1_copyOf_0 rfl (lv_at hl 0 rfl) ?_
  refine lv_aload_n hx hb dX1_copyOf_1 rfl (lv_at hl 1 rfl) ?_
  refine cgX1_3_z F G dX1_copyOf_2 ?_
  refine cpX1_1_z F G dX1_copyOf_5 (fun H locs G => ?_)
  refine lv_aload_n hx hb dX1_copyOf_8 rfl (lv_at hl 0 rfl) ?_
  refine lv_aload_n hx hb dX1_copyOf_9 rfl (lv_at hl 1 rfl) ?_
  refine cgX1_3_many F G dX1_copyOf_10 ?_
  refine cpX1_1_many F G dX1_copyOf_13 (fun H locs G => ?_)
  refine lv_iconst (v := 0) hx hb dX1_copyOf_16 (by decide) ?_
  refine lv_istore_n (lv' := [(2, .int 0), (0, .ref (a 1)), (1, .ref (a 3))]) hx hb dX1_copyOf_17 rfl hl (by decide) rfl (fun ls hl => ?_)
  obtain ⟨k18, hk18, h⟩ := h
  exact wC1_copyOf_1_3_L18 F   k18 0 (cF (cF S 1 0 (S.1 3 0)) 1 1 ((cF S 1 0 (S.1 3 0)).1 3 1)) _ _ _ 0 0 (by omega) (by omega) G (lv_sub hl [1, 2, 0] rfl) h
set_option maxHeartbeats 4000000 in
set_option maxRecDepth 100000 in
theorem kX0_C1_copyOf_1_3 {p : Program} {l : Launch} {e : Env} {s : State} {m : MethodId} {R : Room} {args : Array Value} {below : List Frame} {meth : Method} {c : Code} {D : va_G} {a : Nat → Nat} {d : Nat → ClassId} {A : Nat → Prop} {Q : State → Prop} {cc : ByteArray} {nL pc cells slots : Nat} {ret : Option FieldType} {ls : Array Slot} {rest : List Value}  {S : CS} {H : Heap} {locs : List Loc} {Q1 : CS → Prop} (F : FC p s m meth c args D a d A RX0 cc nL ret) (G : GC D a d A s.heap S H locs) (hsz : ls.size = nL) (hR : rmX1_copyOf_1_3.frames + 1 ≤ R.frames ∧ 8 + (3 + 11) + rmX1_copyOf_1_3.locals ≤ R.locals) (hc : cells + 7 ≤ R.cells ∧ slots + 14 ≤ R.slots) (hW : (rest.map fun v => v.category).sum ≤ 8) (hd : decode cc pc = .ok (.invokevirtual 403, 3)) (h : C1_copyOf_1_3  S Q1) (k : ∀ (S1 : CS) (H : Heap) (locs : List Loc), GC D a d A s.heap S1 H locs → Q1 S1 → W p l e R s m args below meth c H locs (cells + 7) (slots + 14) Q (F0 m (pc + 3) ls rest)) : W p l e R s m args below meth c H locs cells slots Q (F0 m pc ls (.ref (a 3) :: .ref (a 1) :: rest)) := by
  obtain ⟨hx, hb, hr, hml, hown, hts, hlocks, hA, hK, hN⟩ := id F
  exact c_callv F G (va_runV (As := [.ref (a 3)]) (rest := rest) ⟨hx, hb, hml, hown, hts⟩ (wC1_copyOf_1_3 H.size  S Q1 h) (cwV 1 hts (lw_V q927 q928 q929 q83 q930) rfl rfl rfl (by decide +kernel) hR) ⟨PC_blind, va_recv hK G.1 (ci := 1) (q0 := 1) rfl rfl, c_pre F G⟩ rfl rfl hsz rfl (lv_room hW) hd hc) k
/-! StrokesHeard.rowsOfMinutes -/
def C0_rowsOfMinutes_p86 (Q : Int32 → CS → Prop)  (v2 : Int32) (S : CS) : Prop := C1_copyOf_1_3  S (fun S_12 => Q (2 * v2) S_12)
def C0_rowsOfMinutes_L24 (Q : Int32 → CS → Prop)  (v1 : Int32) : Nat → Int32 → CS → Prop
  | 0, _, _ => False
  | n + 1, v2, S => (v1 ≤ v2 → C0_rowsOfMinutes_p86 Q v2 S) ∧ (¬ v1 ≤ v2 → (9999 ≤ (S.1 1 7) → C0_rowsOfMinutes_p86 Q v2 S) ∧ (¬ 9999 ≤ (S.1 1 7) → C0_aMinute  S (fun S_8 => vp_in (2 * v2) 60 ∧ (vp_in ((2 * v2) + 1) 60 ∧ (C0_rowsOfMinutes_L24 Q v1 n (v2 + 1) (cA (cA S_8 28 (2 * v2) (S_8.1 1 4)) 28 ((2 * v2) + 1) ((cA S_8 28 (2 * v2) (S_8.1 1 4)).1 13 0)))))))
def C0_rowsOfMinutes (v1 : Int32) (S : CS) (Q : Int32 → CS → Prop) : Prop := C1_copyOf_3_1  S (fun S_2 => C1_copyOf_1_2  S_2 (fun S_4 => ∃ k24, C0_rowsOfMinutes_L24 Q v1 k24 0 S_4))
abbrev rmX0_rowsOfMinutes : Room := { frames := 6, cells := 21, slots := 42, locals := 137 }
set_option maxHeartbeats 4000000 in
set_option maxRecDepth 100000 in
theorem wC0_rowsOfMinutes_p86 {p : Program} {l : Launch} {e : Env} {s : State} {m : MethodId} {args : Array Value} {below : List Frame} {meth : Method} {c : Code} {D : va_G} {a : Nat → Nat} {d : Nat → ClassId} {A : Nat → Prop} {Q : Int32 → CS → Prop}  (F : FC p s m meth c args D a d A RX0 cX0_rowsOfMinutes 3 (some .int)) (v2 : Int32) (S : CS)  {H : Heap} {locs : List Loc} {ls : Array Slot} (G : GC D a d A s.heap S H locs) (hl : lv_has ls 3 [(0, .ref (a 0)), (2, .int v2)]) (h : C0_rowsOfMinutes_p86 Q v2 S) : wCi p l e rmX0_rowsOfMinutes s m args below meth c D a d A Q 21 42 H locs 14 28 (F0 m 86 ls []) := by
  obtain ⟨hx, hb, hr, hml, hown, hts, hlocks, hA, hK, hN⟩ := id F
  unfold C0_rowsOfMinutes_p86 at h
  refine lv_aload_n hx hb dX0_rowsOfMinutes_86 rfl (lv_at hl 0 rfl) ?_
  refine cgX0_0_now F G dX0_rowsOfMinutes_87 ?_
  refine lv_aload_n hx hb dX0_rowsOfMinutes_90 rfl (lv_at hl 0 rfl) ?_
  refine cgX0_0_aside F G dX0_rowsOfMinutes_91 ?_
  refine kX0_C1_copyOf_1_3 F G hl.1 ⟨(Nat.le_of_ble_eq_true rfl), (Nat.le_of_ble_eq_true rfl)⟩ ⟨(Nat.le_of_ble_eq_true rfl), (Nat.le_of_ble_eq_true rfl)⟩ (Nat.le_of_ble_eq_true rfl) dX0_rowsOfMinutes_94 h (fun S_12 H locs G h => ?_)
  refine lv_iconst (v := 2) hx hb dX0_rowsOfMinutes_97 (by decide) ?_
  refine lv_iload_n hx hb dX0_rowsOfMinutes_98 rfl (lv_at hl 1 rfl) ?_
  refine lv_imul hx hb dX0_rowsOfMinutes_99 ?_
  exact c_iret F G dX0_rowsOfMinutes_100 h
set_option maxHeartbeats 4000000 in
set_option maxRecDepth 100000 in
theorem wC0_rowsOfMinutes_L24 {p : Program} {l : Launch} {e : Env} {s : State} {m : MethodId} {args : Array Value} {below : List Frame} {meth : Method} {c : Code} {D : va_G} {a : Nat → Nat} {d : Nat → ClassId} {A : Nat → Prop} {Q : Int32 → CS → Prop}  (F : FC p s m meth c args D a d A RX0 cX0_rowsOfMinutes 3 (some .int)) (v1 : Int32)  :
    ∀ (n : Nat) (v2 : Int32) (S : CS) (H : Heap) (locs : List Loc) (ls : Array Slot), GC D a d A s.heap S H locs → lv_has ls 3 [(0, .ref (a 0)), (1, .int v1), (2, .int v2)] → C0_rowsOfMinutes_L24 Q v1 n v2 S → wCi p l e rmX0_rowsOfMinutes s m args below meth c D a d A Q 21 42 H locs 14 28 (F0 m 24 ls []) := by
  obtain ⟨hx, hb, hr, hml, hown, hts, hlocks, hA, hK, hN⟩ := id F
  intro n
  induction n with
  | zero => intro v2 S H locs ls G hl h; exact absurd h (fun q => q)
  | succ n ih =>
    intro v2 S H locs ls G hl h
    unfold C0_rowsOfMinutes_L24 at h
    refine lv_iload_n hx hb dX0_rowsOfMinutes_24 rfl (lv_at hl 2 rfl) ?_
    refine lv_iload_n hx hb dX0_rowsOfMinutes_25 rfl (lv_at hl 1 rfl) ?_
    refine lv_icmp_ge (tgt := 86) hx hb dX0_rowsOfMinutes_26 (by decide) (fun c_5 => ?_) (fun c_5 => ?_)
    · replace h := h.1 c_5
      exact wC0_rowsOfMinutes_p86 F v2 S  G (lv_sub hl [0, 2] rfl) h
    · replace h := h.2 c_5
      refine lv_aload_n hx hb dX0_rowsOfMinutes_29 rfl (lv_at hl 0 rfl) ?_
      refine cgX0_0_now F G dX0_rowsOfMinutes_30 ?_
      refine cgX0_1_minute F G dX0_rowsOfMinutes_33 ?_
      refine lv_sipush (v := 9999) hx hb dX0_rowsOfMinutes_36 (by decide) ?_
      refine lv_icmp_ge (tgt := 86) hx hb dX0_rowsOfMinutes_39 (by decide) (fun c_6 => ?_) (fun c_6 => ?_)
      · replace h := h.1 c_6
        exact wC0_rowsOfMinutes_p86 F v2 S  G (lv_sub hl [0, 2] rfl) h
      · replace h := h.2 c_6
        refine lv_aload_n hx hb dX0_rowsOfMinutes_42 rfl (lv_at hl 0 rfl) ?_
        refine kX0_C0_aMinute F G hl.1 ⟨(Nat.le_of_ble_eq_true rfl), (Nat.le_of_ble_eq_true rfl)⟩ ⟨(Nat.le_of_ble_eq_true rfl), (Nat.le_of_ble_eq_true rfl)⟩ (Nat.le_of_ble_eq_true rfl) dX0_rowsOfMinutes_43 h (fun S_8 H locs G h => ?_)
        refine lv_aload_n hx hb dX0_rowsOfMinutes_46 rfl (lv_at hl 0 rfl) ?_
        refine cgX0_0_rows F G dX0_rowsOfMinutes_47 ?_
        refine lv_iconst (v := 2) hx hb dX0_rowsOfMinutes_50 (by decide) ?_
        refine lv_iload_n hx hb dX0_rowsOfMinutes_51 rfl (lv_at hl 2 rfl) ?_
        refine lv_imul hx hb dX0_rowsOfMinutes_52 ?_
        refine lv_aload_n hx hb dX0_rowsOfMinutes_53 rfl (lv_at hl 0 rfl) ?_
        refine cgX0_0_now F G dX0_rowsOfMinutes_54 ?_
        refine cgX0_1_heard F G dX0_rowsOfMinutes_57 ?_
        obtain ⟨b_9, h⟩ := h
        refine c_iastore F G cI_28 b_9 dX0_rowsOfMinutes_60 (fun H locs G => ?_)
        refine lv_aload_n hx hb dX0_rowsOfMinutes_61 rfl (lv_at hl 0 rfl) ?_
        refine cgX0_0_rows F G dX0_rowsOfMinutes_62 ?_
        refine lv_iconst (v := 2) hx hb dX0_rowsOfMinutes_65 (by decide) ?_
        refine lv_iload_n hx hb dX0_rowsOfMinutes_66 rfl (lv_at hl 2 rfl) ?_
        refine lv_imul hx hb dX0_rowsOfMinutes_67 ?_
        refine lv_iconst (v := 1) hx hb dX0_rowsOfMinutes_68 (by decide) ?_
        refine lv_iadd hx hb dX0_rowsOfMinutes_69 ?_
        refine lv_aload_n hx hb dX0_rowsOfMinutes_70 rfl (lv_at hl 0 rfl) ?_
        refine cgX0_0_now F G dX0_rowsOfMinutes_71 ?_
        refine cgX0_1_note F G dX0_rowsOfMinutes_74 ?_
        refine lv_iconst (v := 0) hx hb dX0_rowsOfMinutes_77 (by decide) ?_
        refine c_iaload F G cI_13 (by unfold vp_in; decide) dX0_rowsOfMinutes_78 ?_
        obtain ⟨b_10, h⟩ := h
        refine c_iastore F G cI_28 b_10 dX0_rowsOfMinutes_79 (fun H locs G => ?_)
        refine lv_iinc (v := (v2 + 1)) (lv' := [(2, .int (v2 + 1)), (0, .ref (a 0)), (1, .int v1)]) hx hb dX0_rowsOfMinutes_80 hl (k := 2) rfl rfl (by decide) rfl (fun ls hl => ?_)
        refine lv_goto (tgt := 24) hx hb dX0_rowsOfMinutes_83 (by decide) ?_
        exact ih (v2 + 1) (cA (cA S_8 28 (2 * v2) (S_8.1 1 4)) 28 ((2 * v2) + 1) ((cA S_8 28 (2 * v2) (S_8.1 1 4)).1 13 0)) _ _ _ G (lv_sub hl [1, 2, 0] rfl) h
set_option maxHeartbeats 4000000 in
set_option maxRecDepth 100000 in
theorem wC0_rowsOfMinutes {l : Launch} {D : va_G} {a : Nat → Nat} {d : Nat → ClassId} (sz : Nat) (v1 : Int32) (S : CS) (Q : Int32 → CS → Prop) (h : C0_rowsOfMinutes v1 S Q) : CMi l D a d yX0_rowsOfMinutes cX0_rowsOfMinutes 3 .int rmX0_rowsOfMinutes 21 42 [.ref (a 0), .int v1] sz S Q := by
  refine c_enter (Qc := fun A => va_Qi Q (BC D a d A) A) RX0 (by decide +kernel) rfl (Nat.le_of_ble_eq_true rfl) ?_
  intro p e s m below meth c ls A hmn F hG hl
  have G := hG
  have hl : lv_has ls 3 [(0, .ref (a 0)), (1, .int v1)] := hl
  obtain ⟨hx, hb, hr, hml, hown, hts, hlocks, hA, hK, hN⟩ := id F
  unfold C0_rowsOfMinutes at h
  refine lv_aload_n hx hb dX0_rowsOfMinutes_0 rfl (lv_at hl 0 rfl) ?_
  refine cgX0_0_aside F G dX0_rowsOfMinutes_1 ?_
  refine lv_aload_n hx hb dX0_rowsOfMinutes_4 rfl (lv_at hl 0 rfl) ?_
  refine cgX0_0_now F G dX0_rowsOfMinutes_5 ?_
  refine kX0_C1_copyOf_3_1 F G hl.1 ⟨(Nat.le_of_ble_eq_true rfl), (Nat.le_of_ble_eq_true rfl)⟩ ⟨(Nat.le_of_ble_eq_true rfl), (Nat.le_of_ble_eq_true rfl)⟩ (Nat.le_of_ble_eq_true rfl) dX0_rowsOfMinutes_8 h (fun S_2 H locs G h => ?_)
  refine lv_aload_n hx hb dX0_rowsOfMinutes_11 rfl (lv_at hl 0 rfl) ?_
  refine cgX0_0_now F G dX0_rowsOfMinutes_12 ?_
  refine lv_aload_n hx hb dX0_rowsOfMinutes_15 rfl (lv_at hl 0 rfl) ?_
  refine cgX0_0_image F G dX0_rowsOfMinutes_16 ?_
  refine kX0_C1_copyOf_1_2 F G hl.1 ⟨(Nat.le_of_ble_eq_true rfl), (Nat.le_of_ble_eq_true rfl)⟩ ⟨(Nat.le_of_ble_eq_true rfl), (Nat.le_of_ble_eq_true rfl)⟩ (Nat.le_of_ble_eq_true rfl) dX0_rowsOfMinutes_19 h (fun S_4 H locs G h => ?_)
  refine lv_iconst (v := 0) hx hb dX0_rowsOfMinutes_22 (by decide) ?_
  refine lv_istore_n (lv' := [(2, .int 0), (0, .ref (a 0)), (1, .int v1)]) hx hb dX0_rowsOfMinutes_23 rfl hl (by decide) rfl (fun ls hl => ?_)
  obtain ⟨k24, h⟩ := h
  exact wC0_rowsOfMinutes_L24 F v1  k24 0 S_4 _ _ _ G (lv_sub hl [1, 2, 0] rfl) h
set_option maxHeartbeats 4000000 in
set_option maxRecDepth 100000 in
theorem kX0_C0_rowsOfMinutes {p : Program} {l : Launch} {e : Env} {s : State} {m : MethodId} {R : Room} {args : Array Value} {below : List Frame} {meth : Method} {c : Code} {D : va_G} {a : Nat → Nat} {d : Nat → ClassId} {A : Nat → Prop} {Q : State → Prop} {cc : ByteArray} {nL pc cells slots : Nat} {ret : Option FieldType} {ls : Array Slot} {rest : List Value} {v1 : Int32} {S : CS} {H : Heap} {locs : List Loc} {Q1 : Int32 → CS → Prop} (F : FC p s m meth c args D a d A RX0 cc nL ret) (G : GC D a d A s.heap S H locs) (hsz : ls.size = nL) (hR : rmX0_rowsOfMinutes.frames + 1 ≤ R.frames ∧ 8 + (3 + 11) + rmX0_rowsOfMinutes.locals ≤ R.locals) (hc : cells + 21 ≤ R.cells ∧ slots + 42 ≤ R.slots) (hW : (rest.map fun v => v.category).sum ≤ 8) (hd : decode cc pc = .ok (.invokevirtual 508, 3)) (h : C0_rowsOfMinutes v1 S Q1) (k : ∀ (r : Int32) (S1 : CS) (H : Heap) (locs : List Loc), GC D a d A s.heap S1 H locs → Q1 r S1 → W p l e R s m args below meth c H locs (cells + 21) (slots + 42) Q (F0 m (pc + 3) ls (.int r :: rest))) : W p l e R s m args below meth c H locs cells slots Q (F0 m pc ls (.int v1 :: .ref (a 0) :: rest)) := by
  obtain ⟨hx, hb, hr, hml, hown, hts, hlocks, hA, hK, hN⟩ := id F
  exact c_calli F G (va_runV (As := [.int v1]) (rest := rest) ⟨hx, hb, hml, hown, hts⟩ (wC0_rowsOfMinutes H.size v1 S Q1 h) (cwV 1 hts (lw_V q1167 q1169 qs37 q82 q1170) rfl rfl rfl (by decide +kernel) hR) ⟨PC_blind, va_recv hK G.1 (ci := 0) (q0 := 0) rfl rfl, c_pre F G⟩ rfl rfl hsz rfl (lv_room hW) hd hc) k
/-! StrokesHeard.check -/
def C0_check_L43 (Q : Int32 → CS → Prop)  (v2 : Int32) (v3 : Int32) : Nat → Int32 → CS → Prop
  | 0, _, _ => False
  | n + 1, v4, S => (v2 ≤ v4 → (v3 ≤ v2 → Q 0 S) ∧ (¬ v3 ≤ v2 → Q (1 + v2) S)) ∧ (¬ v2 ≤ v4 → (v3 ≤ v4 → Q (1 + v4) S) ∧ (¬ v3 ≤ v4 → vp_in v4 60 ∧ (vp_in v4 60 ∧ ((¬ (S.1 27 (v4.toNatClampNeg)) = (S.1 28 (v4.toNatClampNeg)) → Q (1 + v4) S) ∧ ((S.1 27 (v4.toNatClampNeg)) = (S.1 28 (v4.toNatClampNeg)) → C0_check_L43 Q v2 v3 n (v4 + 1) S)))))
def C0_check (v1 : Int32) (S : CS) (Q : Int32 → CS → Prop) : Prop := ∀ x_1 : Int32, x_1 = (S.1 0 25) → C0_isIn v1 1 30 (cF S 0 25 0) (fun r_2 S_3 => (¬ r_2 = 0 → (¬ (S_3.1 0 4) = 0 → C0_rowsOfMinutes v1 S_3 (fun r_6 S_7 => ∃ k43, C0_check_L43 Q x_1 r_6 k43 0 S_7)) ∧ ((S_3.1 0 4) = 0 → Q (-1000000002) S_3)) ∧ (r_2 = 0 → Q (-1000000001) S_3))
abbrev rmX0_check : Room := { frames := 7, cells := 21, slots := 42, locals := 159 }
set_option maxHeartbeats 4000000 in
set_option maxRecDepth 100000 in
theorem wC0_check_L43 {p : Program} {l : Launch} {e : Env} {s : State} {m : MethodId} {args : Array Value} {below : List Frame} {meth : Method} {c : Code} {D : va_G} {a : Nat → Nat} {d : Nat → ClassId} {A : Nat → Prop} {Q : Int32 → CS → Prop}  (F : FC p s m meth c args D a d A RX0 cX0_check 5 (some .int)) (v2 : Int32) (v3 : Int32)  :
    ∀ (n : Nat) (v4 : Int32) (S : CS) (H : Heap) (locs : List Loc) (ls : Array Slot), GC D a d A s.heap S H locs → lv_has ls 5 [(0, .ref (a 0)), (2, .int v2), (3, .int v3), (4, .int v4)] → C0_check_L43 Q v2 v3 n v4 S → wCi p l e rmX0_check s m args below meth c D a d A Q 21 42 H locs 21 42 (F0 m 43 ls []) := by
  obtain ⟨hx, hb, hr, hml, hown, hts, hlocks, hA, hK, hN⟩ := id F
  intro n
  induction n with
  | zero => intro v4 S H locs ls G hl h; exact absurd h (fun q => q)
  | succ n ih =>
    intro v4 S H locs ls G hl h
    unfold C0_check_L43 at h
    refine lv_iload hx hb dX0_check_43 (lv_at hl 3 rfl) ?_
    refine lv_iload_n hx hb dX0_check_45 rfl (lv_at hl 1 rfl) ?_
    refine lv_icmp_ge (tgt := 86) hx hb dX0_check_46 (by decide) (fun c_8 => ?_) (fun c_8 => ?_)
    · replace h := h.1 c_8
      refine lv_iload_n hx hb dX0_check_86 rfl (lv_at hl 1 rfl) ?_
      refine lv_iload_n hx hb dX0_check_87 rfl (lv_at hl 2 rfl) ?_
      refine lv_icmp_ge (tgt := 97) hx hb dX0_check_88 (by decide) (fun c_9 => ?_) (fun c_9 => ?_)
      · replace h := h.1 c_9
        refine lv_iconst (v := 0) hx hb dX0_check_97 (by decide) ?_
        exact c_iret F G dX0_check_98 h
      · replace h := h.2 c_9
        refine lv_iconst (v := 1) hx hb dX0_check_91 (by decide) ?_
        refine lv_iload_n hx hb dX0_check_92 rfl (lv_at hl 1 rfl) ?_
        refine lv_iadd hx hb dX0_check_93 ?_
        refine lv_goto (tgt := 98) hx hb dX0_check_94 (by decide) ?_
        exact c_iret F G dX0_check_98 h
    · replace h := h.2 c_8
      refine lv_iload hx hb dX0_check_49 (lv_at hl 3 rfl) ?_
      refine lv_iload_n hx hb dX0_check_51 rfl (lv_at hl 2 rfl) ?_
      refine lv_icmp_ge (tgt := 75) hx hb dX0_check_52 (by decide) (fun c_10 => ?_) (fun c_10 => ?_)
      · replace h := h.1 c_10
        refine lv_iconst (v := 1) hx hb dX0_check_75 (by decide) ?_
        refine lv_iload hx hb dX0_check_76 (lv_at hl 3 rfl) ?_
        refine lv_iadd hx hb dX0_check_78 ?_
        exact c_iret F G dX0_check_79 h
      · replace h := h.2 c_10
        refine lv_aload_n hx hb dX0_check_55 rfl (lv_at hl 0 rfl) ?_
        refine cgX0_0_waits F G dX0_check_56 ?_
        refine lv_iload hx hb dX0_check_59 (lv_at hl 3 rfl) ?_
        obtain ⟨b_11, h⟩ := h
        refine c_iaload F G cI_27 b_11 dX0_check_61 ?_
        refine lv_aload_n hx hb dX0_check_62 rfl (lv_at hl 0 rfl) ?_
        refine cgX0_0_rows F G dX0_check_63 ?_
        refine lv_iload hx hb dX0_check_66 (lv_at hl 3 rfl) ?_
        obtain ⟨b_12, h⟩ := h
        refine c_iaload F G cI_28 b_12 dX0_check_68 ?_
        refine lv_icmp_ne (tgt := 75) hx hb dX0_check_69 (by decide) (fun c_13 => ?_) (fun c_13 => ?_)
        · replace h := h.1 c_13
          refine lv_iconst (v := 1) hx hb dX0_check_75 (by decide) ?_
          refine lv_iload hx hb dX0_check_76 (lv_at hl 3 rfl) ?_
          refine lv_iadd hx hb dX0_check_78 ?_
          exact c_iret F G dX0_check_79 h
        · replace h := h.2 c_13
          refine lv_goto (tgt := 80) hx hb dX0_check_72 (by decide) ?_
          refine lv_iinc (v := (v4 + 1)) (lv' := [(4, .int (v4 + 1)), (0, .ref (a 0)), (2, .int v2), (3, .int v3)]) hx hb dX0_check_80 hl (k := 3) rfl rfl (by decide) rfl (fun ls hl => ?_)
          refine lv_goto (tgt := 43) hx hb dX0_check_83 (by decide) ?_
          exact ih (v4 + 1) S _ _ _ G (lv_sub hl [1, 2, 3, 0] rfl) h
set_option maxHeartbeats 4000000 in
set_option maxRecDepth 100000 in
theorem wC0_check {l : Launch} {D : va_G} {a : Nat → Nat} {d : Nat → ClassId} (sz : Nat) (v1 : Int32) (S : CS) (Q : Int32 → CS → Prop) (h : C0_check v1 S Q) : CMi l D a d yX0_check cX0_check 5 .int rmX0_check 21 42 [.ref (a 0), .int v1] sz S Q := by
  refine c_enter (Qc := fun A => va_Qi Q (BC D a d A) A) RX0 (by decide +kernel) rfl (Nat.le_of_ble_eq_true rfl) ?_
  intro p e s m below meth c ls A hmn F hG hl
  have G := hG
  have hl : lv_has ls 5 [(0, .ref (a 0)), (1, .int v1)] := hl
  obtain ⟨hx, hb, hr, hml, hown, hts, hlocks, hA, hK, hN⟩ := id F
  unfold C0_check at h
  refine lv_aload_n hx hb dX0_check_0 rfl (lv_at hl 0 rfl) ?_
  refine cgX0_0_waitMany F G dX0_check_1 ?_
  refine lv_topi (fun x_1 ex_1 => ?_)
  replace h := h x_1 ex_1
  refine lv_istore_n (lv' := [(2, .int x_1), (0, .ref (a 0)), (1, .int v1)]) hx hb dX0_check_4 rfl hl (by decide) rfl (fun ls hl => ?_)
  refine lv_aload_n hx hb dX0_check_5 rfl (lv_at hl 1 rfl) ?_
  refine lv_iconst (v := 0) hx hb dX0_check_6 (by decide) ?_
  refine cpX0_0_waitMany F G dX0_check_7 (fun H locs G => ?_)
  refine lv_iload_n hx hb dX0_check_10 rfl (lv_at hl 2 rfl) ?_
  refine lv_iconst (v := 1) hx hb dX0_check_11 (by decide) ?_
  refine lv_bipush (v := 30) hx hb dX0_check_12 (by decide) ?_
  refine kX0_C0_isIn F G hl.1 ⟨(Nat.le_of_ble_eq_true rfl), (Nat.le_of_ble_eq_true rfl)⟩ ⟨(Nat.le_of_ble_eq_true rfl), (Nat.le_of_ble_eq_true rfl)⟩ (Nat.le_of_ble_eq_true rfl) dX0_check_14 h (fun r_2 S_3 H locs G h => ?_)
  refine lv_if_ne (tgt := 23) hx hb dX0_check_17 (by decide) (fun c_4 => ?_) (fun c_4 => ?_)
  · replace h := h.1 c_4
    refine lv_aload_n hx hb dX0_check_23 rfl (lv_at hl 1 rfl) ?_
    refine cgX0_0_hasImage F G dX0_check_24 ?_
    refine lv_if_ne (tgt := 34) hx hb dX0_check_27 (by decide) (fun c_5 => ?_) (fun c_5 => ?_)
    · replace h := h.1 c_5
      refine lv_aload_n hx hb dX0_check_34 rfl (lv_at hl 1 rfl) ?_
      refine lv_iload_n hx hb dX0_check_35 rfl (lv_at hl 2 rfl) ?_
      refine kX0_C0_rowsOfMinutes F G hl.1 ⟨(Nat.le_of_ble_eq_true rfl), (Nat.le_of_ble_eq_true rfl)⟩ ⟨(Nat.le_of_ble_eq_true rfl), (Nat.le_of_ble_eq_true rfl)⟩ (Nat.le_of_ble_eq_true rfl) dX0_check_36 h (fun r_6 S_7 H locs G h => ?_)
      refine lv_istore_n (lv' := [(3, .int r_6), (2, .int x_1), (0, .ref (a 0)), (1, .int v1)]) hx hb dX0_check_39 rfl hl (by decide) rfl (fun ls hl => ?_)
      refine lv_iconst (v := 0) hx hb dX0_check_40 (by decide) ?_
      refine lv_istore (lv' := [(4, .int 0), (3, .int r_6), (2, .int x_1), (0, .ref (a 0)), (1, .int v1)]) hx hb dX0_check_41 hl (by decide) rfl (fun ls hl => ?_)
      obtain ⟨k43, h⟩ := h
      exact wC0_check_L43 F x_1 r_6  k43 0 S_7 _ _ _ G (lv_sub hl [3, 2, 1, 0] rfl) h
    · replace h := h.2 c_5
      refine lv_ldcw hx hb hown (hts _ q1158) dX0_check_30 ?_
      refine W.widen (k := 21) (n := 42) (by decide) (by decide) ?_
      exact c_iret F G dX0_check_33 h
  · replace h := h.2 c_4
    refine lv_ldc hx hb hown (hts _ q368) dX0_check_20 ?_
    refine W.widen (k := 21) (n := 42) (by decide) (by decide) ?_
    exact c_iret F G dX0_check_22 h
/-! StrokesHeard.copyRow -/
def C0_copyRow_9_10  (S : CS) (Q : CS → Prop) : Prop := ¬ (0 : Int32) < 0 ∧ ¬ (0 : Int32) < 0 ∧ ¬ (2 : Int32) < 0 ∧ (0 : Int32).toNatClampNeg + (2 : Int32).toNatClampNeg ≤ 2 ∧ (0 : Int32).toNatClampNeg + (2 : Int32).toNatClampNeg ≤ 2 ∧ (Q (u2 S.1 10 (va_cpy (S.1 9) (S.1 10) ((0 : Int32).toNatClampNeg) ((0 : Int32).toNatClampNeg) ((2 : Int32).toNatClampNeg)), S.2))
abbrev rmX0_copyRow_9_10 : Room := { frames := 1, cells := 0, slots := 0, locals := 40 }
set_option maxHeartbeats 4000000 in
set_option maxRecDepth 100000 in
theorem wC0_copyRow_9_10 {l : Launch} {D : va_G} {a : Nat → Nat} {d : Nat → ClassId} (sz : Nat)  (S : CS) (Q : CS → Prop) (h : C0_copyRow_9_10  S Q) : CMv l D a d yX0_copyRow cX0_copyRow 2 rmX0_copyRow_9_10 0 0 [.ref (a 9), .ref (a 10)] sz S Q := by
  refine c_enter (Qc := fun A => va_Qv Q (BC D a d A) A) RX0 (by decide +kernel) rfl (Nat.le_of_ble_eq_true rfl) ?_
  intro p e s m below meth c ls A hmn F hG hl
  have G := hG
  have hl : lv_has ls 2 [(0, .ref (a 9)), (1, .ref (a 10))] := hl
  obtain ⟨hx, hb, hr, hml, hown, hts, hlocks, hA, hK, hN⟩ := id F
  unfold C0_copyRow_9_10 at h
  refine lv_aload_n hx hb dX0_copyRow_0 rfl (lv_at hl 0 rfl) ?_
  refine lv_iconst (v := 0) hx hb dX0_copyRow_1 (by decide) ?_
  refine lv_aload_n hx hb dX0_copyRow_2 rfl (lv_at hl 1 rfl) ?_
  refine lv_iconst (v := 0) hx hb dX0_copyRow_3 (by decide) ?_
  refine lv_aload_n hx hb dX0_copyRow_4 rfl (lv_at hl 1 rfl) ?_
  refine c_len (v := 2) F G cI_10 ⟨_, rfl⟩ (by decide) dX0_copyRow_5 ?_
  obtain ⟨b_1, b_2, b_3, b_4, b_5, h⟩ := h
  refine c_copy_i_X0 F G cI_9 cI_10 hl.1 b_1 b_2 b_3 b_4 b_5 (Nat.le_of_ble_eq_true rfl) (by decide) dX0_copyRow_6 (fun H locs G => ?_)
  exact c_vret F G dX0_copyRow_9 h
set_option maxHeartbeats 4000000 in
set_option maxRecDepth 100000 in
theorem kX1_C0_copyRow_9_10 {p : Program} {l : Launch} {e : Env} {s : State} {m : MethodId} {R : Room} {args : Array Value} {below : List Frame} {meth : Method} {c : Code} {D : va_G} {a : Nat → Nat} {d : Nat → ClassId} {A : Nat → Prop} {Q : State → Prop} {cc : ByteArray} {nL pc cells slots : Nat} {ret : Option FieldType} {ls : Array Slot} {rest : List Value}  {S : CS} {H : Heap} {locs : List Loc} {Q1 : CS → Prop} (F : FC p s m meth c args D a d A RX1 cc nL ret) (G : GC D a d A s.heap S H locs) (hsz : ls.size = nL) (hR : rmX0_copyRow_9_10.frames + 1 ≤ R.frames ∧ 8 + (2 + 11) + rmX0_copyRow_9_10.locals ≤ R.locals) (hc : cells + 0 ≤ R.cells ∧ slots + 0 ≤ R.slots) (hW : (rest.map fun v => v.category).sum ≤ 8) (hd : decode cc pc = .ok (.invokestatic 49, 3)) (h : C0_copyRow_9_10  S Q1) (k : ∀ (S1 : CS) (H : Heap) (locs : List Loc), GC D a d A s.heap S1 H locs → Q1 S1 → W p l e R s m args below meth c H locs cells slots Q (F0 m (pc + 3) ls rest)) : W p l e R s m args below meth c H locs cells slots Q (F0 m pc ls (.ref (a 10) :: .ref (a 9) :: rest)) := by
  obtain ⟨hx, hb, hr, hml, hown, hts, hlocks, hA, hK, hN⟩ := id F
  exact c_callv F G (va_runSN (As := [.ref (a 9), .ref (a 10)]) (rest := rest) ⟨hx, hb, hml, hown, hts⟩ (wC0_copyRow_9_10 H.size  S Q1 h) ⟨va_cnB 2 hts (lw_meth q967) rfl rfl rfl (hN.1 _ (List.mem_of_getElem? (i := 33) rfl)) (hts _ q82) (by decide +kernel) hR, hts _ q966, trivial⟩ ⟨PC_blind, c_pre F G⟩ rfl rfl hsz rfl (lv_room hW) hd hc) k
/-! StrokesHeard.copyRow -/
def C0_copyRow_13_14  (S : CS) (Q : CS → Prop) : Prop := ¬ (0 : Int32) < 0 ∧ ¬ (0 : Int32) < 0 ∧ ¬ (12 : Int32) < 0 ∧ (0 : Int32).toNatClampNeg + (12 : Int32).toNatClampNeg ≤ 12 ∧ (0 : Int32).toNatClampNeg + (12 : Int32).toNatClampNeg ≤ 12 ∧ (Q (u2 S.1 14 (va_cpy (S.1 13) (S.1 14) ((0 : Int32).toNatClampNeg) ((0 : Int32).toNatClampNeg) ((12 : Int32).toNatClampNeg)), S.2))
abbrev rmX0_copyRow_13_14 : Room := { frames := 1, cells := 0, slots := 0, locals := 40 }
set_option maxHeartbeats 4000000 in
set_option maxRecDepth 100000 in
theorem wC0_copyRow_13_14 {l : Launch} {D : va_G} {a : Nat → Nat} {d : Nat → ClassId} (sz : Nat)  (S : CS) (Q : CS → Prop) (h : C0_copyRow_13_14  S Q) : CMv l D a d yX0_copyRow cX0_copyRow 2 rmX0_copyRow_13_14 0 0 [.ref (a 13), .ref (a 14)] sz S Q := by
  refine c_enter (Qc := fun A => va_Qv Q (BC D a d A) A) RX0 (by decide +kernel) rfl (Nat.le_of_ble_eq_true rfl) ?_
  intro p e s m below meth c ls A hmn F hG hl
  have G := hG
  have hl : lv_has ls 2 [(0, .ref (a 13)), (1, .ref (a 14))] := hl
  obtain ⟨hx, hb, hr, hml, hown, hts, hlocks, hA, hK, hN⟩ := id F
  unfold C0_copyRow_13_14 at h
  refine lv_aload_n hx hb dX0_copyRow_0 rfl (lv_at hl 0 rfl) ?_
  refine lv_iconst (v := 0) hx hb dX0_copyRow_1 (by decide) ?_
  refine lv_aload_n hx hb dX0_copyRow_2 rfl (lv_at hl 1 rfl) ?_
  refine lv_iconst (v := 0) hx hb dX0_copyRow_3 (by decide) ?_
  refine lv_aload_n hx hb dX0_copyRow_4 rfl (lv_at hl 1 rfl) ?_
  refine c_len (v := 12) F G cI_14 ⟨_, rfl⟩ (by decide) dX0_copyRow_5 ?_
  obtain ⟨b_1, b_2, b_3, b_4, b_5, h⟩ := h
  refine c_copy_i_X0 F G cI_13 cI_14 hl.1 b_1 b_2 b_3 b_4 b_5 (Nat.le_of_ble_eq_true rfl) (by decide) dX0_copyRow_6 (fun H locs G => ?_)
  exact c_vret F G dX0_copyRow_9 h
set_option maxHeartbeats 4000000 in
set_option maxRecDepth 100000 in
theorem kX1_C0_copyRow_13_14 {p : Program} {l : Launch} {e : Env} {s : State} {m : MethodId} {R : Room} {args : Array Value} {below : List Frame} {meth : Method} {c : Code} {D : va_G} {a : Nat → Nat} {d : Nat → ClassId} {A : Nat → Prop} {Q : State → Prop} {cc : ByteArray} {nL pc cells slots : Nat} {ret : Option FieldType} {ls : Array Slot} {rest : List Value}  {S : CS} {H : Heap} {locs : List Loc} {Q1 : CS → Prop} (F : FC p s m meth c args D a d A RX1 cc nL ret) (G : GC D a d A s.heap S H locs) (hsz : ls.size = nL) (hR : rmX0_copyRow_13_14.frames + 1 ≤ R.frames ∧ 8 + (2 + 11) + rmX0_copyRow_13_14.locals ≤ R.locals) (hc : cells + 0 ≤ R.cells ∧ slots + 0 ≤ R.slots) (hW : (rest.map fun v => v.category).sum ≤ 8) (hd : decode cc pc = .ok (.invokestatic 49, 3)) (h : C0_copyRow_13_14  S Q1) (k : ∀ (S1 : CS) (H : Heap) (locs : List Loc), GC D a d A s.heap S1 H locs → Q1 S1 → W p l e R s m args below meth c H locs cells slots Q (F0 m (pc + 3) ls rest)) : W p l e R s m args below meth c H locs cells slots Q (F0 m pc ls (.ref (a 14) :: .ref (a 13) :: rest)) := by
  obtain ⟨hx, hb, hr, hml, hown, hts, hlocks, hA, hK, hN⟩ := id F
  exact c_callv F G (va_runSN (As := [.ref (a 13), .ref (a 14)]) (rest := rest) ⟨hx, hb, hml, hown, hts⟩ (wC0_copyRow_13_14 H.size  S Q1 h) ⟨va_cnB 2 hts (lw_meth q967) rfl rfl rfl (hN.1 _ (List.mem_of_getElem? (i := 33) rfl)) (hts _ q82) (by decide +kernel) hR, hts _ q966, trivial⟩ ⟨PC_blind, c_pre F G⟩ rfl rfl hsz rfl (lv_room hW) hd hc) k
/-! StrokesHeard$State.copyOf -/
def C1_copyOf_2_1_p71 (Q : CS → Prop) (K18 : Int32 → CS → Prop) (v2 : Int32) (S : CS) : Prop := vp_in v2 6 ∧ (∃ y_46 : Nat, (S.2.1 6 v2.toNatClampNeg) = some y_46 ∧ (vp_in v2 6 ∧ (∃ y_48 : Nat, (S.2.1 5 v2.toNatClampNeg) = some y_48 ∧ (∃ (κ_51 : Nat) (fs_52 : List Value), κ_51 < 6 ∧ has S y_46 (.inr (6 + κ_51, fs_52)) ∧ CV_takes κ_51 y_46 y_48 S (fun S_50 => K18 (v2 + 1) S_50)))))
def C1_copyOf_2_1_p56 (Q : CS → Prop) (K18 : Int32 → CS → Prop) (v2 : Int32) (S : CS) : Prop := vp_in v2 6 ∧ (∃ y_33 : Nat, (S.2.1 5 v2.toNatClampNeg) = some y_33 ∧ (∃ (κ_36 : Nat) (fs_37 : List Value), κ_36 < 6 ∧ has S y_33 (.inr (6 + κ_36, fs_37)) ∧ CV_another κ_36 y_33 S (fun y_34 S_35 => vp_in v2 6 ∧ ∃ (κ_43 : Nat) (fs_41 : List Value), κ_43 < 6 ∧ has S_35 y_34 (.inr (6 + κ_43, fs_41)) ∧ (C1_copyOf_2_1_p71 Q K18 v2 (cR S_35 6 v2 (some y_34))))))
def C1_copyOf_2_1_L18 (Q : CS → Prop)   : Nat → Int32 → CS → Prop
  | 0, _, _ => False
  | n + 1, v2, S => ((S.1 2 1) ≤ v2 → C0_copyRow_9_10  S (fun S_3 => C0_copyRow_13_14  (cF (cF (cF (cF S_3 2 4 (S_3.1 1 4)) 2 5 ((cF S_3 2 4 (S_3.1 1 4)).1 1 5)) 2 6 ((cF (cF S_3 2 4 (S_3.1 1 4)) 2 5 ((cF S_3 2 4 (S_3.1 1 4)).1 1 5)).1 1 6)) 2 7 ((cF (cF (cF S_3 2 4 (S_3.1 1 4)) 2 5 ((cF S_3 2 4 (S_3.1 1 4)).1 1 5)) 2 6 ((cF (cF S_3 2 4 (S_3.1 1 4)) 2 5 ((cF S_3 2 4 (S_3.1 1 4)).1 1 5)).1 1 6)).1 1 7)) (fun S_5 => ¬ (0 : Int32) < 0 ∧ ¬ (0 : Int32) < 0 ∧ ¬ (14 : Int32) < 0 ∧ (0 : Int32).toNatClampNeg + (14 : Int32).toNatClampNeg ≤ 14 ∧ (0 : Int32).toNatClampNeg + (14 : Int32).toNatClampNeg ≤ 14 ∧ (∀ i : Nat, i < (14 : Int32).toNatClampNeg → ∀ y : Nat, (cF (cF S_5 2 9 (S_5.1 1 9)) 2 10 ((cF S_5 2 9 (S_5.1 1 9)).1 1 10)).2.1 17 ((0 : Int32).toNatClampNeg + i) = some y → ∃ fs, has (cF (cF S_5 2 9 (S_5.1 1 9)) 2 10 ((cF S_5 2 9 (S_5.1 1 9)).1 1 10)) y (.inr (13, fs))) ∧ (Q ((cF (cF S_5 2 9 (S_5.1 1 9)) 2 10 ((cF S_5 2 9 (S_5.1 1 9)).1 1 10)).1, u2 (cF (cF S_5 2 9 (S_5.1 1 9)) 2 10 ((cF S_5 2 9 (S_5.1 1 9)).1 1 10)).2.1 18 (va_cpy ((cF (cF S_5 2 9 (S_5.1 1 9)) 2 10 ((cF S_5 2 9 (S_5.1 1 9)).1 1 10)).2.1 17) ((cF (cF S_5 2 9 (S_5.1 1 9)) 2 10 ((cF S_5 2 9 (S_5.1 1 9)).1 1 10)).2.1 18) ((0 : Int32).toNatClampNeg) ((0 : Int32).toNatClampNeg) ((14 : Int32).toNatClampNeg)), (cF (cF S_5 2 9 (S_5.1 1 9)) 2 10 ((cF S_5 2 9 (S_5.1 1 9)).1 1 10)).2.2))))) ∧ (¬ (S.1 2 1) ≤ v2 → vp_in v2 6 ∧ (((S.2.1 6 v2.toNatClampNeg) = none → C1_copyOf_2_1_p56 Q (fun v2_ S_ => C1_copyOf_2_1_L18 Q n v2_ S_) v2 S) ∧ (∀ y_14 : Nat, (S.2.1 6 v2.toNatClampNeg) = some y_14 → vp_in v2 6 ∧ (∃ y_16 : Nat, (S.2.1 6 v2.toNatClampNeg) = some y_16 ∧ (∃ (κ_19 : Nat) (fs_20 : List Value), κ_19 < 6 ∧ has S y_16 (.inr (6 + κ_19, fs_20)) ∧ CV_kind κ_19 y_16 S (fun r_17 S_18 => vp_in v2 6 ∧ (∃ y_24 : Nat, (S_18.2.1 5 v2.toNatClampNeg) = some y_24 ∧ (∃ (κ_27 : Nat) (fs_28 : List Value), κ_27 < 6 ∧ has S_18 y_24 (.inr (6 + κ_27, fs_28)) ∧ CV_kind κ_27 y_24 S_18 (fun r_25 S_26 => (r_17 = r_25 → C1_copyOf_2_1_p71 Q (fun v2_ S_ => C1_copyOf_2_1_L18 Q n v2_ S_) v2 S_26) ∧ (¬ r_17 = r_25 → C1_copyOf_2_1_p56 Q (fun v2_ S_ => C1_copyOf_2_1_L18 Q n v2_ S_) v2 S_26))))))))))
def C1_copyOf_2_1  (S : CS) (Q : CS → Prop) : Prop := ∃ k18, k18 ≤ 7 ∧ C1_copyOf_2_1_L18 Q k18 0 (cF (cF S 2 0 (S.1 1 0)) 2 1 ((cF S 2 0 (S.1 1 0)).1 1 1))
abbrev rmX1_copyOf_2_1 : Room := { frames := 5, cells := 7, slots := 14, locals := 100 }
set_option maxHeartbeats 4000000 in
set_option maxRecDepth 100000 in
theorem wC1_copyOf_2_1_p71 {p : Program} {l : Launch} {e : Env} {s : State} {m : MethodId} {args : Array Value} {below : List Frame} {meth : Method} {c : Code} {D : va_G} {a : Nat → Nat} {d : Nat → ClassId} {A : Nat → Prop} {Q : CS → Prop} {K18 : Int32 → CS → Prop} (F : FC p s m meth c args D a d A RX1 cX1_copyOf 3 none) (v2 : Int32) (S : CS) {nn : Nat} (hK18 : ∀ (v2 : Int32) (S : CS) (H : Heap) (locs : List Loc) (ls : Array Slot) (cells slots : Nat), cells + nn * 1 ≤ 7 → slots + nn * 2 ≤ 14 → GC D a d A s.heap S H locs → lv_has ls 3 [(0, .ref (a 2)), (1, .ref (a 1)), (2, .int v2)] → K18 v2 S → wCv p l e rmX1_copyOf_2_1 s m args below meth c D a d A Q 7 14 H locs cells slots (F0 m 18 ls [])) (cells slots : Nat) (hc1 : cells + nn * 1 + 0 ≤ 7) (hc2 : slots + nn * 2 + 0 ≤ 14) {H : Heap} {locs : List Loc} {ls : Array Slot} (G : GC D a d A s.heap S H locs) (hl : lv_has ls 3 [(0, .ref (a 2)), (1, .ref (a 1)), (2, .int v2)]) (h : C1_copyOf_2_1_p71 Q K18 v2 S) : wCv p l e rmX1_copyOf_2_1 s m args below meth c D a d A Q 7 14 H locs cells slots (F0 m 71 ls []) := by
  obtain ⟨hx, hb, hr, hml, hown, hts, hlocks, hA, hK, hN⟩ := id F
  unfold C1_copyOf_2_1_p71 at h
  refine lv_aload_n hx hb dX1_copyOf_71 rfl (lv_at hl 0 rfl) ?_
  refine cgX1_2_clock F G dX1_copyOf_72 ?_
  refine lv_iload_n hx hb dX1_copyOf_75 rfl (lv_at hl 2 rfl) ?_
  obtain ⟨b_45, h⟩ := h
  refine c_aaload F G cR_6 rfl b_45 dX1_copyOf_76 ?_
  obtain ⟨y_46, hy_46, h⟩ := h
  refine c_nn hy_46 ?_
  refine lv_aload_n hx hb dX1_copyOf_77 rfl (lv_at hl 1 rfl) ?_
  refine cgX1_1_clock F G dX1_copyOf_78 ?_
  refine lv_iload_n hx hb dX1_copyOf_81 rfl (lv_at hl 2 rfl) ?_
  obtain ⟨b_47, h⟩ := h
  refine c_aaload F G cR_5 rfl b_47 dX1_copyOf_82 ?_
  obtain ⟨y_48, hy_48, h⟩ := h
  refine c_nn hy_48 ?_
  obtain ⟨κ_51, fs_52, q_53, z_54, h⟩ := h
  refine kvX1_takes F G q_53 z_54 hl.1 ⟨(Nat.le_of_ble_eq_true rfl), (Nat.le_of_ble_eq_true rfl)⟩ ⟨show _ ≤ 7 by omega, show _ ≤ 14 by omega⟩ (Nat.le_of_ble_eq_true rfl) dX1_copyOf_83 h (fun S_50 H locs G h => ?_)
  refine lv_iinc (v := (v2 + 1)) (lv' := [(2, .int (v2 + 1)), (0, .ref (a 2)), (1, .ref (a 1))]) hx hb dX1_copyOf_86 hl (k := 2) rfl rfl (by decide) rfl (fun ls hl => ?_)
  refine lv_goto (tgt := 18) hx hb dX1_copyOf_89 (by decide) ?_
  exact hK18 (v2 + 1) S_50 _ _ _ cells slots (by omega) (by omega) G (lv_sub hl [1, 2, 0] rfl) h
set_option maxHeartbeats 4000000 in
set_option maxRecDepth 100000 in
theorem wC1_copyOf_2_1_p56 {p : Program} {l : Launch} {e : Env} {s : State} {m : MethodId} {args : Array Value} {below : List Frame} {meth : Method} {c : Code} {D : va_G} {a : Nat → Nat} {d : Nat → ClassId} {A : Nat → Prop} {Q : CS → Prop} {K18 : Int32 → CS → Prop} (F : FC p s m meth c args D a d A RX1 cX1_copyOf 3 none) (v2 : Int32) (S : CS) {nn : Nat} (hK18 : ∀ (v2 : Int32) (S : CS) (H : Heap) (locs : List Loc) (ls : Array Slot) (cells slots : Nat), cells + nn * 1 ≤ 7 → slots + nn * 2 ≤ 14 → GC D a d A s.heap S H locs → lv_has ls 3 [(0, .ref (a 2)), (1, .ref (a 1)), (2, .int v2)] → K18 v2 S → wCv p l e rmX1_copyOf_2_1 s m args below meth c D a d A Q 7 14 H locs cells slots (F0 m 18 ls [])) (cells slots : Nat) (hc1 : cells + nn * 1 + 1 ≤ 7) (hc2 : slots + nn * 2 + 2 ≤ 14) {H : Heap} {locs : List Loc} {ls : Array Slot} (G : GC D a d A s.heap S H locs) (hl : lv_has ls 3 [(0, .ref (a 2)), (1, .ref (a 1)), (2, .int v2)]) (h : C1_copyOf_2_1_p56 Q K18 v2 S) : wCv p l e rmX1_copyOf_2_1 s m args below meth c D a d A Q 7 14 H locs cells slots (F0 m 56 ls []) := by
  obtain ⟨hx, hb, hr, hml, hown, hts, hlocks, hA, hK, hN⟩ := id F
  unfold C1_copyOf_2_1_p56 at h
  refine lv_aload_n hx hb dX1_copyOf_56 rfl (lv_at hl 0 rfl) ?_
  refine cgX1_2_clock F G dX1_copyOf_57 ?_
  refine lv_iload_n hx hb dX1_copyOf_60 rfl (lv_at hl 2 rfl) ?_
  refine lv_aload_n hx hb dX1_copyOf_61 rfl (lv_at hl 1 rfl) ?_
  refine cgX1_1_clock F G dX1_copyOf_62 ?_
  refine lv_iload_n hx hb dX1_copyOf_65 rfl (lv_at hl 2 rfl) ?_
  obtain ⟨b_32, h⟩ := h
  refine c_aaload F G cR_5 rfl b_32 dX1_copyOf_66 ?_
  obtain ⟨y_33, hy_33, h⟩ := h
  refine c_nn hy_33 ?_
  obtain ⟨κ_36, fs_37, q_38, z_39, h⟩ := h
  refine kvX1_another F G q_38 z_39 hl.1 ⟨(Nat.le_of_ble_eq_true rfl), (Nat.le_of_ble_eq_true rfl)⟩ ⟨show _ ≤ 7 by omega, show _ ≤ 14 by omega⟩ (Nat.le_of_ble_eq_true rfl) dX1_copyOf_67 h (fun y_34 S_35 H locs G h => ?_)
  obtain ⟨b_40, κ_43, fs_41, q_44, z_42, h⟩ := h
  refine c_aastore F G cR_6 rfl (p_any_R F G q_44 z_42) b_40 dX1_copyOf_70 (fun H locs G => ?_)
  exact wC1_copyOf_2_1_p71 F v2 (cR S_35 6 v2 (some y_34)) hK18 (cells + 1) (slots + 2) (by omega) (by omega) G (lv_sub hl [0, 1, 2] rfl) h
set_option maxHeartbeats 4000000 in
set_option maxRecDepth 100000 in
theorem wC1_copyOf_2_1_L18 {p : Program} {l : Launch} {e : Env} {s : State} {m : MethodId} {args : Array Value} {below : List Frame} {meth : Method} {c : Code} {D : va_G} {a : Nat → Nat} {d : Nat → ClassId} {A : Nat → Prop} {Q : CS → Prop}  (F : FC p s m meth c args D a d A RX1 cX1_copyOf 3 none)   :
    ∀ (n : Nat) (v2 : Int32) (S : CS) (H : Heap) (locs : List Loc) (ls : Array Slot) (cells slots : Nat), cells + n * 1 ≤ 7 → slots + n * 2 ≤ 14 → GC D a d A s.heap S H locs → lv_has ls 3 [(0, .ref (a 2)), (1, .ref (a 1)), (2, .int v2)] → C1_copyOf_2_1_L18 Q n v2 S → wCv p l e rmX1_copyOf_2_1 s m args below meth c D a d A Q 7 14 H locs cells slots (F0 m 18 ls []) := by
  obtain ⟨hx, hb, hr, hml, hown, hts, hlocks, hA, hK, hN⟩ := id F
  intro n
  induction n with
  | zero => intro v2 S H locs ls cells slots hc1 hc2 G hl h; exact absurd h (fun q => q)
  | succ n ih =>
    intro v2 S H locs ls cells slots hc1 hc2 G hl h
    unfold C1_copyOf_2_1_L18 at h
    refine lv_iload_n hx hb dX1_copyOf_18 rfl (lv_at hl 2 rfl) ?_
    refine lv_aload_n hx hb dX1_copyOf_19 rfl (lv_at hl 0 rfl) ?_
    refine cgX1_2_many F G dX1_copyOf_20 ?_
    refine lv_icmp_ge (tgt := 92) hx hb dX1_copyOf_23 (by decide) (fun c_1 => ?_) (fun c_1 => ?_)
    · replace h := h.1 c_1
      refine lv_aload_n hx hb dX1_copyOf_92 rfl (lv_at hl 1 rfl) ?_
      refine cgX1_1_bed F G dX1_copyOf_93 ?_
      refine lv_aload_n hx hb dX1_copyOf_96 rfl (lv_at hl 0 rfl) ?_
      refine cgX1_2_bed F G dX1_copyOf_97 ?_
      refine kX1_C0_copyRow_9_10 F G hl.1 ⟨(Nat.le_of_ble_eq_true rfl), (Nat.le_of_ble_eq_true rfl)⟩ ⟨show _ ≤ 7 by omega, show _ ≤ 14 by omega⟩ (Nat.le_of_ble_eq_true rfl) dX1_copyOf_100 h (fun S_3 H locs G h => ?_)
      refine lv_aload_n hx hb dX1_copyOf_103 rfl (lv_at hl 0 rfl) ?_
      refine lv_aload_n hx hb dX1_copyOf_104 rfl (lv_at hl 1 rfl) ?_
      refine cgX1_1_heard F G dX1_copyOf_105 ?_
      refine cpX1_2_heard F G dX1_copyOf_108 (fun H locs G => ?_)
      refine lv_aload_n hx hb dX1_copyOf_111 rfl (lv_at hl 0 rfl) ?_
      refine lv_aload_n hx hb dX1_copyOf_112 rfl (lv_at hl 1 rfl) ?_
      refine cgX1_1_missed F G dX1_copyOf_113 ?_
      refine cpX1_2_missed F G dX1_copyOf_116 (fun H locs G => ?_)
      refine lv_aload_n hx hb dX1_copyOf_119 rfl (lv_at hl 0 rfl) ?_
      refine lv_aload_n hx hb dX1_copyOf_120 rfl (lv_at hl 1 rfl) ?_
      refine cgX1_1_mistaken F G dX1_copyOf_121 ?_
      refine cpX1_2_mistaken F G dX1_copyOf_124 (fun H locs G => ?_)
      refine lv_aload_n hx hb dX1_copyOf_127 rfl (lv_at hl 0 rfl) ?_
      refine lv_aload_n hx hb dX1_copyOf_128 rfl (lv_at hl 1 rfl) ?_
      refine cgX1_1_minute F G dX1_copyOf_129 ?_
      refine cpX1_2_minute F G dX1_copyOf_132 (fun H locs G => ?_)
      refine lv_aload_n hx hb dX1_copyOf_135 rfl (lv_at hl 1 rfl) ?_
      refine cgX1_1_note F G dX1_copyOf_136 ?_
      refine lv_aload_n hx hb dX1_copyOf_139 rfl (lv_at hl 0 rfl) ?_
      refine cgX1_2_note F G dX1_copyOf_140 ?_
      refine kX1_C0_copyRow_13_14 F G hl.1 ⟨(Nat.le_of_ble_eq_true rfl), (Nat.le_of_ble_eq_true rfl)⟩ ⟨show _ ≤ 7 by omega, show _ ≤ 14 by omega⟩ (Nat.le_of_ble_eq_true rfl) dX1_copyOf_143 h (fun S_5 H locs G h => ?_)
      refine lv_aload_n hx hb dX1_copyOf_146 rfl (lv_at hl 0 rfl) ?_
      refine lv_aload_n hx hb dX1_copyOf_147 rfl (lv_at hl 1 rfl) ?_
      refine cgX1_1_notes F G dX1_copyOf_148 ?_
      refine cpX1_2_notes F G dX1_copyOf_151 (fun H locs G => ?_)
      refine lv_aload_n hx hb dX1_copyOf_154 rfl (lv_at hl 0 rfl) ?_
      refine lv_aload_n hx hb dX1_copyOf_155 rfl (lv_at hl 1 rfl) ?_
      refine cgX1_1_texts F G dX1_copyOf_156 ?_
      refine cpX1_2_texts F G dX1_copyOf_159 (fun H locs G => ?_)
      refine lv_aload_n hx hb dX1_copyOf_162 rfl (lv_at hl 1 rfl) ?_
      refine cgX1_1_text F G dX1_copyOf_163 ?_
      refine lv_iconst (v := 0) hx hb dX1_copyOf_166 (by decide) ?_
      refine lv_aload_n hx hb dX1_copyOf_167 rfl (lv_at hl 0 rfl) ?_
      refine cgX1_2_text F G dX1_copyOf_168 ?_
      refine lv_iconst (v := 0) hx hb dX1_copyOf_171 (by decide) ?_
      refine lv_bipush (v := 14) hx hb dX1_copyOf_172 (by decide) ?_
      obtain ⟨b_6, b_7, b_8, b_9, b_10, b_11, h⟩ := h
      refine c_copy_r_X1 F G cR_17 cR_18 hl.1 b_6 b_7 b_8 b_9 b_10 b_11 (Nat.le_of_ble_eq_true rfl) (by decide) dX1_copyOf_174 (fun H locs G => ?_)
      refine W.widen (k := 7) (n := 14) (by omega) (by omega) ?_
      exact c_vret F G dX1_copyOf_177 h
    · replace h := h.2 c_1
      refine lv_aload_n hx hb dX1_copyOf_26 rfl (lv_at hl 0 rfl) ?_
      refine cgX1_2_clock F G dX1_copyOf_27 ?_
      refine lv_iload_n hx hb dX1_copyOf_30 rfl (lv_at hl 2 rfl) ?_
      obtain ⟨b_12, h⟩ := h
      refine c_aaload F G cR_6 rfl b_12 dX1_copyOf_31 ?_
      refine c_ifnull (tgt := 56) hx hb dX1_copyOf_32 (by decide) (fun c_13 => ?_) (fun y_14 c_13 => ?_)
      · replace h := h.1 c_13
        exact wC1_copyOf_2_1_p56 F v2 S ih cells slots (by omega) (by omega) G (lv_sub hl [0, 1, 2] rfl) h
      · replace h := h.2 y_14 c_13
        refine lv_aload_n hx hb dX1_copyOf_35 rfl (lv_at hl 0 rfl) ?_
        refine cgX1_2_clock F G dX1_copyOf_36 ?_
        refine lv_iload_n hx hb dX1_copyOf_39 rfl (lv_at hl 2 rfl) ?_
        obtain ⟨b_15, h⟩ := h
        refine c_aaload F G cR_6 rfl b_15 dX1_copyOf_40 ?_
        obtain ⟨y_16, hy_16, h⟩ := h
        refine c_nn hy_16 ?_
        obtain ⟨κ_19, fs_20, q_21, z_22, h⟩ := h
        refine kvX1_kind F G q_21 z_22 hl.1 ⟨(Nat.le_of_ble_eq_true rfl), (Nat.le_of_ble_eq_true rfl)⟩ ⟨show _ ≤ 7 by omega, show _ ≤ 14 by omega⟩ (Nat.le_of_ble_eq_true rfl) dX1_copyOf_41 h (fun r_17 S_18 H locs G h => ?_)
        refine lv_aload_n hx hb dX1_copyOf_44 rfl (lv_at hl 1 rfl) ?_
        refine cgX1_1_clock F G dX1_copyOf_45 ?_
        refine lv_iload_n hx hb dX1_copyOf_48 rfl (lv_at hl 2 rfl) ?_
        obtain ⟨b_23, h⟩ := h
        refine c_aaload F G cR_5 rfl b_23 dX1_copyOf_49 ?_
        obtain ⟨y_24, hy_24, h⟩ := h
        refine c_nn hy_24 ?_
        obtain ⟨κ_27, fs_28, q_29, z_30, h⟩ := h
        refine kvX1_kind F G q_29 z_30 hl.1 ⟨(Nat.le_of_ble_eq_true rfl), (Nat.le_of_ble_eq_true rfl)⟩ ⟨show _ ≤ 7 by omega, show _ ≤ 14 by omega⟩ (Nat.le_of_ble_eq_true rfl) dX1_copyOf_50 h (fun r_25 S_26 H locs G h => ?_)
        refine lv_icmp_eq (tgt := 71) hx hb dX1_copyOf_53 (by decide) (fun c_31 => ?_) (fun c_31 => ?_)
        · replace h := h.1 c_31
          exact wC1_copyOf_2_1_p71 F v2 S_26 ih cells slots (by omega) (by omega) G (lv_sub hl [0, 1, 2] rfl) h
        · replace h := h.2 c_31
          exact wC1_copyOf_2_1_p56 F v2 S_26 ih cells slots (by omega) (by omega) G (lv_sub hl [0, 1, 2] rfl) h
set_option maxHeartbeats 4000000 in
set_option maxRecDepth 100000 in
theorem wC1_copyOf_2_1 {l : Launch} {D : va_G} {a : Nat → Nat} {d : Nat → ClassId} (sz : Nat)  (S : CS) (Q : CS → Prop) (h : C1_copyOf_2_1  S Q) : CMv l D a d yX1_copyOf cX1_copyOf 3 rmX1_copyOf_2_1 7 14 [.ref (a 2), .ref (a 1)] sz S Q := by
  refine c_enter (Qc := fun A => va_Qv Q (BC D a d A) A) RX1 (by decide +kernel) rfl (Nat.le_of_ble_eq_true rfl) ?_
  intro p e s m below meth c ls A hmn F hG hl
  have G := hG
  have hl : lv_has ls 3 [(0, .ref (a 2)), (1, .ref (a 1))] := hl
  obtain ⟨hx, hb, hr, hml, hown, hts, hlocks, hA, hK, hN⟩ := id F
  unfold C1_copyOf_2_1 at h
  refine lv_aload_n hx hb dX1_copyOf_0 rfl (lv_at hl 0 rfl) ?_
  refine lv_aload_n hx hb dX1_copyOf_1 rfl (lv_at hl 1 rfl) ?_
  refine cgX1_1_z F G dX1_copyOf_2 ?_
  refine cpX1_2_z F G dX1_copyOf_5 (fun H locs G => ?_)
  refine lv_aload_n hx hb dX1_copyOf_8 rfl (lv_at hl 0 rfl) ?_
  refine lv_aload_n hx hb dX1_copyOf_9 rfl (lv_at hl 1 rfl) ?_
  refine cgX1_1_many F G dX1_copyOf_10 ?_
  refine cpX1_2_many F G dX1_copyOf_13 (fun H locs G => ?_)
  refine lv_iconst (v := 0) hx hb dX1_copyOf_16 (by decide) ?_
  refine lv_istore_n (lv' := [(2, .int 0), (0, .ref (a 2)), (1, .ref (a 1))]) hx hb dX1_copyOf_17 rfl hl (by decide) rfl (fun ls hl => ?_)
  obtain ⟨k18, hk18, h⟩ := h
  exact wC1_copyOf_2_1_L18 F   k18 0 (cF (cF S 2 0 (S.1 1 0)) 2 1 ((cF S 2 0 (S.1 1 0)).1 1 1)) _ _ _ 0 0 (by omega) (by omega) G (lv_sub hl [1, 2, 0] rfl) h
set_option maxHeartbeats 4000000 in
set_option maxRecDepth 100000 in
theorem kX0_C1_copyOf_2_1 {p : Program} {l : Launch} {e : Env} {s : State} {m : MethodId} {R : Room} {args : Array Value} {below : List Frame} {meth : Method} {c : Code} {D : va_G} {a : Nat → Nat} {d : Nat → ClassId} {A : Nat → Prop} {Q : State → Prop} {cc : ByteArray} {nL pc cells slots : Nat} {ret : Option FieldType} {ls : Array Slot} {rest : List Value}  {S : CS} {H : Heap} {locs : List Loc} {Q1 : CS → Prop} (F : FC p s m meth c args D a d A RX0 cc nL ret) (G : GC D a d A s.heap S H locs) (hsz : ls.size = nL) (hR : rmX1_copyOf_2_1.frames + 1 ≤ R.frames ∧ 8 + (3 + 11) + rmX1_copyOf_2_1.locals ≤ R.locals) (hc : cells + 7 ≤ R.cells ∧ slots + 14 ≤ R.slots) (hW : (rest.map fun v => v.category).sum ≤ 8) (hd : decode cc pc = .ok (.invokevirtual 403, 3)) (h : C1_copyOf_2_1  S Q1) (k : ∀ (S1 : CS) (H : Heap) (locs : List Loc), GC D a d A s.heap S1 H locs → Q1 S1 → W p l e R s m args below meth c H locs (cells + 7) (slots + 14) Q (F0 m (pc + 3) ls rest)) : W p l e R s m args below meth c H locs cells slots Q (F0 m pc ls (.ref (a 1) :: .ref (a 2) :: rest)) := by
  obtain ⟨hx, hb, hr, hml, hown, hts, hlocks, hA, hK, hN⟩ := id F
  exact c_callv F G (va_runV (As := [.ref (a 1)]) (rest := rest) ⟨hx, hb, hml, hown, hts⟩ (wC1_copyOf_2_1 H.size  S Q1 h) (cwV 1 hts (lw_V q927 q928 q929 q83 q930) rfl rfl rfl (by decide +kernel) hR) ⟨PC_blind, va_recv hK G.1 (ci := 1) (q0 := 2) rfl rfl, c_pre F G⟩ rfl rfl hsz rfl (lv_room hW) hd hc) k
/-! StrokesHeard.keep -/
def C0_keep  (S : CS) (Q : Int32 → CS → Prop) : Prop := C1_copyOf_2_1  S (fun S_2 => Q ((cF S_2 0 4 1).1 1 1) (cF S_2 0 4 1))
abbrev rmX0_keep : Room := { frames := 6, cells := 7, slots := 14, locals := 122 }
set_option maxHeartbeats 4000000 in
set_option maxRecDepth 100000 in
theorem wC0_keep {l : Launch} {D : va_G} {a : Nat → Nat} {d : Nat → ClassId} (sz : Nat)  (S : CS) (Q : Int32 → CS → Prop) (h : C0_keep  S Q) : CMi l D a d yX0_keep cX0_keep 1 .int rmX0_keep 7 14 [.ref (a 0)] sz S Q := by
  refine c_enter (Qc := fun A => va_Qi Q (BC D a d A) A) RX0 (by decide +kernel) rfl (Nat.le_of_ble_eq_true rfl) ?_
  intro p e s m below meth c ls A hmn F hG hl
  have G := hG
  have hl : lv_has ls 1 [(0, .ref (a 0))] := hl
  obtain ⟨hx, hb, hr, hml, hown, hts, hlocks, hA, hK, hN⟩ := id F
  unfold C0_keep at h
  refine lv_aload_n hx hb dX0_keep_0 rfl (lv_at hl 0 rfl) ?_
  refine cgX0_0_image F G dX0_keep_1 ?_
  refine lv_aload_n hx hb dX0_keep_4 rfl (lv_at hl 0 rfl) ?_
  refine cgX0_0_now F G dX0_keep_5 ?_
  refine kX0_C1_copyOf_2_1 F G hl.1 ⟨(Nat.le_of_ble_eq_true rfl), (Nat.le_of_ble_eq_true rfl)⟩ ⟨(Nat.le_of_ble_eq_true rfl), (Nat.le_of_ble_eq_true rfl)⟩ (Nat.le_of_ble_eq_true rfl) dX0_keep_8 h (fun S_2 H locs G h => ?_)
  refine lv_aload_n hx hb dX0_keep_11 rfl (lv_at hl 0 rfl) ?_
  refine lv_iconst (v := 1) hx hb dX0_keep_12 (by decide) ?_
  refine cpX0_0_hasImage F G rfl rfl dX0_keep_13 (fun H locs G => ?_)
  refine lv_aload_n hx hb dX0_keep_16 rfl (lv_at hl 0 rfl) ?_
  refine cgX0_0_now F G dX0_keep_17 ?_
  refine cgX0_1_many F G dX0_keep_20 ?_
  exact c_iret F G dX0_keep_23 h
/-! StrokesHeard.back -/
def C0_back  (S : CS) (Q : Int32 → CS → Prop) : Prop := (¬ (S.1 0 4) = 0 → C1_copyOf_1_2  S (fun S_3 => Q (S_3.1 1 1) S_3)) ∧ ((S.1 0 4) = 0 → Q (-1000000002) S)
abbrev rmX0_back : Room := { frames := 6, cells := 7, slots := 14, locals := 122 }
set_option maxHeartbeats 4000000 in
set_option maxRecDepth 100000 in
theorem wC0_back {l : Launch} {D : va_G} {a : Nat → Nat} {d : Nat → ClassId} (sz : Nat)  (S : CS) (Q : Int32 → CS → Prop) (h : C0_back  S Q) : CMi l D a d yX0_back cX0_back 1 .int rmX0_back 7 14 [.ref (a 0)] sz S Q := by
  refine c_enter (Qc := fun A => va_Qi Q (BC D a d A) A) RX0 (by decide +kernel) rfl (Nat.le_of_ble_eq_true rfl) ?_
  intro p e s m below meth c ls A hmn F hG hl
  have G := hG
  have hl : lv_has ls 1 [(0, .ref (a 0))] := hl
  obtain ⟨hx, hb, hr, hml, hown, hts, hlocks, hA, hK, hN⟩ := id F
  unfold C0_back at h
  refine lv_aload_n hx hb dX0_back_0 rfl (lv_at hl 0 rfl) ?_
  refine cgX0_0_hasImage F G dX0_back_1 ?_
  refine lv_if_ne (tgt := 11) hx hb dX0_back_4 (by decide) (fun c_1 => ?_) (fun c_1 => ?_)
  · replace h := h.1 c_1
    refine lv_aload_n hx hb dX0_back_11 rfl (lv_at hl 0 rfl) ?_
    refine cgX0_0_now F G dX0_back_12 ?_
    refine lv_aload_n hx hb dX0_back_15 rfl (lv_at hl 0 rfl) ?_
    refine cgX0_0_image F G dX0_back_16 ?_
    refine kX0_C1_copyOf_1_2 F G hl.1 ⟨(Nat.le_of_ble_eq_true rfl), (Nat.le_of_ble_eq_true rfl)⟩ ⟨(Nat.le_of_ble_eq_true rfl), (Nat.le_of_ble_eq_true rfl)⟩ (Nat.le_of_ble_eq_true rfl) dX0_back_19 h (fun S_3 H locs G h => ?_)
    refine lv_aload_n hx hb dX0_back_22 rfl (lv_at hl 0 rfl) ?_
    refine cgX0_0_now F G dX0_back_23 ?_
    refine cgX0_1_many F G dX0_back_26 ?_
    exact c_iret F G dX0_back_29 h
  · replace h := h.2 c_1
    refine lv_ldcw hx hb hown (hts _ q1158) dX0_back_7 ?_
    refine W.widen (k := 7) (n := 14) (by decide) (by decide) ?_
    exact c_iret F G dX0_back_10 h
/-! StrokesHeard.count -/
def C0_count (v1 : Int32) (S : CS) (Q : Int32 → CS → Prop) : Prop := (v1 = 0 → Q (S.1 1 1) S) ∧ (v1 = 1 → Q (S.1 1 7) S) ∧ (v1 = 2 → vp_in (v1 - 2) 2 ∧ (Q (S.1 9 ((v1 - 2).toNatClampNeg)) S)) ∧ (v1 = 3 → vp_in (v1 - 2) 2 ∧ (Q (S.1 9 ((v1 - 2).toNatClampNeg)) S)) ∧ (v1 = 4 → Q (S.1 1 10) S) ∧ (v1 = 5 → Q (S.1 0 25) S) ∧ (v1 = 6 → Q (S.1 0 7) S) ∧ (v1 = 7 → Q (S.1 1 0) S) ∧ (¬ v1 = 0 → ¬ v1 = 1 → ¬ v1 = 2 → ¬ v1 = 3 → ¬ v1 = 4 → ¬ v1 = 5 → ¬ v1 = 6 → ¬ v1 = 7 → Q (-1000000001) S)
abbrev rmX0_count : Room := { frames := 0, cells := 0, slots := 0, locals := 0 }
set_option maxHeartbeats 4000000 in
set_option maxRecDepth 100000 in
theorem wC0_count {l : Launch} {D : va_G} {a : Nat → Nat} {d : Nat → ClassId} (sz : Nat) (v1 : Int32) (S : CS) (Q : Int32 → CS → Prop) (h : C0_count v1 S Q) : CMi l D a d yX0_count cX0_count 2 .int rmX0_count 0 0 [.ref (a 0), .int v1] sz S Q := by
  refine c_enter (Qc := fun A => va_Qi Q (BC D a d A) A) RX0 (by decide +kernel) rfl (Nat.le_of_ble_eq_true rfl) ?_
  intro p e s m below meth c ls A hmn F hG hl
  have G := hG
  have hl : lv_has ls 2 [(0, .ref (a 0)), (1, .int v1)] := hl
  obtain ⟨hx, hb, hr, hml, hown, hts, hlocks, hA, hK, hN⟩ := id F
  unfold C0_count at h
  refine lv_iload_n hx hb dX0_count_0 rfl (lv_at hl 1 rfl) ?_
  by_cases c_1 : v1 = 0
  · replace h := h.1 c_1
    refine m_tsIn (k := 0) (off := 47) (tgt := 48) hx hb dX0_count_1 c_1 (by decide) (by decide) (by decide) (by decide) ?_
    refine lv_aload_n hx hb dX0_count_48 rfl (lv_at hl 0 rfl) ?_
    refine cgX0_0_now F G dX0_count_49 ?_
    refine cgX0_1_many F G dX0_count_52 ?_
    exact c_iret F G dX0_count_55 h
  by_cases c_2 : v1 = 1
  · replace h := h.2.1 c_2
    refine m_tsIn (k := 1) (off := 55) (tgt := 56) hx hb dX0_count_1 c_2 (by decide) (by decide) (by decide) (by decide) ?_
    refine lv_aload_n hx hb dX0_count_56 rfl (lv_at hl 0 rfl) ?_
    refine cgX0_0_now F G dX0_count_57 ?_
    refine cgX0_1_minute F G dX0_count_60 ?_
    exact c_iret F G dX0_count_63 h
  by_cases c_3 : v1 = 2
  · replace h := h.2.2.1 c_3
    refine m_tsIn (k := 2) (off := 63) (tgt := 64) hx hb dX0_count_1 c_3 (by decide) (by decide) (by decide) (by decide) ?_
    refine lv_aload_n hx hb dX0_count_64 rfl (lv_at hl 0 rfl) ?_
    refine cgX0_0_now F G dX0_count_65 ?_
    refine cgX0_1_bed F G dX0_count_68 ?_
    refine lv_iload_n hx hb dX0_count_71 rfl (lv_at hl 1 rfl) ?_
    refine lv_iconst (v := 2) hx hb dX0_count_72 (by decide) ?_
    refine lv_isub hx hb dX0_count_73 ?_
    obtain ⟨b_4, h⟩ := h
    refine c_iaload F G cI_9 b_4 dX0_count_74 ?_
    exact c_iret F G dX0_count_75 h
  by_cases c_5 : v1 = 3
  · replace h := h.2.2.2.1 c_5
    refine m_tsIn (k := 3) (off := 63) (tgt := 64) hx hb dX0_count_1 c_5 (by decide) (by decide) (by decide) (by decide) ?_
    refine lv_aload_n hx hb dX0_count_64 rfl (lv_at hl 0 rfl) ?_
    refine cgX0_0_now F G dX0_count_65 ?_
    refine cgX0_1_bed F G dX0_count_68 ?_
    refine lv_iload_n hx hb dX0_count_71 rfl (lv_at hl 1 rfl) ?_
    refine lv_iconst (v := 2) hx hb dX0_count_72 (by decide) ?_
    refine lv_isub hx hb dX0_count_73 ?_
    obtain ⟨b_6, h⟩ := h
    refine c_iaload F G cI_9 b_6 dX0_count_74 ?_
    exact c_iret F G dX0_count_75 h
  by_cases c_7 : v1 = 4
  · replace h := h.2.2.2.2.1 c_7
    refine m_tsIn (k := 4) (off := 75) (tgt := 76) hx hb dX0_count_1 c_7 (by decide) (by decide) (by decide) (by decide) ?_
    refine lv_aload_n hx hb dX0_count_76 rfl (lv_at hl 0 rfl) ?_
    refine cgX0_0_now F G dX0_count_77 ?_
    refine cgX0_1_texts F G dX0_count_80 ?_
    exact c_iret F G dX0_count_83 h
  by_cases c_8 : v1 = 5
  · replace h := h.2.2.2.2.2.1 c_8
    refine m_tsIn (k := 5) (off := 83) (tgt := 84) hx hb dX0_count_1 c_8 (by decide) (by decide) (by decide) (by decide) ?_
    refine lv_aload_n hx hb dX0_count_84 rfl (lv_at hl 0 rfl) ?_
    refine cgX0_0_waitMany F G dX0_count_85 ?_
    exact c_iret F G dX0_count_88 h
  by_cases c_9 : v1 = 6
  · replace h := h.2.2.2.2.2.2.1 c_9
    refine m_tsIn (k := 6) (off := 88) (tgt := 89) hx hb dX0_count_1 c_9 (by decide) (by decide) (by decide) (by decide) ?_
    refine lv_aload_n hx hb dX0_count_89 rfl (lv_at hl 0 rfl) ?_
    refine cgX0_0_taped F G dX0_count_90 ?_
    exact c_iret F G dX0_count_93 h
  by_cases c_10 : v1 = 7
  · replace h := h.2.2.2.2.2.2.2.1 c_10
    refine m_tsIn (k := 7) (off := 93) (tgt := 94) hx hb dX0_count_1 c_10 (by decide) (by decide) (by decide) (by decide) ?_
    refine lv_aload_n hx hb dX0_count_94 rfl (lv_at hl 0 rfl) ?_
    refine cgX0_0_now F G dX0_count_95 ?_
    refine cgX0_1_z F G dX0_count_98 ?_
    exact c_iret F G dX0_count_101 h
  replace h := h.2.2.2.2.2.2.2.2 c_1 c_2 c_3 c_5 c_7 c_8 c_9 c_10
  refine m_tsD (ks := [0, 1, 2, 3, 4, 5, 6, 7]) (tgt := 102) hx hb dX0_count_1 (tk_cons c_1 (by decide) (tk_cons c_2 (by decide) (tk_cons c_3 (by decide) (tk_cons c_5 (by decide) (tk_cons c_7 (by decide) (tk_cons c_8 (by decide) (tk_cons c_9 (by decide) (tk_cons c_10 (by decide) tk_nil)))))))) (by decide) (by decide) ?_
  refine lv_ldc hx hb hown (hts _ q368) dX0_count_102 ?_
  exact c_iret F G dX0_count_104 h
/-! StrokesHeard$Words.<init> -/
def C12_init (y0 : Nat) (S : CS) (Q : CS → Prop) : Prop := ¬ (96 : Int32) < 0 ∧ (96 : Int32).toNatClampNeg ≤ 96 ∧ (∀ y_1 : Nat, y_1 ∉ S.2.2.1 → ∃ (fs_5 : List Value), has (cN S y_1 (.inl (0, (96 : Int32).toNatClampNeg, .inl (fun _ => 0)))) y0 (.inr (12, fs_5)) ∧ 0 < fs_5.length ∧ (¬ (96 : Int32) < 0 ∧ (96 : Int32).toNatClampNeg ≤ 96 ∧ (∀ y_8 : Nat, y_8 ∉ (cP (cN S y_1 (.inl (0, (96 : Int32).toNatClampNeg, .inl (fun _ => 0)))) y0 (.inr (12, fs_5.set 0 (.ref y_1)))).2.2.1 → ∃ (fs_12 : List Value), has (cN (cP (cN S y_1 (.inl (0, (96 : Int32).toNatClampNeg, .inl (fun _ => 0)))) y0 (.inr (12, fs_5.set 0 (.ref y_1)))) y_8 (.inl (0, (96 : Int32).toNatClampNeg, .inl (fun _ => 0)))) y0 (.inr (12, fs_12)) ∧ 1 < fs_12.length ∧ (Q (cP (cN (cP (cN S y_1 (.inl (0, (96 : Int32).toNatClampNeg, .inl (fun _ => 0)))) y0 (.inr (12, fs_5.set 0 (.ref y_1)))) y_8 (.inl (0, (96 : Int32).toNatClampNeg, .inl (fun _ => 0)))) y0 (.inr (12, fs_12.set 1 (.ref y_8))))))))
abbrev rmX12_init : Room := { frames := 1, cells := 2, slots := 192, locals := 20 }
set_option maxHeartbeats 4000000 in
set_option maxRecDepth 100000 in
theorem wC12_init {l : Launch} {D : va_G} {a : Nat → Nat} {d : Nat → ClassId} (sz : Nat) (y0 : Nat) (S : CS) (Q : CS → Prop) (h : C12_init y0 S Q) : CMv l D a d yX12_init cX12_init 1 rmX12_init 2 192 [.ref y0] sz S Q := by
  refine c_enter (Qc := fun A => va_Qv Q (BC D a d A) A) RX12 (by decide +kernel) rfl (Nat.le_of_ble_eq_true rfl) ?_
  intro p e s m below meth c ls A hmn F hG hl
  have G := hG
  have hl : lv_has ls 1 [(0, .ref y0)] := hl
  obtain ⟨hx, hb, hr, hml, hown, hts, hlocks, hA, hK, hN⟩ := id F
  unfold C12_init at h
  refine lv_aload_n hx hb dX12_init_0 rfl (lv_at hl 0 rfl) ?_
  refine W.objInit hx hb hown (hts _ q459) (hts _ q115) (hts _ q116) rfl (hl.1.trans hml.symm) rfl dX12_init_1 (Nat.le_of_ble_eq_true rfl) (Nat.le_of_ble_eq_true rfl) ?_
  refine lv_aload_n hx hb dX12_init_4 rfl (lv_at hl 0 rfl) ?_
  refine lv_bipush (v := 96) hx hb dX12_init_5 (by decide) ?_
  obtain ⟨b_3, b_4, h⟩ := h
  refine p_new_int (N := 96) F G b_3 b_4 (by decide) ⟨(Nat.le_of_ble_eq_true rfl), (Nat.le_of_ble_eq_true rfl)⟩ dX12_init_7 (fun y_1 H q_2 G => ?_)
  replace h := h y_1 q_2
  obtain ⟨fs_5, z_6, u_7, h⟩ := h
  refine ppX12_X12_word F G z_6 hmn rfl rfl u_7 dX12_init_9 (fun H locs G => ?_)
  refine lv_aload_n hx hb dX12_init_12 rfl (lv_at hl 0 rfl) ?_
  refine lv_bipush (v := 96) hx hb dX12_init_13 (by decide) ?_
  obtain ⟨b_10, b_11, h⟩ := h
  refine p_new_int (N := 96) F G b_10 b_11 (by decide) ⟨(Nat.le_of_ble_eq_true rfl), (Nat.le_of_ble_eq_true rfl)⟩ dX12_init_15 (fun y_8 H q_9 G => ?_)
  replace h := h y_8 q_9
  obtain ⟨fs_12, z_13, u_14, h⟩ := h
  refine ppX12_X12_value F G z_13 hmn rfl rfl u_14 dX12_init_17 (fun H locs G => ?_)
  exact c_vret F G dX12_init_20 h
/-! StrokesHeard$Words.add -/
def C12_add (y0 : Nat) (v1 : Int32) (v2 : Int32) (S : CS) (Q : CS → Prop) : Prop := ∃ (fs_1 : List Value) (y_4 : Nat), has S y0 (.inr (12, fs_1)) ∧ fs_1[0]? = some (.ref y_4) ∧ (∃ (fs_5 : List Value) (i_8 : Int32), has S y0 (.inr (12, fs_5)) ∧ fs_5[2]? = some (.int i_8) ∧ (∃ (n_9 : Nat) (f_10 : Nat → Int32), has S y_4 (.inl (0, n_9, .inl f_10)) ∧ vp_in i_8 n_9 ∧ (∃ (fs_13 : List Value) (y_16 : Nat), has (cP S y_4 (.inl (0, n_9, .inl (upd f_10 (i_8.toNatClampNeg) v1)))) y0 (.inr (12, fs_13)) ∧ fs_13[1]? = some (.ref y_16) ∧ (∃ (fs_17 : List Value) (i_20 : Int32), has (cP S y_4 (.inl (0, n_9, .inl (upd f_10 (i_8.toNatClampNeg) v1)))) y0 (.inr (12, fs_17)) ∧ fs_17[2]? = some (.int i_20) ∧ (∃ (n_21 : Nat) (f_22 : Nat → Int32), has (cP S y_4 (.inl (0, n_9, .inl (upd f_10 (i_8.toNatClampNeg) v1)))) y_16 (.inl (0, n_21, .inl f_22)) ∧ vp_in i_20 n_21 ∧ (∃ (fs_25 : List Value) (i_28 : Int32), has (cP (cP S y_4 (.inl (0, n_9, .inl (upd f_10 (i_8.toNatClampNeg) v1)))) y_16 (.inl (0, n_21, .inl (upd f_22 (i_20.toNatClampNeg) v2)))) y0 (.inr (12, fs_25)) ∧ fs_25[2]? = some (.int i_28) ∧ (∃ (fs_29 : List Value), has (cP (cP S y_4 (.inl (0, n_9, .inl (upd f_10 (i_8.toNatClampNeg) v1)))) y_16 (.inl (0, n_21, .inl (upd f_22 (i_20.toNatClampNeg) v2)))) y0 (.inr (12, fs_29)) ∧ 2 < fs_29.length ∧ (Q (cP (cP (cP S y_4 (.inl (0, n_9, .inl (upd f_10 (i_8.toNatClampNeg) v1)))) y_16 (.inl (0, n_21, .inl (upd f_22 (i_20.toNatClampNeg) v2)))) y0 (.inr (12, fs_29.set 2 (.int (i_28 + 1)))))))))))))
abbrev rmX12_add : Room := { frames := 0, cells := 0, slots := 0, locals := 0 }
set_option maxHeartbeats 4000000 in
set_option maxRecDepth 100000 in
theorem wC12_add {l : Launch} {D : va_G} {a : Nat → Nat} {d : Nat → ClassId} (sz : Nat) (y0 : Nat) (v1 : Int32) (v2 : Int32) (S : CS) (Q : CS → Prop) (h : C12_add y0 v1 v2 S Q) : CMv l D a d yX12_add cX12_add 3 rmX12_add 0 0 [.ref y0, .int v1, .int v2] sz S Q := by
  refine c_enter (Qc := fun A => va_Qv Q (BC D a d A) A) RX12 (by decide +kernel) rfl (Nat.le_of_ble_eq_true rfl) ?_
  intro p e s m below meth c ls A hmn F hG hl
  have G := hG
  have hl : lv_has ls 3 [(0, .ref y0), (1, .int v1), (2, .int v2)] := hl
  obtain ⟨hx, hb, hr, hml, hown, hts, hlocks, hA, hK, hN⟩ := id F
  unfold C12_add at h
  refine lv_aload_n hx hb dX12_add_0 rfl (lv_at hl 0 rfl) ?_
  obtain ⟨fs_1, y_4, z_2, u_3, h⟩ := h
  refine pgX12_X12_word F G z_2 u_3 dX12_add_1 ?_
  refine lv_aload_n hx hb dX12_add_4 rfl (lv_at hl 0 rfl) ?_
  obtain ⟨fs_5, i_8, z_6, u_7, h⟩ := h
  refine pgX12_X12_many F G z_6 u_7 dX12_add_5 ?_
  refine lv_iload_n hx hb dX12_add_8 rfl (lv_at hl 1 rfl) ?_
  obtain ⟨n_9, f_10, z_11, b_12, h⟩ := h
  refine p_iastore F G z_11 b_12 dX12_add_9 (fun H locs G => ?_)
  refine lv_aload_n hx hb dX12_add_10 rfl (lv_at hl 0 rfl) ?_
  obtain ⟨fs_13, y_16, z_14, u_15, h⟩ := h
  refine pgX12_X12_value F G z_14 u_15 dX12_add_11 ?_
  refine lv_aload_n hx hb dX12_add_14 rfl (lv_at hl 0 rfl) ?_
  obtain ⟨fs_17, i_20, z_18, u_19, h⟩ := h
  refine pgX12_X12_many F G z_18 u_19 dX12_add_15 ?_
  refine lv_iload_n hx hb dX12_add_18 rfl (lv_at hl 2 rfl) ?_
  obtain ⟨n_21, f_22, z_23, b_24, h⟩ := h
  refine p_iastore F G z_23 b_24 dX12_add_19 (fun H locs G => ?_)
  refine lv_aload_n hx hb dX12_add_20 rfl (lv_at hl 0 rfl) ?_
  refine lv_dup hx hb dX12_add_21 rfl ?_
  obtain ⟨fs_25, i_28, z_26, u_27, h⟩ := h
  refine pgX12_X12_many F G z_26 u_27 dX12_add_22 ?_
  refine lv_iconst (v := 1) hx hb dX12_add_25 (by decide) ?_
  refine lv_iadd hx hb dX12_add_26 ?_
  obtain ⟨fs_29, z_30, u_31, h⟩ := h
  refine ppX12_X12_many F G z_30 rfl rfl u_31 dX12_add_27 (fun H locs G => ?_)
  exact c_vret F G dX12_add_30 h
/-! StrokesHeard$Text.<init> -/
def C13_init (y0 : Nat) (v1 : Int32) (y2 : Nat) (v3 : Int32) (S : CS) (Q : CS → Prop) : Prop := ∃ (fs_1 : List Value), has S y0 (.inr (13, fs_1)) ∧ 0 < fs_1.length ∧ (∃ (fs_4 : List Value), has (cP S y0 (.inr (13, fs_1.set 0 (.int v1)))) y0 (.inr (13, fs_4)) ∧ 1 < fs_4.length ∧ (∃ (fs_7 : List Value), has (cP (cP S y0 (.inr (13, fs_1.set 0 (.int v1)))) y0 (.inr (13, fs_4.set 1 (.ref y2)))) y0 (.inr (13, fs_7)) ∧ 2 < fs_7.length ∧ (Q (cP (cP (cP S y0 (.inr (13, fs_1.set 0 (.int v1)))) y0 (.inr (13, fs_4.set 1 (.ref y2)))) y0 (.inr (13, fs_7.set 2 (.int v3)))))))
abbrev rmX13_init : Room := { frames := 1, cells := 0, slots := 0, locals := 20 }
set_option maxHeartbeats 4000000 in
set_option maxRecDepth 100000 in
theorem wC13_init {l : Launch} {D : va_G} {a : Nat → Nat} {d : Nat → ClassId} (sz : Nat) (y0 : Nat) (v1 : Int32) (y2 : Nat) (v3 : Int32) (S : CS) (Q : CS → Prop) (h : C13_init y0 v1 y2 v3 S Q) : CMv l D a d yX13_init cX13_init 4 rmX13_init 0 0 [.ref y0, .int v1, .ref y2, .int v3] sz S Q := by
  refine c_enter (Qc := fun A => va_Qv Q (BC D a d A) A) RX13 (by decide +kernel) rfl (Nat.le_of_ble_eq_true rfl) ?_
  intro p e s m below meth c ls A hmn F hG hl
  have G := hG
  have hl : lv_has ls 4 [(0, .ref y0), (1, .int v1), (2, .ref y2), (3, .int v3)] := hl
  obtain ⟨hx, hb, hr, hml, hown, hts, hlocks, hA, hK, hN⟩ := id F
  unfold C13_init at h
  refine lv_aload_n hx hb dX13_init_0 rfl (lv_at hl 0 rfl) ?_
  refine W.objInit hx hb hown (hts _ q518) (hts _ q115) (hts _ q116) rfl (hl.1.trans hml.symm) rfl dX13_init_1 (Nat.le_of_ble_eq_true rfl) (Nat.le_of_ble_eq_true rfl) ?_
  refine lv_aload_n hx hb dX13_init_4 rfl (lv_at hl 0 rfl) ?_
  refine lv_iload_n hx hb dX13_init_5 rfl (lv_at hl 1 rfl) ?_
  obtain ⟨fs_1, z_2, u_3, h⟩ := h
  refine ppX13_X13_key F G z_2 hmn rfl rfl u_3 dX13_init_6 (fun H locs G => ?_)
  refine lv_aload_n hx hb dX13_init_9 rfl (lv_at hl 0 rfl) ?_
  refine lv_aload_n hx hb dX13_init_10 rfl (lv_at hl 2 rfl) ?_
  obtain ⟨fs_4, z_5, u_6, h⟩ := h
  refine ppX13_X13_words F G z_5 hmn rfl rfl u_6 dX13_init_11 (fun H locs G => ?_)
  refine lv_aload_n hx hb dX13_init_14 rfl (lv_at hl 0 rfl) ?_
  refine lv_iload_n hx hb dX13_init_15 rfl (lv_at hl 3 rfl) ?_
  obtain ⟨fs_7, z_8, u_9, h⟩ := h
  refine ppX13_X13_many F G z_8 hmn rfl rfl u_9 dX13_init_16 (fun H locs G => ?_)
  exact c_vret F G dX13_init_19 h
/-! StrokesHeard$Slot.<init> -/
def C4_init (y0 : Nat) (S : CS) (Q : CS → Prop) : Prop := Q S
abbrev rmX4_init : Room := { frames := 1, cells := 0, slots := 0, locals := 20 }
set_option maxHeartbeats 4000000 in
set_option maxRecDepth 100000 in
theorem wC4_init {l : Launch} {D : va_G} {a : Nat → Nat} {d : Nat → ClassId} (sz : Nat) (y0 : Nat) (S : CS) (Q : CS → Prop) (h : C4_init y0 S Q) : CMv l D a d yX4_init cX4_init 1 rmX4_init 0 0 [.ref y0] sz S Q := by
  refine c_enter (Qc := fun A => va_Qv Q (BC D a d A) A) RX4 (by decide +kernel) rfl (Nat.le_of_ble_eq_true rfl) ?_
  intro p e s m below meth c ls A hmn F hG hl
  have G := hG
  have hl : lv_has ls 1 [(0, .ref y0)] := hl
  obtain ⟨hx, hb, hr, hml, hown, hts, hlocks, hA, hK, hN⟩ := id F
  unfold C4_init at h
  refine lv_aload_n hx hb dX4_init_0 rfl (lv_at hl 0 rfl) ?_
  refine W.objInit hx hb hown (hts _ q263) (hts _ q115) (hts _ q116) rfl (hl.1.trans hml.symm) rfl dX4_init_1 (Nat.le_of_ble_eq_true rfl) (Nat.le_of_ble_eq_true rfl) ?_
  exact c_vret F G dX4_init_4 h
