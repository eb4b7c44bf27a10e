set_option maxRecDepth 100000
set_option maxHeartbeats 4000000 in
set_option maxRecDepth 100000 in
theorem kX0_C0_textRead {p : Program} {l : Launch} {e : Env} {s : State} {m : MethodId} {R : Room} {args : Array Value} {below : List Frame} {meth : Method} {c : Code} {D : va_G} {a : Nat → Nat} {d : Nat → ClassId} {A : Nat → Prop} {Q : State → Prop} {cc : ByteArray} {nL pc cells slots : Nat} {ret : Option FieldType} {ls : Array Slot} {rest : List Value}  {S : CS} {H : Heap} {locs : List Loc} {Q1 : Nat → CS → Prop} {E1 : Nat → CS → Prop} (F : FC p s m meth c args D a d A RX0 cc nL ret) (G : GC D a d A s.heap S H locs) (hsz : ls.size = nL) (hR : rmX0_textRead.frames + 1 ≤ R.frames ∧ 8 + (2 + 11) + rmX0_textRead.locals ≤ R.locals) (hc : cells + 4 ≤ R.cells ∧ slots + 198 ≤ R.slots) (hW : (rest.map fun v => v.category).sum ≤ 8) (hd : decode cc pc = .ok (.invokevirtual 236, 3)) (h : C0_textRead  S Q1 E1) (k : ∀ (r : Nat) (S1 : CS) (H : Heap) (locs : List Loc), GC D a d A s.heap S1 H locs → Q1 r S1 → W p l e R s m args below meth c H locs (cells + 4) (slots + 198) Q (F0 m (pc + 3) ls (.ref r :: rest))) (kx : ∀ (z : Nat) (S1 : CS) (H : Heap) (locs : List Loc), GC D a d A s.heap S1 H locs → E1 z S1 → WX p l e R s m args below meth c H locs (cells + 4) (slots + 198) Q (F0 m pc ls rest) z) : W p l e R s m args below meth c H locs cells slots Q (F0 m pc ls (.ref (a 0) :: rest)) := by
  obtain ⟨hx, hb, hr, hml, hown, hts, hlocks, hA, hK, hN⟩ := id F
  exact t_callVr (n := 0) (As := []) F G hsz (wC0_textRead H.size  S Q1 E1 h) q373 q375 qs2 q82 q376 (va_recv hK G.1 (ci := 0) (q0 := 0) rfl rfl) (by decide +kernel) rfl rfl rfl rfl hR hc hW hd k kx
/-! StrokesHeard.text -/
def C0_text  (S : CS) (Q : Int32 → CS → Prop) : Prop := C0_textRead  S (fun y_1 S_2 => (¬ (S_2.1 1 10) = 14 → vp_in (S_2.1 1 10) 14 ∧ ∃ (fs_9 : List Value), has S_2 y_1 (.inr (13, fs_9)) ∧ (∀ x_11 : Int32, x_11 = (((cF (cR S_2 17 (S_2.1 1 10) (some y_1)) 1 10 (((cR S_2 17 (S_2.1 1 10) (some y_1)).1 1 10) + 1)).1 1 10) - 1) → Q x_11 (cF (cF (cR S_2 17 (S_2.1 1 10) (some y_1)) 1 10 (((cR S_2 17 (S_2.1 1 10) (some y_1)).1 1 10) + 1)) 0 7 0))) ∧ ((S_2.1 1 10) = 14 → Q (-1000000003) (cF S_2 0 7 0))) (fun y_3 S_4 => ∃ fs_5 : List Value, has S_4 y_3 (.inr (2, fs_5)) ∧ (∃ (fs_12 : List Value) (i_15 : Int32), has S_4 y_3 (.inr (2, fs_12)) ∧ fs_12[6]? = some (.int i_15) ∧ (∀ x_16 : Int32, x_16 = ((-100) - i_15) → Q x_16 (cF S_4 0 7 0))))
abbrev rmX0_text : Room := { frames := 87, cells := 4, slots := 198, locals := 1911 }
set_option maxHeartbeats 4000000 in
set_option maxRecDepth 100000 in
theorem wC0_text {l : Launch} {D : va_G} {a : Nat → Nat} {d : Nat → ClassId} (sz : Nat)  (S : CS) (Q : Int32 → CS → Prop) (h : C0_text  S Q) : CWi l D a d yX0_text cX0_text 4 .int [(0, 20, 73, 67), (27, 66, 73, 67), (0, 20, 89, 0), (27, 66, 89, 0), (73, 82, 89, 0)] rmX0_text 4 198 [.ref (a 0)] sz S Q := by
  refine w_enter (Qc := fun A => va_Qi Q (BC D a d A) A) RX0 (by decide +kernel) rfl (Nat.le_of_ble_eq_true rfl) ?_
  intro p e s m below meth c ls A hT F hG hl
  have G := hG
  have hl : lv_has ls 4 [(0, .ref (a 0))] := hl
  obtain ⟨hx, hb, hr, hml, hown, hts, hlocks, hA, hK, hN⟩ := id F
  unfold C0_text at h
  refine lv_aload_n hx hb dX0_text_0 rfl (lv_at hl 0 rfl) ?_
  refine kX0_C0_textRead F G hl.1 ⟨(Nat.le_of_ble_eq_true rfl), (Nat.le_of_ble_eq_true rfl)⟩ ⟨(Nat.le_of_ble_eq_true rfl), (Nat.le_of_ble_eq_true rfl)⟩ (Nat.le_of_ble_eq_true rfl) dX0_text_1 h (fun y_1 S_2 H locs G h => ?_) (fun y_3 S_4 H locs G h => ?_)
  · skip
    refine lv_astore_n (lv' := [(1, .ref y_1), (0, .ref (a 0))]) hx hb dX0_text_4 rfl hl (by decide) rfl (fun ls hl => ?_)
    refine lv_aload_n hx hb dX0_text_5 rfl (lv_at hl 1 rfl) ?_
    refine cgX0_0_now F G dX0_text_6 ?_
    refine cgX0_1_texts F G dX0_text_9 ?_
    refine lv_bipush (v := 14) hx hb dX0_text_12 (by decide) ?_
    refine lv_icmp_ne (tgt := 27) hx hb dX0_text_14 (by decide) (fun c_7 => ?_) (fun c_7 => ?_)
    · replace h := h.1 c_7
      refine lv_aload_n hx hb dX0_text_27 rfl (lv_at hl 1 rfl) ?_
      refine cgX0_0_now F G dX0_text_28 ?_
      refine cgX0_1_text F G dX0_text_31 ?_
      refine lv_aload_n hx hb dX0_text_34 rfl (lv_at hl 1 rfl) ?_
      refine cgX0_0_now F G dX0_text_35 ?_
      refine cgX0_1_texts F G dX0_text_38 ?_
      refine lv_aload_n hx hb dX0_text_41 rfl (lv_at hl 0 rfl) ?_
      obtain ⟨b_8, fs_9, z_10, h⟩ := h
      refine c_aastore F G cR_17 rfl (p_any_T F G z_10) b_8 dX0_text_42 (fun H locs G => ?_)
      refine lv_aload_n hx hb dX0_text_43 rfl (lv_at hl 1 rfl) ?_
      refine cgX0_0_now F G dX0_text_44 ?_
      refine lv_dup hx hb dX0_text_47 rfl ?_
      refine cgX0_1_texts F G dX0_text_48 ?_
      refine lv_iconst (v := 1) hx hb dX0_text_51 (by decide) ?_
      refine lv_iadd hx hb dX0_text_52 ?_
      refine cpX0_1_texts F G dX0_text_53 (fun H locs G => ?_)
      refine lv_aload_n hx hb dX0_text_56 rfl (lv_at hl 1 rfl) ?_
      refine cgX0_0_now F G dX0_text_57 ?_
      refine cgX0_1_texts F G dX0_text_60 ?_
      refine lv_iconst (v := 1) hx hb dX0_text_63 (by decide) ?_
      refine lv_isub hx hb dX0_text_64 ?_
      refine lv_topi (fun x_11 ex_11 => ?_)
      replace h := h x_11 ex_11
      refine lv_istore_n (lv' := [(2, .int x_11), (1, .ref y_1), (0, .ref (a 0))]) hx hb dX0_text_65 rfl hl (by decide) rfl (fun ls hl => ?_)
      refine lv_aload_n hx hb dX0_text_66 rfl (lv_at hl 2 rfl) ?_
      refine lv_iconst (v := 0) hx hb dX0_text_67 (by decide) ?_
      refine cpX0_0_taped F G dX0_text_68 (fun H locs G => ?_)
      refine lv_iload_n hx hb dX0_text_71 rfl (lv_at hl 0 rfl) ?_
      exact c_iret F G dX0_text_72 h
    · replace h := h.2 c_7
      refine lv_ldc hx hb hown (hts _ q356) dX0_text_17 ?_
      refine lv_istore_n (lv' := [(2, .int (-1000000003)), (1, .ref y_1), (0, .ref (a 0))]) hx hb dX0_text_19 rfl hl (by decide) rfl (fun ls hl => ?_)
      refine lv_aload_n hx hb dX0_text_20 rfl (lv_at hl 2 rfl) ?_
      refine lv_iconst (v := 0) hx hb dX0_text_21 (by decide) ?_
      refine cpX0_0_taped F G dX0_text_22 (fun H locs G => ?_)
      refine lv_iload_n hx hb dX0_text_25 rfl (lv_at hl 0 rfl) ?_
      exact c_iret F G dX0_text_26 h
  · obtain ⟨fs_5, z_6, h⟩ := h
    refine w_catch F G [] [⟨27, 66, 73, 67⟩, ⟨0, 20, 89, 0⟩, ⟨27, 66, 89, 0⟩, ⟨73, 82, 89, 0⟩] ⟨0, 20, 73, 67⟩ (hT.trans rfl) q177 (by decide) (p_recv_X2 F G z_6) (by decide) (by decide) ?_
    refine lv_astore_n (lv' := [(1, .ref y_3), (0, .ref (a 0))]) hx hb dX0_text_73 rfl hl (by decide) rfl (fun ls hl => ?_)
    refine lv_bipush (v := (-100)) hx hb dX0_text_74 (by decide) ?_
    refine lv_aload_n hx hb dX0_text_76 rfl (lv_at hl 0 rfl) ?_
    obtain ⟨fs_12, i_15, z_13, u_14, h⟩ := h
    refine pgX0_X2_place F G z_13 u_14 dX0_text_77 ?_
    refine lv_isub hx hb dX0_text_80 ?_
    refine lv_topi (fun x_16 ex_16 => ?_)
    replace h := h x_16 ex_16
    refine lv_istore_n (lv' := [(2, .int x_16), (1, .ref y_3), (0, .ref (a 0))]) hx hb dX0_text_81 rfl hl (by decide) rfl (fun ls hl => ?_)
    refine lv_aload_n hx hb dX0_text_82 rfl (lv_at hl 2 rfl) ?_
    refine lv_iconst (v := 0) hx hb dX0_text_83 (by decide) ?_
    refine cpX0_0_taped F G dX0_text_84 (fun H locs G => ?_)
    refine lv_iload_n hx hb dX0_text_87 rfl (lv_at hl 0 rfl) ?_
    exact c_iret F G dX0_text_88 h
