set_option maxRecDepth 100000
section
variable {p : Program} {l : Launch} {e : Env} {R : Room} {s : State} {m : MethodId} {args : Array Value} {below : List Frame} {meth : Method} {c : Code} {H : Heap} {locs : List Loc} {cells slots : Nat} {Q : State → Prop} {D : va_G} {a : Nat → Nat} {d : Nat → ClassId} {A : Nat → Prop} {S : CS} {own : String} {cc : ByteArray} {nL : Nat} {ret : Option FieldType} {pc : Nat} {ls : Array Slot} {rest : List Value}
theorem c_aload_nr {o : Option Nat} {k : Fin 4} {i : Nat} (hx : p.tables.exec = Jvm.exec) (hb : c.code = cc) (hd : decode cc pc = .ok (.aload_n k, 1)) (hi : (k : Nat) = i) (hl : ls[i]? = some (.val (va_rf o))) (kk : W p l e R s m args below meth c H locs cells slots Q (F0 m (pc + 1) ls (va_rf o :: rest))) : W p l e R s m args below meth c H locs cells slots Q (F0 m pc ls rest) := by
  cases o with
  | none => exact lv_aload_nN hx hb hd hi hl kk
  | some y => exact lv_aload_n hx hb hd hi hl kk
theorem c_aload_r {o : Option Nat} {i : Nat} (hx : p.tables.exec = Jvm.exec) (hb : c.code = cc) (hd : decode cc pc = .ok (.aload i, 2)) (hl : ls[i]? = some (.val (va_rf o))) (kk : W p l e R s m args below meth c H locs cells slots Q (F0 m (pc + 2) ls (va_rf o :: rest))) : W p l e R s m args below meth c H locs cells slots Q (F0 m pc ls rest) := by
  cases o with
  | none => exact lv_aloadN hx hb hd hl kk
  | some y => exact lv_aload hx hb hd hl kk
theorem c_astore_nr {o : Option Nat} {k : Fin 4} {i n : Nat} {lv lv2 : List (Nat × Value)} (hx : p.tables.exec = Jvm.exec) (hb : c.code = cc) (hd : decode cc pc = .ok (.astore_n k, 1)) (hi : (k : Nat) = i) (h : lv_has ls n lv) (hn : i < n) (hl : (i, va_rf o) :: lv.filter (fun q => !(q.1 == i) && !(q.1 + 1 == i && q.2.category == 2)) = lv2) (kk : ∀ ls : Array Slot, lv_has ls n lv2 → W p l e R s m args below meth c H locs cells slots Q (F0 m (pc + 1) ls rest)) : W p l e R s m args below meth c H locs cells slots Q (F0 m pc ls (va_rf o :: rest)) := by
  cases o with
  | none => exact lv_astore_nN hx hb hd hi h hn hl kk
  | some y => exact lv_astore_n hx hb hd hi h hn hl kk
theorem c_astore_r {o : Option Nat} {i n : Nat} {lv lv2 : List (Nat × Value)} (hx : p.tables.exec = Jvm.exec) (hb : c.code = cc) (hd : decode cc pc = .ok (.astore i, 2)) (h : lv_has ls n lv) (hn : i < n) (hl : (i, va_rf o) :: lv.filter (fun q => !(q.1 == i) && !(q.1 + 1 == i && q.2.category == 2)) = lv2) (kk : ∀ ls : Array Slot, lv_has ls n lv2 → W p l e R s m args below meth c H locs cells slots Q (F0 m (pc + 2) ls rest)) : W p l e R s m args below meth c H locs cells slots Q (F0 m pc ls (va_rf o :: rest)) := by
  cases o with
  | none => exact lv_astoreN hx hb hd h hn hl kk
  | some y => exact lv_astore hx hb hd h hn hl kk
theorem c_ifnull {o : Option Nat} {off : Int} {tgt : Nat} (hx : p.tables.exec = Jvm.exec) (hb : c.code = cc) (hd : decode cc pc = .ok (.ifnull off, 3)) (ht : (pc : Int) + off = (tgt : Int)) (k1 : o = none → W p l e R s m args below meth c H locs cells slots Q (F0 m tgt ls rest)) (k2 : ∀ y, o = some y → W p l e R s m args below meth c H locs cells slots Q (F0 m (pc + 3) ls rest)) : W p l e R s m args below meth c H locs cells slots Q (F0 m pc ls (va_rf o :: rest)) := by
  cases o with
  | none => exact lv_ifnullN hx hb hd ht (k1 rfl)
  | some y => exact lv_ifnull hx hb hd (k2 y rfl)
theorem c_ifnonnull {o : Option Nat} {off : Int} {tgt : Nat} (hx : p.tables.exec = Jvm.exec) (hb : c.code = cc) (hd : decode cc pc = .ok (.ifnonnull off, 3)) (ht : (pc : Int) + off = (tgt : Int)) (k1 : ∀ y, o = some y → W p l e R s m args below meth c H locs cells slots Q (F0 m tgt ls rest)) (k2 : o = none → W p l e R s m args below meth c H locs cells slots Q (F0 m (pc + 3) ls rest)) : W p l e R s m args below meth c H locs cells slots Q (F0 m pc ls (va_rf o :: rest)) := by
  cases o with
  | none => exact lv_ifnonnullN hx hb hd (k2 rfl)
  | some y => exact lv_ifnonnull hx hb hd ht (k1 y rfl)
theorem va_rf_cat (o : Option Nat) : (va_rf o).category = 1 := by cases o <;> rfl
theorem c_ldcwf {index : Nat} {v : UInt32} (hx : p.tables.exec = Jvm.exec) (hb : c.code = cc) (hown : s.vm.findClass own = some m.cls) (hconst : (Jvm.Cond.constantFloat own index v).before args s = true) (hd : decode cc pc = .ok (.ldc_w index, 3)) (k : W p l e R s m args below meth c H locs cells slots Q (F0 m (pc + 3) ls (.float v :: rest))) : W p l e R s m args below meth c H locs cells slots Q (F0 m pc ls rest) := by
  intro T hT X
  obtain ⟨t, a1, b1⟩ := k T hT X
  refine ⟨t, ?_, b1⟩
  obtain ⟨k0, cf, hk, hcf, hcp⟩ := Cond.constantFloat_spec hown hconst
  obtain ⟨k1, hk1, he⟩ := X.warmed.alike.2.2 _ _ hk
  subst hb
  jvm_step X.here [hx, hd, ldc_w.wp_float (s := T) (f := F0 m pc ls rest) X.here.top hk1 (by rw [he]; exact hcf) hcp]
  exact a1
theorem fit_rf {C : String} (o : Option Nat) : narrow (.object C) (va_rf o) = va_rf o ∧ fits (.object C) (va_rf o) = true := by cases o <;> exact ⟨rfl, rfl⟩
theorem c_lret {Q : Int64 → CS → Prop} {v : Int64} (F : FC p s m meth c args D a d A own cc nL (some .long)) (G : GC D a d A s.heap S H locs) (hd : decode cc pc = .ok (.lreturn, 1)) (h : Q v S) : wCl p l e R s m args below meth c D a d A Q cells slots H locs cells slots (F0 m pc ls [.long v]) := by
  obtain ⟨hx, hb, hr, hml, hown, hts, hlocks, hA, hK, hN⟩ := F
  obtain ⟨hP, hD, hS⟩ := G
  exact W.lret (v := v) hx hb hr (fun t ht hW => ⟨⟨v, S, rfl, h, by rw [ht]; exact hP, va_K.moved hW.alike hK, hD⟩, hS.F ht⟩) hS.2.2 hd
theorem p_recv_X3 {fs : List Value} {y : Nat} (F : FC p s m meth c args D a d A own cc nL ret) (G : GC D a d A s.heap S H locs) (hy : has S y (.inr (3, fs))) : ∃ cell : Cell, H[y]? = some cell ∧ cell.vm.isStatics = false ∧ s.vm.findClass RX3 = some cell.cls := by
  obtain ⟨hx, hb, hr, hml, hown, hts, hlocks, hA, hK, hN⟩ := F
  obtain ⟨q, hq⟩ := has_pos (a := a) (d := d) hy
  exact va_recv hK G.1 (ci := 3) (q0 := q) rfl hq
theorem p_recv_X4 {fs : List Value} {y : Nat} (F : FC p s m meth c args D a d A own cc nL ret) (G : GC D a d A s.heap S H locs) (hy : has S y (.inr (4, fs))) : ∃ cell : Cell, H[y]? = some cell ∧ cell.vm.isStatics = false ∧ s.vm.findClass RX4 = some cell.cls := by
  obtain ⟨hx, hb, hr, hml, hown, hts, hlocks, hA, hK, hN⟩ := F
  obtain ⟨q, hq⟩ := has_pos (a := a) (d := d) hy
  exact va_recv hK G.1 (ci := 4) (q0 := q) rfl hq
theorem p_recv_X12 {fs : List Value} {y : Nat} (F : FC p s m meth c args D a d A own cc nL ret) (G : GC D a d A s.heap S H locs) (hy : has S y (.inr (12, fs))) : ∃ cell : Cell, H[y]? = some cell ∧ cell.vm.isStatics = false ∧ s.vm.findClass RX12 = some cell.cls := by
  obtain ⟨hx, hb, hr, hml, hown, hts, hlocks, hA, hK, hN⟩ := F
  obtain ⟨q, hq⟩ := has_pos (a := a) (d := d) hy
  exact va_recv hK G.1 (ci := 12) (q0 := q) rfl hq
theorem p_recv_X13 {fs : List Value} {y : Nat} (F : FC p s m meth c args D a d A own cc nL ret) (G : GC D a d A s.heap S H locs) (hy : has S y (.inr (13, fs))) : ∃ cell : Cell, H[y]? = some cell ∧ cell.vm.isStatics = false ∧ s.vm.findClass RX13 = some cell.cls := by
  obtain ⟨hx, hb, hr, hml, hown, hts, hlocks, hA, hK, hN⟩ := F
  obtain ⟨q, hq⟩ := has_pos (a := a) (d := d) hy
  exact va_recv hK G.1 (ci := 13) (q0 := q) rfl hq
theorem p_recv_X14 {fs : List Value} {y : Nat} (F : FC p s m meth c args D a d A own cc nL ret) (G : GC D a d A s.heap S H locs) (hy : has S y (.inr (14, fs))) : ∃ cell : Cell, H[y]? = some cell ∧ cell.vm.isStatics = false ∧ s.vm.findClass RX14 = some cell.cls := by
  obtain ⟨hx, hb, hr, hml, hown, hts, hlocks, hA, hK, hN⟩ := F
  obtain ⟨q, hq⟩ := has_pos (a := a) (d := d) hy
  exact va_recv hK G.1 (ci := 14) (q0 := q) rfl hq
theorem p_recv_X6 {fs : List Value} {y : Nat} (F : FC p s m meth c args D a d A own cc nL ret) (G : GC D a d A s.heap S H locs) (hy : has S y (.inr (6, fs))) : ∃ cell : Cell, H[y]? = some cell ∧ cell.vm.isStatics = false ∧ s.vm.findClass RX6 = some cell.cls := by
  obtain ⟨hx, hb, hr, hml, hown, hts, hlocks, hA, hK, hN⟩ := F
  obtain ⟨q, hq⟩ := has_pos (a := a) (d := d) hy
  exact va_recv hK G.1 (ci := 6) (q0 := q) rfl hq
theorem p_recv_X7 {fs : List Value} {y : Nat} (F : FC p s m meth c args D a d A own cc nL ret) (G : GC D a d A s.heap S H locs) (hy : has S y (.inr (7, fs))) : ∃ cell : Cell, H[y]? = some cell ∧ cell.vm.isStatics = false ∧ s.vm.findClass RX7 = some cell.cls := by
  obtain ⟨hx, hb, hr, hml, hown, hts, hlocks, hA, hK, hN⟩ := F
  obtain ⟨q, hq⟩ := has_pos (a := a) (d := d) hy
  exact va_recv hK G.1 (ci := 7) (q0 := q) rfl hq
theorem p_recv_X8 {fs : List Value} {y : Nat} (F : FC p s m meth c args D a d A own cc nL ret) (G : GC D a d A s.heap S H locs) (hy : has S y (.inr (8, fs))) : ∃ cell : Cell, H[y]? = some cell ∧ cell.vm.isStatics = false ∧ s.vm.findClass RX8 = some cell.cls := by
  obtain ⟨hx, hb, hr, hml, hown, hts, hlocks, hA, hK, hN⟩ := F
  obtain ⟨q, hq⟩ := has_pos (a := a) (d := d) hy
  exact va_recv hK G.1 (ci := 8) (q0 := q) rfl hq
theorem p_recv_X9 {fs : List Value} {y : Nat} (F : FC p s m meth c args D a d A own cc nL ret) (G : GC D a d A s.heap S H locs) (hy : has S y (.inr (9, fs))) : ∃ cell : Cell, H[y]? = some cell ∧ cell.vm.isStatics = false ∧ s.vm.findClass RX9 = some cell.cls := by
  obtain ⟨hx, hb, hr, hml, hown, hts, hlocks, hA, hK, hN⟩ := F
  obtain ⟨q, hq⟩ := has_pos (a := a) (d := d) hy
  exact va_recv hK G.1 (ci := 9) (q0 := q) rfl hq
theorem p_recv_X10 {fs : List Value} {y : Nat} (F : FC p s m meth c args D a d A own cc nL ret) (G : GC D a d A s.heap S H locs) (hy : has S y (.inr (10, fs))) : ∃ cell : Cell, H[y]? = some cell ∧ cell.vm.isStatics = false ∧ s.vm.findClass RX10 = some cell.cls := by
  obtain ⟨hx, hb, hr, hml, hown, hts, hlocks, hA, hK, hN⟩ := F
  obtain ⟨q, hq⟩ := has_pos (a := a) (d := d) hy
  exact va_recv hK G.1 (ci := 10) (q0 := q) rfl hq
theorem p_recv_X11 {fs : List Value} {y : Nat} (F : FC p s m meth c args D a d A own cc nL ret) (G : GC D a d A s.heap S H locs) (hy : has S y (.inr (11, fs))) : ∃ cell : Cell, H[y]? = some cell ∧ cell.vm.isStatics = false ∧ s.vm.findClass RX11 = some cell.cls := by
  obtain ⟨hx, hb, hr, hml, hown, hts, hlocks, hA, hK, hN⟩ := F
  obtain ⟨q, hq⟩ := has_pos (a := a) (d := d) hy
  exact va_recv hK G.1 (ci := 11) (q0 := q) rfl hq
theorem cast_asg {C T : String} {s : State} (h : va_Nw (.castable C T) s) : ∀ comp c0 : ClassId, s.vm.findClass T = some comp → s.vm.findClass C = some c0 → s.vm.assignable c0 comp = true := by
  intro comp c0 h1 h2
  obtain ⟨c1, t1, f1, f2, f3⟩ := Cond.castable_spec h
  rw [f1] at h2; rw [f2] at h1
  cases h1; cases h2
  exact f3
theorem p_any_R {κ : Nat} {fs : List Value} {y : Nat} (F : FC p s m meth c args D a d A own cc nL ret) (G : GC D a d A s.heap S H locs) (hκ : κ < 6) (hy : has S y (.inr (6 + κ, fs))) : va_Any "StrokesHeard$Ringer" s H y := by
  obtain ⟨hx, hb, hr, hml, hown, hts, hlocks, hA, hK, hN⟩ := F
  obtain ⟨q, hq⟩ := has_pos (a := a) (d := d) hy
  obtain rfl | rfl | rfl | rfl | rfl | rfl : κ = 0 ∨ κ = 1 ∨ κ = 2 ∨ κ = 3 ∨ κ = 4 ∨ κ = 5 := by omega
  · exact va_rAny (r := (RX6, TX6, 2)) hK G.1 hq rfl (fun comp c0 h1 h2 => by cases h1.symm.trans h2; exact va_asg _ _)
  · exact va_rAny (r := (RX7, TX7, 2)) hK G.1 hq rfl (cast_asg (hN.1 _ (List.mem_of_getElem? (i := 47) rfl)))
  · exact va_rAny (r := (RX8, TX8, 2)) hK G.1 hq rfl (cast_asg (hN.1 _ (List.mem_of_getElem? (i := 49) rfl)))
  · exact va_rAny (r := (RX9, TX9, 2)) hK G.1 hq rfl (cast_asg (hN.1 _ (List.mem_of_getElem? (i := 52) rfl)))
  · exact va_rAny (r := (RX10, TX10, 2)) hK G.1 hq rfl (cast_asg (hN.1 _ (List.mem_of_getElem? (i := 41) rfl)))
  · exact va_rAny (r := (RX11, TX11, 2)) hK G.1 hq rfl (cast_asg (hN.1 _ (List.mem_of_getElem? (i := 43) rfl)))
theorem p_any_T {fs : List Value} {y : Nat} (F : FC p s m meth c args D a d A own cc nL ret) (G : GC D a d A s.heap S H locs) (hy : has S y (.inr (13, fs))) : va_Any "StrokesHeard$Text" s H y := by
  obtain ⟨hx, hb, hr, hml, hown, hts, hlocks, hA, hK, hN⟩ := F
  obtain ⟨q, hq⟩ := has_pos (a := a) (d := d) hy
  exact va_rAny (r := (RX13, TX13, 3)) hK G.1 hq rfl (fun comp c0 h1 h2 => by cases h1.symm.trans h2; exact va_asg _ _)
theorem c_copy_i_X0 {j j2 n1 n2 : Nat} {sp dp n : Int32} (F : FC p s m meth c args D a d A RX0 cc nL ret) (G : GC D a d A s.heap S H locs) (hj : isI j n1 0) (hj2 : isI j2 n2 0) (hsz : ls.size = nL) (h1 : ¬ sp < 0) (h2 : ¬ dp < 0) (h3 : ¬ n < 0) (h4 : sp.toNatClampNeg + n.toNatClampNeg ≤ n1) (h5 : dp.toNatClampNeg + n.toNatClampNeg ≤ n2) (hfr : 1 ≤ R.frames) (hlo : (rest.map fun v => v.category).sum + (nativeFrameWords "java/lang/System" "arraycopy" 5 + 11) ≤ R.locals) (hd : decode cc pc = .ok (.invokestatic 34, 3)) (k : ∀ (H : Heap) (locs : List Loc), GC D a d A s.heap (u2 S.1 j2 (va_cpy (S.1 j) (S.1 j2) sp.toNatClampNeg dp.toNatClampNeg n.toNatClampNeg), S.2) H locs → W p l e R s m args below meth c H locs cells slots Q (F0 m (pc + 3) ls rest)) : W p l e R s m args below meth c H locs cells slots Q (F0 m pc ls (.int n :: .int dp :: .ref (a j2) :: .int sp :: .ref (a j) :: rest)) := by
  obtain ⟨hx, hb, hr, hml, hown, hts, hlocks, hA, hK, hN⟩ := F
  obtain ⟨hP, hD, hS⟩ := G
  refine va_copyi hx hb (hml.trans hsz.symm) hown (hts _ q968) (hts _ q854) (hts _ q853) (hts _ q100) hK hP hD hS j j2 0 0 (hj.1 a d S) (hj2.1 a d S) rfl rfl rfl h1 h2 h3 h4 h5 (fun _ _ => rfl) hfr hlo hd (fun H1 locs1 hP hD hS => k H1 locs1 ?_)
  rw [hj2.2] at hP hD
  exact ⟨hP, hD, hS⟩
theorem c_copy_r_X0 {j j2 n1 n2 : Nat} {sp dp n : Int32} (F : FC p s m meth c args D a d A RX0 cc nL ret) (G : GC D a d A s.heap S H locs) (hj : isR j n1 3) (hj2 : isR j2 n2 3) (hsz : ls.size = nL) (h1 : ¬ sp < 0) (h2 : ¬ dp < 0) (h3 : ¬ n < 0) (h4 : sp.toNatClampNeg + n.toNatClampNeg ≤ n1) (h5 : dp.toNatClampNeg + n.toNatClampNeg ≤ n2) (hel : ∀ i : Nat, i < n.toNatClampNeg → ∀ y : Nat, S.2.1 j (sp.toNatClampNeg + i) = some y → ∃ fs, has S y (.inr (13, fs))) (hfr : 1 ≤ R.frames) (hlo : (rest.map fun v => v.category).sum + (nativeFrameWords "java/lang/System" "arraycopy" 5 + 11) ≤ R.locals) (hd : decode cc pc = .ok (.invokestatic 34, 3)) (k : ∀ (H : Heap) (locs : List Loc), GC D a d A s.heap (S.1, u2 S.2.1 j2 (va_cpy (S.2.1 j) (S.2.1 j2) sp.toNatClampNeg dp.toNatClampNeg n.toNatClampNeg), S.2.2) H locs → W p l e R s m args below meth c H locs cells slots Q (F0 m (pc + 3) ls rest)) : W p l e R s m args below meth c H locs cells slots Q (F0 m pc ls (.int n :: .int dp :: .ref (a j2) :: .int sp :: .ref (a j) :: rest)) := by
  have F0_ := F
  have G0_ := G
  obtain ⟨hx, hb, hr, hml, hown, hts, hlocks, hA, hK, hN⟩ := F
  obtain ⟨hP, hD, hS⟩ := G
  refine va_copyM hx hb (hml.trans hsz.symm) hown (hts _ q968) (hts _ q854) (hts _ q853) (hts _ q100) hK hP hD hS j j2 3 3 (hj.1 a d S) (hj2.1 a d S) rfl rfl h1 h2 h3 h4 h5 (fun i hi y hy => by
    obtain ⟨fs, hf⟩ := hel i hi y hy
    exact p_any_T F0_ G0_ hf) hfr hlo hd (fun H1 locs1 hP hD hS => k H1 locs1 ?_)
  rw [hj2.2] at hP hD
  exact ⟨hP, hD, hS⟩
theorem p_copy_s_X0 {y1 y2 n1 n2 : Nat} {f g : Nat → Int32} {sp dp n : Int32} (F : FC p s m meth c args D a d A RX0 cc nL ret) (G : GC D a d A s.heap S H locs) (hy1 : has S y1 (.inl (7, n1, .inl f))) (hy2 : has S y2 (.inl (7, n2, .inl g))) (hfit : ∀ i, i < n.toNatClampNeg → fits .short (.int (f (sp.toNatClampNeg + i))) = true) (hsz : ls.size = nL) (h1 : ¬ sp < 0) (h2 : ¬ dp < 0) (h3 : ¬ n < 0) (h4 : sp.toNatClampNeg + n.toNatClampNeg ≤ n1) (h5 : dp.toNatClampNeg + n.toNatClampNeg ≤ n2) (hfr : 1 ≤ R.frames) (hlo : (rest.map fun v => v.category).sum + (nativeFrameWords "java/lang/System" "arraycopy" 5 + 11) ≤ R.locals) (hd : decode cc pc = .ok (.invokestatic 34, 3)) (k : ∀ (H : Heap) (locs : List Loc), GC D a d A s.heap (cP S y2 (.inl (7, n2, .inl (va_cpy f g sp.toNatClampNeg dp.toNatClampNeg n.toNatClampNeg)))) H locs → W p l e R s m args below meth c H locs cells slots Q (F0 m (pc + 3) ls rest)) : W p l e R s m args below meth c H locs cells slots Q (F0 m pc ls (.int n :: .int dp :: .ref y2 :: .int sp :: .ref y1 :: rest)) := by
  obtain ⟨hx, hb, hr, hml, hown, hts, hlocks, hA, hK, hN⟩ := F
  obtain ⟨hP, hD, hS⟩ := G
  obtain ⟨q1, hq1⟩ := has_pos (a := a) (d := d) hy1
  obtain ⟨q2, hq2⟩ := has_pos (a := a) (d := d) hy2
  refine va_copyi (ty := .short) hx hb (hml.trans hsz.symm) hown (hts _ q968) (hts _ q854) (hts _ q853) (hts _ q100) hK hP hD hS q1 q2 7 7 hq1 hq2 rfl rfl rfl h1 h2 h3 h4 h5 hfit hfr hlo hd (fun H1 locs1 hP hD2 hS => k H1 locs1 ?_)
  have hs := has_set (e1 := .inl (7, n2, .inl (va_cpy f g sp.toNatClampNeg dp.toNatClampNeg n.toNatClampNeg))) hD hy2 hq2
  have hP : va_P D clA ((cW a d S).set q2 (y2, pm d (.inl (7, n2, .inl (va_cpy f g sp.toNatClampNeg dp.toNatClampNeg n.toNatClampNeg))))) H1 := hP
  have hD2 : va_D A ((cW a d S).set q2 (y2, pm d (.inl (7, n2, .inl (va_cpy f g sp.toNatClampNeg dp.toNatClampNeg n.toNatClampNeg))))) := hD2
  rw [hs] at hP hD2
  exact ⟨hP, hD2, hS⟩
theorem c_copy_i_X1 {j j2 n1 n2 : Nat} {sp dp n : Int32} (F : FC p s m meth c args D a d A RX1 cc nL ret) (G : GC D a d A s.heap S H locs) (hj : isI j n1 0) (hj2 : isI j2 n2 0) (hsz : ls.size = nL) (h1 : ¬ sp < 0) (h2 : ¬ dp < 0) (h3 : ¬ n < 0) (h4 : sp.toNatClampNeg + n.toNatClampNeg ≤ n1) (h5 : dp.toNatClampNeg + n.toNatClampNeg ≤ n2) (hfr : 1 ≤ R.frames) (hlo : (rest.map fun v => v.category).sum + (nativeFrameWords "java/lang/System" "arraycopy" 5 + 11) ≤ R.locals) (hd : decode cc pc = .ok (.invokestatic 71, 3)) (k : ∀ (H : Heap) (locs : List Loc), GC D a d A s.heap (u2 S.1 j2 (va_cpy (S.1 j) (S.1 j2) sp.toNatClampNeg dp.toNatClampNeg n.toNatClampNeg), S.2) H locs → W p l e R s m args below meth c H locs cells slots Q (F0 m (pc + 3) ls rest)) : W p l e R s m args below meth c H locs cells slots Q (F0 m pc ls (.int n :: .int dp :: .ref (a j2) :: .int sp :: .ref (a j) :: rest)) := by
  obtain ⟨hx, hb, hr, hml, hown, hts, hlocks, hA, hK, hN⟩ := F
  obtain ⟨hP, hD, hS⟩ := G
  refine va_copyi hx hb (hml.trans hsz.symm) hown (hts _ q852) (hts _ q854) (hts _ q853) (hts _ q100) hK hP hD hS j j2 0 0 (hj.1 a d S) (hj2.1 a d S) rfl rfl rfl h1 h2 h3 h4 h5 (fun _ _ => rfl) hfr hlo hd (fun H1 locs1 hP hD hS => k H1 locs1 ?_)
  rw [hj2.2] at hP hD
  exact ⟨hP, hD, hS⟩
theorem c_copy_r_X1 {j j2 n1 n2 : Nat} {sp dp n : Int32} (F : FC p s m meth c args D a d A RX1 cc nL ret) (G : GC D a d A s.heap S H locs) (hj : isR j n1 3) (hj2 : isR j2 n2 3) (hsz : ls.size = nL) (h1 : ¬ sp < 0) (h2 : ¬ dp < 0) (h3 : ¬ n < 0) (h4 : sp.toNatClampNeg + n.toNatClampNeg ≤ n1) (h5 : dp.toNatClampNeg + n.toNatClampNeg ≤ n2) (hel : ∀ i : Nat, i < n.toNatClampNeg → ∀ y : Nat, S.2.1 j (sp.toNatClampNeg + i) = some y → ∃ fs, has S y (.inr (13, fs))) (hfr : 1 ≤ R.frames) (hlo : (rest.map fun v => v.category).sum + (nativeFrameWords "java/lang/System" "arraycopy" 5 + 11) ≤ R.locals) (hd : decode cc pc = .ok (.invokestatic 71, 3)) (k : ∀ (H : Heap) (locs : List Loc), GC D a d A s.heap (S.1, u2 S.2.1 j2 (va_cpy (S.2.1 j) (S.2.1 j2) sp.toNatClampNeg dp.toNatClampNeg n.toNatClampNeg), S.2.2) H locs → W p l e R s m args below meth c H locs cells slots Q (F0 m (pc + 3) ls rest)) : W p l e R s m args below meth c H locs cells slots Q (F0 m pc ls (.int n :: .int dp :: .ref (a j2) :: .int sp :: .ref (a j) :: rest)) := by
  have F0_ := F
  have G0_ := G
  obtain ⟨hx, hb, hr, hml, hown, hts, hlocks, hA, hK, hN⟩ := F
  obtain ⟨hP, hD, hS⟩ := G
  refine va_copyM hx hb (hml.trans hsz.symm) hown (hts _ q852) (hts _ q854) (hts _ q853) (hts _ q100) hK hP hD hS j j2 3 3 (hj.1 a d S) (hj2.1 a d S) rfl rfl h1 h2 h3 h4 h5 (fun i hi y hy => by
    obtain ⟨fs, hf⟩ := hel i hi y hy
    exact p_any_T F0_ G0_ hf) hfr hlo hd (fun H1 locs1 hP hD hS => k H1 locs1 ?_)
  rw [hj2.2] at hP hD
  exact ⟨hP, hD, hS⟩
theorem p_copy_s_X1 {y1 y2 n1 n2 : Nat} {f g : Nat → Int32} {sp dp n : Int32} (F : FC p s m meth c args D a d A RX1 cc nL ret) (G : GC D a d A s.heap S H locs) (hy1 : has S y1 (.inl (7, n1, .inl f))) (hy2 : has S y2 (.inl (7, n2, .inl g))) (hfit : ∀ i, i < n.toNatClampNeg → fits .short (.int (f (sp.toNatClampNeg + i))) = true) (hsz : ls.size = nL) (h1 : ¬ sp < 0) (h2 : ¬ dp < 0) (h3 : ¬ n < 0) (h4 : sp.toNatClampNeg + n.toNatClampNeg ≤ n1) (h5 : dp.toNatClampNeg + n.toNatClampNeg ≤ n2) (hfr : 1 ≤ R.frames) (hlo : (rest.map fun v => v.category).sum + (nativeFrameWords "java/lang/System" "arraycopy" 5 + 11) ≤ R.locals) (hd : decode cc pc = .ok (.invokestatic 71, 3)) (k : ∀ (H : Heap) (locs : List Loc), GC D a d A s.heap (cP S y2 (.inl (7, n2, .inl (va_cpy f g sp.toNatClampNeg dp.toNatClampNeg n.toNatClampNeg)))) H locs → W p l e R s m args below meth c H locs cells slots Q (F0 m (pc + 3) ls rest)) : W p l e R s m args below meth c H locs cells slots Q (F0 m pc ls (.int n :: .int dp :: .ref y2 :: .int sp :: .ref y1 :: rest)) := by
  obtain ⟨hx, hb, hr, hml, hown, hts, hlocks, hA, hK, hN⟩ := F
  obtain ⟨hP, hD, hS⟩ := G
  obtain ⟨q1, hq1⟩ := has_pos (a := a) (d := d) hy1
  obtain ⟨q2, hq2⟩ := has_pos (a := a) (d := d) hy2
  refine va_copyi (ty := .short) hx hb (hml.trans hsz.symm) hown (hts _ q852) (hts _ q854) (hts _ q853) (hts _ q100) hK hP hD hS q1 q2 7 7 hq1 hq2 rfl rfl rfl h1 h2 h3 h4 h5 hfit hfr hlo hd (fun H1 locs1 hP hD2 hS => k H1 locs1 ?_)
  have hs := has_set (e1 := .inl (7, n2, .inl (va_cpy f g sp.toNatClampNeg dp.toNatClampNeg n.toNatClampNeg))) hD hy2 hq2
  have hP : va_P D clA ((cW a d S).set q2 (y2, pm d (.inl (7, n2, .inl (va_cpy f g sp.toNatClampNeg dp.toNatClampNeg n.toNatClampNeg))))) H1 := hP
  have hD2 : va_D A ((cW a d S).set q2 (y2, pm d (.inl (7, n2, .inl (va_cpy f g sp.toNatClampNeg dp.toNatClampNeg n.toNatClampNeg))))) := hD2
  rw [hs] at hP hD2
  exact ⟨hP, hD2, hS⟩
theorem p_castF_X0 {y : Nat} {x : vp_A} (F : FC p s m meth c args D a d A RX0 cc nL ret) (G : GC D a d A s.heap S H locs) (hy : has S y (.inl (6, x))) (hd : decode cc pc = .ok (.checkcast 430, 3)) (k : W p l e R s m args below meth c H locs cells slots Q (F0 m (pc + 3) ls (.ref y :: rest))) : W p l e R s m args below meth c H locs cells slots Q (F0 m pc ls (.ref y :: rest)) := by
  obtain ⟨hx, hb, hr, hml, hown, hts, hlocks, hA, hK, hN⟩ := F
  obtain ⟨q, hq⟩ := has_pos (a := a) (d := d) hy
  exact va_castA hx hb hown (hts _ q1034) G.1 q hq (hK.2 6 _ rfl).2 hd k
theorem p_castS_X0 {y : Nat} {x : vp_A} (F : FC p s m meth c args D a d A RX0 cc nL ret) (G : GC D a d A s.heap S H locs) (hy : has S y (.inl (7, x))) (hd : decode cc pc = .ok (.checkcast 467, 3)) (k : W p l e R s m args below meth c H locs cells slots Q (F0 m (pc + 3) ls (.ref y :: rest))) : W p l e R s m args below meth c H locs cells slots Q (F0 m pc ls (.ref y :: rest)) := by
  obtain ⟨hx, hb, hr, hml, hown, hts, hlocks, hA, hK, hN⟩ := F
  obtain ⟨q, hq⟩ := has_pos (a := a) (d := d) hy
  exact va_castA hx hb hown (hts _ q1077) G.1 q hq (hK.2 7 _ rfl).2 hd k
theorem p_castF_X3 {y : Nat} {x : vp_A} (F : FC p s m meth c args D a d A RX3 cc nL ret) (G : GC D a d A s.heap S H locs) (hy : has S y (.inl (6, x))) (hd : decode cc pc = .ok (.checkcast 13, 3)) (k : W p l e R s m args below meth c H locs cells slots Q (F0 m (pc + 3) ls (.ref y :: rest))) : W p l e R s m args below meth c H locs cells slots Q (F0 m pc ls (.ref y :: rest)) := by
  obtain ⟨hx, hb, hr, hml, hown, hts, hlocks, hA, hK, hN⟩ := F
  obtain ⟨q, hq⟩ := has_pos (a := a) (d := d) hy
  exact va_castA hx hb hown (hts _ q1028) G.1 q hq (hK.2 6 _ rfl).2 hd k
theorem p_castS_X3 {y : Nat} {x : vp_A} (F : FC p s m meth c args D a d A RX3 cc nL ret) (G : GC D a d A s.heap S H locs) (hy : has S y (.inl (7, x))) (hd : decode cc pc = .ok (.checkcast 19, 3)) (k : W p l e R s m args below meth c H locs cells slots Q (F0 m (pc + 3) ls (.ref y :: rest))) : W p l e R s m args below meth c H locs cells slots Q (F0 m pc ls (.ref y :: rest)) := by
  obtain ⟨hx, hb, hr, hml, hown, hts, hlocks, hA, hK, hN⟩ := F
  obtain ⟨q, hq⟩ := has_pos (a := a) (d := d) hy
  exact va_castA hx hb hown (hts _ q1029) G.1 q hq (hK.2 7 _ rfl).2 hd k
theorem vp_vm (cA : ClassId) (x : vp_A) : (vp_cell cA x).vm.isStatics = false ∧ (vp_cell cA x).cls = cA := by
  obtain ⟨n, f | f | f | f | f⟩ := x <;> exact ⟨rfl, rfl⟩
theorem p_instF_X3 {y : Nat} {x : vp_A} (F : FC p s m meth c args D a d A RX3 cc nL ret) (G : GC D a d A s.heap S H locs) (hy : has S y (.inl (6, x))) (hd : decode cc pc = .ok (.instanceof 13, 3)) (k : W p l e R s m args below meth c H locs cells slots Q (F0 m (pc + 3) ls (.int 1 :: rest))) : W p l e R s m args below meth c H locs cells slots Q (F0 m pc ls (.ref y :: rest)) := by
  obtain ⟨hx, hb, hr, hml, hown, hts, hlocks, hA, hK, hN⟩ := F
  obtain ⟨q, hq⟩ := has_pos (a := a) (d := d) hy
  have hc : H[y]? = some (vp_cell (d 6) x) := G.1 q _ hq
  have hr : ∃ cell : Cell, H[y]? = some cell ∧ cell.vm.isStatics = false ∧ s.vm.findClass "[F" = some cell.cls := ⟨_, hc, (vp_vm _ _).1, by rw [(vp_vm _ _).2]; exact (hK.2 6 _ rfl).2⟩
  exact va_instE hx hb hown (hts _ q1028) hr hd k
theorem p_instS_X3 {y : Nat} {x : vp_A} (F : FC p s m meth c args D a d A RX3 cc nL ret) (G : GC D a d A s.heap S H locs) (hy : has S y (.inl (7, x))) (hd : decode cc pc = .ok (.instanceof 13, 3)) (k : W p l e R s m args below meth c H locs cells slots Q (F0 m (pc + 3) ls (.int 0 :: rest))) : W p l e R s m args below meth c H locs cells slots Q (F0 m pc ls (.ref y :: rest)) := by
  obtain ⟨hx, hb, hr, hml, hown, hts, hlocks, hA, hK, hN⟩ := F
  obtain ⟨q, hq⟩ := has_pos (a := a) (d := d) hy
  have hc : H[y]? = some (vp_cell (d 7) x) := G.1 q _ hq
  have hr : ∃ cell : Cell, H[y]? = some cell ∧ cell.vm.isStatics = false ∧ s.vm.findClass "[S" = some cell.cls := ⟨_, hc, (vp_vm _ _).1, by rw [(vp_vm _ _).2]; exact (hK.2 7 _ rfl).2⟩
  exact va_instNo hx hb hown (hts _ q1028) (hN.2.1 ("[S", "[F") (List.mem_of_getElem? (i := 254) rfl)) hr hd k
theorem p_inst_X0_X14_3 {fs : List Value} {y : Nat} (F : FC p s m meth c args D a d A RX0 cc nL ret) (G : GC D a d A s.heap S H locs) (hy : has S y (.inr (3, fs))) (hd : decode cc pc = .ok (.instanceof 487, 3)) (k : W p l e R s m args below meth c H locs cells slots Q (F0 m (pc + 3) ls (.int 0 :: rest))) : W p l e R s m args below meth c H locs cells slots Q (F0 m pc ls (.ref y :: rest)) := by
  have hrv := p_recv_X3 F G hy
  obtain ⟨hx, hb, hr, hml, hown, hts, hlocks, hA, hK, hN⟩ := F
  exact va_instNo hx hb hown (hts _ q1107) (hN.2.1 ("StrokesHeard$Sheet", "StrokesHeard$Figure") (List.mem_of_getElem? (i := 78) rfl)) hrv hd k
theorem p_inst_X0_X14_6 {fs : List Value} {y : Nat} (F : FC p s m meth c args D a d A RX0 cc nL ret) (G : GC D a d A s.heap S H locs) (hy : has S y (.inr (6, fs))) (hd : decode cc pc = .ok (.instanceof 487, 3)) (k : W p l e R s m args below meth c H locs cells slots Q (F0 m (pc + 3) ls (.int 0 :: rest))) : W p l e R s m args below meth c H locs cells slots Q (F0 m pc ls (.ref y :: rest)) := by
  have hrv := p_recv_X6 F G hy
  obtain ⟨hx, hb, hr, hml, hown, hts, hlocks, hA, hK, hN⟩ := F
  exact va_instNo hx hb hown (hts _ q1107) (hN.2.1 ("StrokesHeard$Ringer", "StrokesHeard$Figure") (List.mem_of_getElem? (i := 86) rfl)) hrv hd k
theorem p_inst_X0_X14_7 {fs : List Value} {y : Nat} (F : FC p s m meth c args D a d A RX0 cc nL ret) (G : GC D a d A s.heap S H locs) (hy : has S y (.inr (7, fs))) (hd : decode cc pc = .ok (.instanceof 487, 3)) (k : W p l e R s m args below meth c H locs cells slots Q (F0 m (pc + 3) ls (.int 0 :: rest))) : W p l e R s m args below meth c H locs cells slots Q (F0 m pc ls (.ref y :: rest)) := by
  have hrv := p_recv_X7 F G hy
  obtain ⟨hx, hb, hr, hml, hown, hts, hlocks, hA, hK, hN⟩ := F
  exact va_instNo hx hb hown (hts _ q1107) (hN.2.1 ("StrokesHeard$Quarters", "StrokesHeard$Figure") (List.mem_of_getElem? (i := 81) rfl)) hrv hd k
theorem p_inst_X0_X14_8 {fs : List Value} {y : Nat} (F : FC p s m meth c args D a d A RX0 cc nL ret) (G : GC D a d A s.heap S H locs) (hy : has S y (.inr (8, fs))) (hd : decode cc pc = .ok (.instanceof 487, 3)) (k : W p l e R s m args below meth c H locs cells slots Q (F0 m (pc + 3) ls (.int 0 :: rest))) : W p l e R s m args below meth c H locs cells slots Q (F0 m pc ls (.ref y :: rest)) := by
  have hrv := p_recv_X8 F G hy
  obtain ⟨hx, hb, hr, hml, hown, hts, hlocks, hA, hK, hN⟩ := F
  exact va_instNo hx hb hown (hts _ q1107) (hN.2.1 ("StrokesHeard$Twice", "StrokesHeard$Figure") (List.mem_of_getElem? (i := 82) rfl)) hrv hd k
theorem p_inst_X0_X14_9 {fs : List Value} {y : Nat} (F : FC p s m meth c args D a d A RX0 cc nL ret) (G : GC D a d A s.heap S H locs) (hy : has S y (.inr (9, fs))) (hd : decode cc pc = .ok (.instanceof 487, 3)) (k : W p l e R s m args below meth c H locs cells slots Q (F0 m (pc + 3) ls (.int 0 :: rest))) : W p l e R s m args below meth c H locs cells slots Q (F0 m pc ls (.ref y :: rest)) := by
  have hrv := p_recv_X9 F G hy
  obtain ⟨hx, hb, hr, hml, hown, hts, hlocks, hA, hK, hN⟩ := F
  exact va_instNo hx hb hown (hts _ q1107) (hN.2.1 ("StrokesHeard$Tune", "StrokesHeard$Figure") (List.mem_of_getElem? (i := 83) rfl)) hrv hd k
theorem p_inst_X0_X14_10 {fs : List Value} {y : Nat} (F : FC p s m meth c args D a d A RX0 cc nL ret) (G : GC D a d A s.heap S H locs) (hy : has S y (.inr (10, fs))) (hd : decode cc pc = .ok (.instanceof 487, 3)) (k : W p l e R s m args below meth c H locs cells slots Q (F0 m (pc + 3) ls (.int 0 :: rest))) : W p l e R s m args below meth c H locs cells slots Q (F0 m pc ls (.ref y :: rest)) := by
  have hrv := p_recv_X10 F G hy
  obtain ⟨hx, hb, hr, hml, hown, hts, hlocks, hA, hK, hN⟩ := F
  exact va_instNo hx hb hown (hts _ q1107) (hN.2.1 ("StrokesHeard$Sign", "StrokesHeard$Figure") (List.mem_of_getElem? (i := 84) rfl)) hrv hd k
theorem p_inst_X0_X14_11 {fs : List Value} {y : Nat} (F : FC p s m meth c args D a d A RX0 cc nL ret) (G : GC D a d A s.heap S H locs) (hy : has S y (.inr (11, fs))) (hd : decode cc pc = .ok (.instanceof 487, 3)) (k : W p l e R s m args below meth c H locs cells slots Q (F0 m (pc + 3) ls (.int 0 :: rest))) : W p l e R s m args below meth c H locs cells slots Q (F0 m pc ls (.ref y :: rest)) := by
  have hrv := p_recv_X11 F G hy
  obtain ⟨hx, hb, hr, hml, hown, hts, hlocks, hA, hK, hN⟩ := F
  exact va_instNo hx hb hown (hts _ q1107) (hN.2.1 ("StrokesHeard$Cuckoo", "StrokesHeard$Figure") (List.mem_of_getElem? (i := 85) rfl)) hrv hd k
theorem p_inst_X0_X14_14 {fs : List Value} {y : Nat} (F : FC p s m meth c args D a d A RX0 cc nL ret) (G : GC D a d A s.heap S H locs) (hy : has S y (.inr (14, fs))) (hd : decode cc pc = .ok (.instanceof 487, 3)) (k : W p l e R s m args below meth c H locs cells slots Q (F0 m (pc + 3) ls (.int 1 :: rest))) : W p l e R s m args below meth c H locs cells slots Q (F0 m pc ls (.ref y :: rest)) := by
  have hrv := p_recv_X14 F G hy
  obtain ⟨hx, hb, hr, hml, hown, hts, hlocks, hA, hK, hN⟩ := F
  exact va_instE hx hb hown (hts _ q1107) hrv hd k
theorem p_inst_X4_X6_3 {fs : List Value} {y : Nat} (F : FC p s m meth c args D a d A RX4 cc nL ret) (G : GC D a d A s.heap S H locs) (hy : has S y (.inr (3, fs))) (hd : decode cc pc = .ok (.instanceof 13, 3)) (k : W p l e R s m args below meth c H locs cells slots Q (F0 m (pc + 3) ls (.int 0 :: rest))) : W p l e R s m args below meth c H locs cells slots Q (F0 m pc ls (.ref y :: rest)) := by
  have hrv := p_recv_X3 F G hy
  obtain ⟨hx, hb, hr, hml, hown, hts, hlocks, hA, hK, hN⟩ := F
  exact va_instNo hx hb hown (hts _ q1089) (hN.2.1 ("StrokesHeard$Sheet", "StrokesHeard$Ringer") (List.mem_of_getElem? (i := 51) rfl)) hrv hd k
theorem p_inst_X4_X6_6 {fs : List Value} {y : Nat} (F : FC p s m meth c args D a d A RX4 cc nL ret) (G : GC D a d A s.heap S H locs) (hy : has S y (.inr (6, fs))) (hd : decode cc pc = .ok (.instanceof 13, 3)) (k : W p l e R s m args below meth c H locs cells slots Q (F0 m (pc + 3) ls (.int 1 :: rest))) : W p l e R s m args below meth c H locs cells slots Q (F0 m pc ls (.ref y :: rest)) := by
  have hrv := p_recv_X6 F G hy
  obtain ⟨hx, hb, hr, hml, hown, hts, hlocks, hA, hK, hN⟩ := F
  exact va_instE hx hb hown (hts _ q1089) hrv hd k
theorem p_inst_X4_X6_7 {fs : List Value} {y : Nat} (F : FC p s m meth c args D a d A RX4 cc nL ret) (G : GC D a d A s.heap S H locs) (hy : has S y (.inr (7, fs))) (hd : decode cc pc = .ok (.instanceof 13, 3)) (k : W p l e R s m args below meth c H locs cells slots Q (F0 m (pc + 3) ls (.int 1 :: rest))) : W p l e R s m args below meth c H locs cells slots Q (F0 m pc ls (.ref y :: rest)) := by
  have hrv := p_recv_X7 F G hy
  obtain ⟨hx, hb, hr, hml, hown, hts, hlocks, hA, hK, hN⟩ := F
  exact va_instY hx hb hown (hts _ q1089) (hN.1 _ (List.mem_of_getElem? (i := 47) rfl)) hrv hd k
theorem p_inst_X4_X6_8 {fs : List Value} {y : Nat} (F : FC p s m meth c args D a d A RX4 cc nL ret) (G : GC D a d A s.heap S H locs) (hy : has S y (.inr (8, fs))) (hd : decode cc pc = .ok (.instanceof 13, 3)) (k : W p l e R s m args below meth c H locs cells slots Q (F0 m (pc + 3) ls (.int 1 :: rest))) : W p l e R s m args below meth c H locs cells slots Q (F0 m pc ls (.ref y :: rest)) := by
  have hrv := p_recv_X8 F G hy
  obtain ⟨hx, hb, hr, hml, hown, hts, hlocks, hA, hK, hN⟩ := F
  exact va_instY hx hb hown (hts _ q1089) (hN.1 _ (List.mem_of_getElem? (i := 49) rfl)) hrv hd k
theorem p_inst_X4_X6_9 {fs : List Value} {y : Nat} (F : FC p s m meth c args D a d A RX4 cc nL ret) (G : GC D a d A s.heap S H locs) (hy : has S y (.inr (9, fs))) (hd : decode cc pc = .ok (.instanceof 13, 3)) (k : W p l e R s m args below meth c H locs cells slots Q (F0 m (pc + 3) ls (.int 1 :: rest))) : W p l e R s m args below meth c H locs cells slots Q (F0 m pc ls (.ref y :: rest)) := by
  have hrv := p_recv_X9 F G hy
  obtain ⟨hx, hb, hr, hml, hown, hts, hlocks, hA, hK, hN⟩ := F
  exact va_instY hx hb hown (hts _ q1089) (hN.1 _ (List.mem_of_getElem? (i := 52) rfl)) hrv hd k
theorem p_inst_X4_X6_10 {fs : List Value} {y : Nat} (F : FC p s m meth c args D a d A RX4 cc nL ret) (G : GC D a d A s.heap S H locs) (hy : has S y (.inr (10, fs))) (hd : decode cc pc = .ok (.instanceof 13, 3)) (k : W p l e R s m args below meth c H locs cells slots Q (F0 m (pc + 3) ls (.int 1 :: rest))) : W p l e R s m args below meth c H locs cells slots Q (F0 m pc ls (.ref y :: rest)) := by
  have hrv := p_recv_X10 F G hy
  obtain ⟨hx, hb, hr, hml, hown, hts, hlocks, hA, hK, hN⟩ := F
  exact va_instY hx hb hown (hts _ q1089) (hN.1 _ (List.mem_of_getElem? (i := 41) rfl)) hrv hd k
theorem p_inst_X4_X6_11 {fs : List Value} {y : Nat} (F : FC p s m meth c args D a d A RX4 cc nL ret) (G : GC D a d A s.heap S H locs) (hy : has S y (.inr (11, fs))) (hd : decode cc pc = .ok (.instanceof 13, 3)) (k : W p l e R s m args below meth c H locs cells slots Q (F0 m (pc + 3) ls (.int 1 :: rest))) : W p l e R s m args below meth c H locs cells slots Q (F0 m pc ls (.ref y :: rest)) := by
  have hrv := p_recv_X11 F G hy
  obtain ⟨hx, hb, hr, hml, hown, hts, hlocks, hA, hK, hN⟩ := F
  exact va_instY hx hb hown (hts _ q1089) (hN.1 _ (List.mem_of_getElem? (i := 43) rfl)) hrv hd k
theorem p_inst_X4_X6_14 {fs : List Value} {y : Nat} (F : FC p s m meth c args D a d A RX4 cc nL ret) (G : GC D a d A s.heap S H locs) (hy : has S y (.inr (14, fs))) (hd : decode cc pc = .ok (.instanceof 13, 3)) (k : W p l e R s m args below meth c H locs cells slots Q (F0 m (pc + 3) ls (.int 0 :: rest))) : W p l e R s m args below meth c H locs cells slots Q (F0 m pc ls (.ref y :: rest)) := by
  have hrv := p_recv_X14 F G hy
  obtain ⟨hx, hb, hr, hml, hown, hts, hlocks, hA, hK, hN⟩ := F
  exact va_instNo hx hb hown (hts _ q1089) (hN.2.1 ("StrokesHeard$Figure", "StrokesHeard$Ringer") (List.mem_of_getElem? (i := 58) rfl)) hrv hd k
theorem p_inst_X4_X3_3 {fs : List Value} {y : Nat} (F : FC p s m meth c args D a d A RX4 cc nL ret) (G : GC D a d A s.heap S H locs) (hy : has S y (.inr (3, fs))) (hd : decode cc pc = .ok (.instanceof 15, 3)) (k : W p l e R s m args below meth c H locs cells slots Q (F0 m (pc + 3) ls (.int 1 :: rest))) : W p l e R s m args below meth c H locs cells slots Q (F0 m pc ls (.ref y :: rest)) := by
  have hrv := p_recv_X3 F G hy
  obtain ⟨hx, hb, hr, hml, hown, hts, hlocks, hA, hK, hN⟩ := F
  exact va_instE hx hb hown (hts _ q1090) hrv hd k
theorem p_inst_X4_X3_6 {fs : List Value} {y : Nat} (F : FC p s m meth c args D a d A RX4 cc nL ret) (G : GC D a d A s.heap S H locs) (hy : has S y (.inr (6, fs))) (hd : decode cc pc = .ok (.instanceof 15, 3)) (k : W p l e R s m args below meth c H locs cells slots Q (F0 m (pc + 3) ls (.int 0 :: rest))) : W p l e R s m args below meth c H locs cells slots Q (F0 m pc ls (.ref y :: rest)) := by
  have hrv := p_recv_X6 F G hy
  obtain ⟨hx, hb, hr, hml, hown, hts, hlocks, hA, hK, hN⟩ := F
  exact va_instNo hx hb hown (hts _ q1090) (hN.2.1 ("StrokesHeard$Ringer", "StrokesHeard$Sheet") (List.mem_of_getElem? (i := 69) rfl)) hrv hd k
theorem p_inst_X4_X3_7 {fs : List Value} {y : Nat} (F : FC p s m meth c args D a d A RX4 cc nL ret) (G : GC D a d A s.heap S H locs) (hy : has S y (.inr (7, fs))) (hd : decode cc pc = .ok (.instanceof 15, 3)) (k : W p l e R s m args below meth c H locs cells slots Q (F0 m (pc + 3) ls (.int 0 :: rest))) : W p l e R s m args below meth c H locs cells slots Q (F0 m pc ls (.ref y :: rest)) := by
  have hrv := p_recv_X7 F G hy
  obtain ⟨hx, hb, hr, hml, hown, hts, hlocks, hA, hK, hN⟩ := F
  exact va_instNo hx hb hown (hts _ q1090) (hN.2.1 ("StrokesHeard$Quarters", "StrokesHeard$Sheet") (List.mem_of_getElem? (i := 64) rfl)) hrv hd k
theorem p_inst_X4_X3_8 {fs : List Value} {y : Nat} (F : FC p s m meth c args D a d A RX4 cc nL ret) (G : GC D a d A s.heap S H locs) (hy : has S y (.inr (8, fs))) (hd : decode cc pc = .ok (.instanceof 15, 3)) (k : W p l e R s m args below meth c H locs cells slots Q (F0 m (pc + 3) ls (.int 0 :: rest))) : W p l e R s m args below meth c H locs cells slots Q (F0 m pc ls (.ref y :: rest)) := by
  have hrv := p_recv_X8 F G hy
  obtain ⟨hx, hb, hr, hml, hown, hts, hlocks, hA, hK, hN⟩ := F
  exact va_instNo hx hb hown (hts _ q1090) (hN.2.1 ("StrokesHeard$Twice", "StrokesHeard$Sheet") (List.mem_of_getElem? (i := 65) rfl)) hrv hd k
theorem p_inst_X4_X3_9 {fs : List Value} {y : Nat} (F : FC p s m meth c args D a d A RX4 cc nL ret) (G : GC D a d A s.heap S H locs) (hy : has S y (.inr (9, fs))) (hd : decode cc pc = .ok (.instanceof 15, 3)) (k : W p l e R s m args below meth c H locs cells slots Q (F0 m (pc + 3) ls (.int 0 :: rest))) : W p l e R s m args below meth c H locs cells slots Q (F0 m pc ls (.ref y :: rest)) := by
  have hrv := p_recv_X9 F G hy
  obtain ⟨hx, hb, hr, hml, hown, hts, hlocks, hA, hK, hN⟩ := F
  exact va_instNo hx hb hown (hts _ q1090) (hN.2.1 ("StrokesHeard$Tune", "StrokesHeard$Sheet") (List.mem_of_getElem? (i := 66) rfl)) hrv hd k
theorem p_inst_X4_X3_10 {fs : List Value} {y : Nat} (F : FC p s m meth c args D a d A RX4 cc nL ret) (G : GC D a d A s.heap S H locs) (hy : has S y (.inr (10, fs))) (hd : decode cc pc = .ok (.instanceof 15, 3)) (k : W p l e R s m args below meth c H locs cells slots Q (F0 m (pc + 3) ls (.int 0 :: rest))) : W p l e R s m args below meth c H locs cells slots Q (F0 m pc ls (.ref y :: rest)) := by
  have hrv := p_recv_X10 F G hy
  obtain ⟨hx, hb, hr, hml, hown, hts, hlocks, hA, hK, hN⟩ := F
  exact va_instNo hx hb hown (hts _ q1090) (hN.2.1 ("StrokesHeard$Sign", "StrokesHeard$Sheet") (List.mem_of_getElem? (i := 67) rfl)) hrv hd k
theorem p_inst_X4_X3_11 {fs : List Value} {y : Nat} (F : FC p s m meth c args D a d A RX4 cc nL ret) (G : GC D a d A s.heap S H locs) (hy : has S y (.inr (11, fs))) (hd : decode cc pc = .ok (.instanceof 15, 3)) (k : W p l e R s m args below meth c H locs cells slots Q (F0 m (pc + 3) ls (.int 0 :: rest))) : W p l e R s m args below meth c H locs cells slots Q (F0 m pc ls (.ref y :: rest)) := by
  have hrv := p_recv_X11 F G hy
  obtain ⟨hx, hb, hr, hml, hown, hts, hlocks, hA, hK, hN⟩ := F
  exact va_instNo hx hb hown (hts _ q1090) (hN.2.1 ("StrokesHeard$Cuckoo", "StrokesHeard$Sheet") (List.mem_of_getElem? (i := 68) rfl)) hrv hd k
theorem p_inst_X4_X3_14 {fs : List Value} {y : Nat} (F : FC p s m meth c args D a d A RX4 cc nL ret) (G : GC D a d A s.heap S H locs) (hy : has S y (.inr (14, fs))) (hd : decode cc pc = .ok (.instanceof 15, 3)) (k : W p l e R s m args below meth c H locs cells slots Q (F0 m (pc + 3) ls (.int 0 :: rest))) : W p l e R s m args below meth c H locs cells slots Q (F0 m pc ls (.ref y :: rest)) := by
  have hrv := p_recv_X14 F G hy
  obtain ⟨hx, hb, hr, hml, hown, hts, hlocks, hA, hK, hN⟩ := F
  exact va_instNo hx hb hown (hts _ q1090) (hN.2.1 ("StrokesHeard$Figure", "StrokesHeard$Sheet") (List.mem_of_getElem? (i := 74) rfl)) hrv hd k
theorem p_cast_X3_3 {fs : List Value} {y : Nat} (F : FC p s m meth c args D a d A RX0 cc nL ret) (G : GC D a d A s.heap S H locs) (hy : has S y (.inr (3, fs))) (hd : decode cc pc = .ok (.checkcast 80, 3)) (k : W p l e R s m args below meth c H locs cells slots Q (F0 m (pc + 3) ls (.ref y :: rest))) : W p l e R s m args below meth c H locs cells slots Q (F0 m pc ls (.ref y :: rest)) := by
  have hrv := p_recv_X3 F G hy
  obtain ⟨hx, hb, hr, hml, hown, hts, hlocks, hA, hK, hN⟩ := F
  exact va_castS hx hb hown (hts _ q245) (hK.1 3 _ rfl).2 hrv hd k
theorem p_cast_X7_7 {fs : List Value} {y : Nat} (F : FC p s m meth c args D a d A RX0 cc nL ret) (G : GC D a d A s.heap S H locs) (hy : has S y (.inr (7, fs))) (hd : decode cc pc = .ok (.checkcast 13, 3)) (k : W p l e R s m args below meth c H locs cells slots Q (F0 m (pc + 3) ls (.ref y :: rest))) : W p l e R s m args below meth c H locs cells slots Q (F0 m pc ls (.ref y :: rest)) := by
  have hrv := p_recv_X7 F G hy
  obtain ⟨hx, hb, hr, hml, hown, hts, hlocks, hA, hK, hN⟩ := F
  exact va_castS hx hb hown (hts _ q562) (hK.1 7 _ rfl).2 hrv hd k
theorem p_cast_X7_9 {fs : List Value} {y : Nat} (F : FC p s m meth c args D a d A RX0 cc nL ret) (G : GC D a d A s.heap S H locs) (hy : has S y (.inr (9, fs))) (hd : decode cc pc = .ok (.checkcast 13, 3)) (k : W p l e R s m args below meth c H locs cells slots Q (F0 m (pc + 3) ls (.ref y :: rest))) : W p l e R s m args below meth c H locs cells slots Q (F0 m pc ls (.ref y :: rest)) := by
  have hrv := p_recv_X9 F G hy
  obtain ⟨hx, hb, hr, hml, hown, hts, hlocks, hA, hK, hN⟩ := F
  exact va_castY hx hb hown (hts _ q562) (hN.1 _ (List.mem_of_getElem? (i := 51) rfl)) hrv hd k
theorem p_cast_X8_8 {fs : List Value} {y : Nat} (F : FC p s m meth c args D a d A RX0 cc nL ret) (G : GC D a d A s.heap S H locs) (hy : has S y (.inr (8, fs))) (hd : decode cc pc = .ok (.checkcast 19, 3)) (k : W p l e R s m args below meth c H locs cells slots Q (F0 m (pc + 3) ls (.ref y :: rest))) : W p l e R s m args below meth c H locs cells slots Q (F0 m pc ls (.ref y :: rest)) := by
  have hrv := p_recv_X8 F G hy
  obtain ⟨hx, hb, hr, hml, hown, hts, hlocks, hA, hK, hN⟩ := F
  exact va_castS hx hb hown (hts _ q580) (hK.1 8 _ rfl).2 hrv hd k
theorem p_cast_X8_10 {fs : List Value} {y : Nat} (F : FC p s m meth c args D a d A RX0 cc nL ret) (G : GC D a d A s.heap S H locs) (hy : has S y (.inr (10, fs))) (hd : decode cc pc = .ok (.checkcast 19, 3)) (k : W p l e R s m args below meth c H locs cells slots Q (F0 m (pc + 3) ls (.ref y :: rest))) : W p l e R s m args below meth c H locs cells slots Q (F0 m pc ls (.ref y :: rest)) := by
  have hrv := p_recv_X10 F G hy
  obtain ⟨hx, hb, hr, hml, hown, hts, hlocks, hA, hK, hN⟩ := F
  exact va_castY hx hb hown (hts _ q580) (hN.1 _ (List.mem_of_getElem? (i := 40) rfl)) hrv hd k
theorem p_cast_X9_9 {fs : List Value} {y : Nat} (F : FC p s m meth c args D a d A RX0 cc nL ret) (G : GC D a d A s.heap S H locs) (hy : has S y (.inr (9, fs))) (hd : decode cc pc = .ok (.checkcast 22, 3)) (k : W p l e R s m args below meth c H locs cells slots Q (F0 m (pc + 3) ls (.ref y :: rest))) : W p l e R s m args below meth c H locs cells slots Q (F0 m pc ls (.ref y :: rest)) := by
  have hrv := p_recv_X9 F G hy
  obtain ⟨hx, hb, hr, hml, hown, hts, hlocks, hA, hK, hN⟩ := F
  exact va_castS hx hb hown (hts _ q589) (hK.1 9 _ rfl).2 hrv hd k
theorem p_cast_X10_10 {fs : List Value} {y : Nat} (F : FC p s m meth c args D a d A RX0 cc nL ret) (G : GC D a d A s.heap S H locs) (hy : has S y (.inr (10, fs))) (hd : decode cc pc = .ok (.checkcast 25, 3)) (k : W p l e R s m args below meth c H locs cells slots Q (F0 m (pc + 3) ls (.ref y :: rest))) : W p l e R s m args below meth c H locs cells slots Q (F0 m pc ls (.ref y :: rest)) := by
  have hrv := p_recv_X10 F G hy
  obtain ⟨hx, hb, hr, hml, hown, hts, hlocks, hA, hK, hN⟩ := F
  exact va_castS hx hb hown (hts _ q598) (hK.1 10 _ rfl).2 hrv hd k
theorem p_cast_X11_11 {fs : List Value} {y : Nat} (F : FC p s m meth c args D a d A RX0 cc nL ret) (G : GC D a d A s.heap S H locs) (hy : has S y (.inr (11, fs))) (hd : decode cc pc = .ok (.checkcast 28, 3)) (k : W p l e R s m args below meth c H locs cells slots Q (F0 m (pc + 3) ls (.ref y :: rest))) : W p l e R s m args below meth c H locs cells slots Q (F0 m pc ls (.ref y :: rest)) := by
  have hrv := p_recv_X11 F G hy
  obtain ⟨hx, hb, hr, hml, hown, hts, hlocks, hA, hK, hN⟩ := F
  exact va_castS hx hb hown (hts _ q607) (hK.1 11 _ rfl).2 hrv hd k
theorem p_cast_X6_6 {fs : List Value} {y : Nat} (F : FC p s m meth c args D a d A RX0 cc nL ret) (G : GC D a d A s.heap S H locs) (hy : has S y (.inr (6, fs))) (hd : decode cc pc = .ok (.checkcast 31, 3)) (k : W p l e R s m args below meth c H locs cells slots Q (F0 m (pc + 3) ls (.ref y :: rest))) : W p l e R s m args below meth c H locs cells slots Q (F0 m pc ls (.ref y :: rest)) := by
  have hrv := p_recv_X6 F G hy
  obtain ⟨hx, hb, hr, hml, hown, hts, hlocks, hA, hK, hN⟩ := F
  exact va_castS hx hb hown (hts _ q616) (hK.1 6 _ rfl).2 hrv hd k
theorem p_cast_X6_7 {fs : List Value} {y : Nat} (F : FC p s m meth c args D a d A RX0 cc nL ret) (G : GC D a d A s.heap S H locs) (hy : has S y (.inr (7, fs))) (hd : decode cc pc = .ok (.checkcast 31, 3)) (k : W p l e R s m args below meth c H locs cells slots Q (F0 m (pc + 3) ls (.ref y :: rest))) : W p l e R s m args below meth c H locs cells slots Q (F0 m pc ls (.ref y :: rest)) := by
  have hrv := p_recv_X7 F G hy
  obtain ⟨hx, hb, hr, hml, hown, hts, hlocks, hA, hK, hN⟩ := F
  exact va_castY hx hb hown (hts _ q616) (hN.1 _ (List.mem_of_getElem? (i := 47) rfl)) hrv hd k
theorem p_cast_X6_8 {fs : List Value} {y : Nat} (F : FC p s m meth c args D a d A RX0 cc nL ret) (G : GC D a d A s.heap S H locs) (hy : has S y (.inr (8, fs))) (hd : decode cc pc = .ok (.checkcast 31, 3)) (k : W p l e R s m args below meth c H locs cells slots Q (F0 m (pc + 3) ls (.ref y :: rest))) : W p l e R s m args below meth c H locs cells slots Q (F0 m pc ls (.ref y :: rest)) := by
  have hrv := p_recv_X8 F G hy
  obtain ⟨hx, hb, hr, hml, hown, hts, hlocks, hA, hK, hN⟩ := F
  exact va_castY hx hb hown (hts _ q616) (hN.1 _ (List.mem_of_getElem? (i := 49) rfl)) hrv hd k
theorem p_cast_X6_9 {fs : List Value} {y : Nat} (F : FC p s m meth c args D a d A RX0 cc nL ret) (G : GC D a d A s.heap S H locs) (hy : has S y (.inr (9, fs))) (hd : decode cc pc = .ok (.checkcast 31, 3)) (k : W p l e R s m args below meth c H locs cells slots Q (F0 m (pc + 3) ls (.ref y :: rest))) : W p l e R s m args below meth c H locs cells slots Q (F0 m pc ls (.ref y :: rest)) := by
  have hrv := p_recv_X9 F G hy
  obtain ⟨hx, hb, hr, hml, hown, hts, hlocks, hA, hK, hN⟩ := F
  exact va_castY hx hb hown (hts _ q616) (hN.1 _ (List.mem_of_getElem? (i := 52) rfl)) hrv hd k
theorem p_cast_X6_10 {fs : List Value} {y : Nat} (F : FC p s m meth c args D a d A RX0 cc nL ret) (G : GC D a d A s.heap S H locs) (hy : has S y (.inr (10, fs))) (hd : decode cc pc = .ok (.checkcast 31, 3)) (k : W p l e R s m args below meth c H locs cells slots Q (F0 m (pc + 3) ls (.ref y :: rest))) : W p l e R s m args below meth c H locs cells slots Q (F0 m pc ls (.ref y :: rest)) := by
  have hrv := p_recv_X10 F G hy
  obtain ⟨hx, hb, hr, hml, hown, hts, hlocks, hA, hK, hN⟩ := F
  exact va_castY hx hb hown (hts _ q616) (hN.1 _ (List.mem_of_getElem? (i := 41) rfl)) hrv hd k
theorem p_cast_X6_11 {fs : List Value} {y : Nat} (F : FC p s m meth c args D a d A RX0 cc nL ret) (G : GC D a d A s.heap S H locs) (hy : has S y (.inr (11, fs))) (hd : decode cc pc = .ok (.checkcast 31, 3)) (k : W p l e R s m args below meth c H locs cells slots Q (F0 m (pc + 3) ls (.ref y :: rest))) : W p l e R s m args below meth c H locs cells slots Q (F0 m pc ls (.ref y :: rest)) := by
  have hrv := p_recv_X11 F G hy
  obtain ⟨hx, hb, hr, hml, hown, hts, hlocks, hA, hK, hN⟩ := F
  exact va_castY hx hb hown (hts _ q616) (hN.1 _ (List.mem_of_getElem? (i := 43) rfl)) hrv hd k
theorem p_cast_X14_14 {fs : List Value} {y : Nat} (F : FC p s m meth c args D a d A RX0 cc nL ret) (G : GC D a d A s.heap S H locs) (hy : has S y (.inr (14, fs))) (hd : decode cc pc = .ok (.checkcast 487, 3)) (k : W p l e R s m args below meth c H locs cells slots Q (F0 m (pc + 3) ls (.ref y :: rest))) : W p l e R s m args below meth c H locs cells slots Q (F0 m pc ls (.ref y :: rest)) := by
  have hrv := p_recv_X14 F G hy
  obtain ⟨hx, hb, hr, hml, hown, hts, hlocks, hA, hK, hN⟩ := F
  exact va_castS hx hb hown (hts _ q1107) (hK.1 14 _ rfl).2 hrv hd k
end
theorem c_enterF {l : Launch} {D : va_G} {a : Nat → Nat} {d : Nat → ClassId} {y : MethodName} {cc : ByteArray} {nL mc ms : Nat} {ret : Option FieldType} {rm : Room} {As : List Value} {sz : Nat} {S : CS} {Qc : (Nat → Prop) → Array Value → State → Outcome → State → Prop} (own : String) (hy : plainFor y = true) (hyc : y.cls = own) (hsl : (lg_sl As).length ≤ nL)
    (body : ∀ (p : Program) (e : Env) (s : State) (m : MethodId) (below : List Frame) (meth : Method) (c : Code) (ls : Array Slot) (A : Nat → Prop), (meth.name = y.name) → FC p s m meth c As.toArray D a d A own cc nL ret → GC D a d A s.heap S s.heap [] → lv_has ls nL (lv_args 0 As) → W p l e rm s m As.toArray below meth c s.heap [] 0 0 (MQ below (Qc A) As.toArray s mc ms A) (F0 m 0 ls [])) :
    Met l y (ws_ y cc nL ret) rm (va_Pc As (PC D a d sz S)) (Qc (va_A (cW a d S) sz)) mc ms (va_A (cW a d S) sz) := by
  refine va_MetF (cc := cc) (maxL := nL) (ret := ret) hy rfl ?_
  intro p e s m args below meth c s₁ B hml hv
  obtain ⟨rfl, hsz, hP, hK, hD0, hN⟩ := hv
  have hts := atoms_spec (ws := ws_ y cc nL ret) B.pre
  have hts : ∀ w ∈ lw_all, w.before _ s = true := fun w h => hts w (List.mem_cons_of_mem _ h)
  have hown : s.vm.findClass y.cls = some m.cls := findClass_of_methodNamed B.named
  subst hsz
  have hD := hD0.self (sz := s.heap.size)
  generalize hAe : va_A (cW a d S) s.heap.size = A at hD hN ⊢
  have hA : ∀ q : Nat, s.heap.size ≤ q → A q := fun q h => by rw [← hAe]; exact Or.inr h
  have hl := lv_entry As (n := nL) hsl
  rw [lg_entry_eq]
  exact body p e s m below meth c _ A (name_of_methodNamed B.named B.method).1 ⟨B.exec, B.bytes, B.returns, hml, hyc ▸ hown, hts, B.notSynchronized, hA, hK, hN⟩ ⟨hP, hD, va_S.rf⟩ hl
theorem lw_SU {own : String} {idx : Nat} {y : MethodName} {b : ByteArray} {L : Nat} {r : Option FieldType} (h1 : Cond.methodLink own idx y ∈ lw_all) (h2 : Cond.sameMethod y.cls y.cls y.name y.desc ∈ lw_all) (h3 : Cond.superclass own y.cls ∈ lw_all) (h4 : Cond.instanceMethod y ∈ lw_all) (h5 : Cond.initialized y.cls ∈ lw_all) (h7 : Cond.code y b L r ∈ lw_all) : GoodIn lw_all (va_wsSU own idx y (ws_ y b L r)) := by
  refine lw_app ?_ (lw_meth h7)
  intro w hw
  simp only [List.mem_cons, List.not_mem_nil, or_false] at hw
  rcases hw with e | e | e | e | e
  · rw [e]; exact h1
  · rw [e]; exact h2
  · rw [e]; exact h3
  · rw [e]; exact h4
  · rw [e]; exact h5
theorem lw_O {own : String} {idx : Nat} {C owner : String} {x y : MethodName} {b : ByteArray} {L : Nat} {r : Option FieldType} (h1 : Cond.methodLink own idx x ∈ lw_all) (h2 : Cond.sameMethod x.cls owner x.name x.desc ∈ lw_all) (h3 : Cond.instanceMethod ⟨owner, x.name, x.desc⟩ ∈ lw_all) (h4 : Cond.selects C x y ∈ lw_all) (h5 : Cond.instanceMethod y ∈ lw_all) (h6 : Cond.initialized y.cls ∈ lw_all) (h7 : Cond.code y b L r ∈ lw_all) : GoodIn lw_all (va_wsO own idx C owner x y (ws_ y b L r)) := by
  refine lw_app ?_ (lw_meth h7)
  intro w hw
  simp only [List.mem_cons, List.not_mem_nil, or_false] at hw
  rcases hw with e | e | e | e | e | e
  · rw [e]; exact h1
  · rw [e]; exact h2
  · rw [e]; exact h3
  · rw [e]; exact h4
  · rw [e]; exact h5
  · rw [e]; exact h6
