set_option maxRecDepth 100000
section
variable {p : Program} {l : Launch} {e : Env} {R : Room} {s : State} {m : MethodId} {args : Array Value} {below : List Frame} {meth : Method} {c : Code} {H : Heap} {locs : List Loc} {cells slots : Nat} {Q : State → Prop} {D : va_G} {a : Nat → Nat} {d : Nat → ClassId} {A : Nat → Prop} {S : CS} {own : String} {cc : ByteArray} {nL : Nat} {ret : Option FieldType} {pc : Nat} {ls : Array Slot} {rest : List Value}
theorem pgX0_X2_place {fs : List Value} {v : Value} {y : Nat} (F : FC p s m meth c args D a d A RX0 cc nL ret) (G : GC D a d A s.heap S H locs) (hy : has S y (.inr (2, fs))) (hv : fs[6]? = some v) (hd : decode cc pc = .ok (.getfield 137, 3)) (k : W p l e R s m args below meth c H locs cells slots Q (F0 m (pc + 3) ls (v :: rest))) : W p l e R s m args below meth c H locs cells slots Q (F0 m pc ls (.ref y :: rest)) := by
  obtain ⟨hx, hb, hr, hml, hown, hts, hlocks, hA, hK, hN⟩ := F
  obtain ⟨q, hq⟩ := has_pos (a := a) (d := d) hy
  exact va_getN (D := D) (ci := 2) (C := RX2) (T := TX2) (N := 7) hx hb hts in_X2 hown hK G.1 q hq rfl 6 (by decide) (va_Nw.use rfl (hN.1 _ (List.mem_of_getElem? (i := 14) rfl))) (fun _ h9 => h9) hv hd k
theorem ppX0_X2_place {fs : List Value} {v : Value} {y : Nat} (F : FC p s m meth c args D a d A RX0 cc nL ret) (G : GC D a d A s.heap S H locs) (hy : has S y (.inr (2, fs))) (hn : narrow (.int) v = v) (hf : fits (.int) v = true) (hl : 6 < fs.length) (hd : decode cc pc = .ok (.putfield 137, 3)) (k : ∀ (H : Heap) (locs : List Loc), GC D a d A s.heap (cP S y (.inr (2, fs.set 6 v))) H locs → W p l e R s m args below meth c H locs cells slots Q (F0 m (pc + 3) ls rest)) : W p l e R s m args below meth c H locs cells slots Q (F0 m pc ls (v :: .ref y :: rest)) := by
  obtain ⟨hx, hb, hr, hml, hown, hts, hlocks, hA, hK, hN⟩ := F
  obtain ⟨hP, hD, hS⟩ := G
  obtain ⟨q, hq⟩ := has_pos (a := a) (d := d) hy
  · refine va_putN (D := D) (ci := 2) (v := v) (ty := .int) (C := RX2) (T := TX2) (N := 7) hx hb hts in_X2 tyX2 tyX2_ok nmX2 hown hK hP hD hS q hq rfl 6 (by decide) (va_Nw.use rfl (hN.1 _ (List.mem_of_getElem? (i := 14) rfl))) (fun _ h9 => h9) rfl (by decide +kernel) hn hf hl hd (fun H1 locs1 hP hD2 hS => k H1 locs1 ?_)
    have hs := has_set (e1 := .inr (2, fs.set 6 v)) hD hy hq
    have hP : va_P D clA ((cW a d S).set q (y, pm d (.inr (2, fs.set 6 v)))) H1 := hP
    have hD2 : va_D A ((cW a d S).set q (y, pm d (.inr (2, fs.set 6 v)))) := hD2
    rw [hs] at hP hD2
    exact ⟨hP, hD2, hS⟩
theorem pgX0_X3_row {fs : List Value} {v : Value} {y : Nat} (F : FC p s m meth c args D a d A RX0 cc nL ret) (G : GC D a d A s.heap S H locs) (hy : has S y (.inr (3, fs))) (hv : fs[0]? = some v) (hd : decode cc pc = .ok (.getfield 416, 3)) (k : W p l e R s m args below meth c H locs cells slots Q (F0 m (pc + 3) ls (v :: rest))) : W p l e R s m args below meth c H locs cells slots Q (F0 m pc ls (.ref y :: rest)) := by
  obtain ⟨hx, hb, hr, hml, hown, hts, hlocks, hA, hK, hN⟩ := F
  obtain ⟨q, hq⟩ := has_pos (a := a) (d := d) hy
  exact va_getN (D := D) (ci := 3) (C := RX3) (T := TX3) (N := 1) hx hb hts in_X3 hown hK G.1 q hq rfl 0 (by decide) (va_Nw.use rfl (hN.1 _ (List.mem_of_getElem? (i := 16) rfl))) (fun _ h9 => h9) hv hd k
theorem ppX0_X3_row {fs : List Value} {v : Value} {y : Nat} (F : FC p s m meth c args D a d A RX0 cc nL ret) (G : GC D a d A s.heap S H locs) (hy : has S y (.inr (3, fs))) (hn : narrow (.object "java/lang/Object") v = v) (hf : fits (.object "java/lang/Object") v = true) (hl : 0 < fs.length) (hd : decode cc pc = .ok (.putfield 416, 3)) (k : ∀ (H : Heap) (locs : List Loc), GC D a d A s.heap (cP S y (.inr (3, fs.set 0 v))) H locs → W p l e R s m args below meth c H locs cells slots Q (F0 m (pc + 3) ls rest)) : W p l e R s m args below meth c H locs cells slots Q (F0 m pc ls (v :: .ref y :: rest)) := by
  obtain ⟨hx, hb, hr, hml, hown, hts, hlocks, hA, hK, hN⟩ := F
  obtain ⟨hP, hD, hS⟩ := G
  obtain ⟨q, hq⟩ := has_pos (a := a) (d := d) hy
  · refine va_putN (D := D) (ci := 3) (v := v) (ty := .object "java/lang/Object") (C := RX3) (T := TX3) (N := 1) hx hb hts in_X3 tyX3 tyX3_ok nmX3 hown hK hP hD hS q hq rfl 0 (by decide) (va_Nw.use rfl (hN.1 _ (List.mem_of_getElem? (i := 16) rfl))) (fun _ h9 => h9) rfl (by decide +kernel) hn hf hl hd (fun H1 locs1 hP hD2 hS => k H1 locs1 ?_)
    have hs := has_set (e1 := .inr (3, fs.set 0 v)) hD hy hq
    have hP : va_P D clA ((cW a d S).set q (y, pm d (.inr (3, fs.set 0 v)))) H1 := hP
    have hD2 : va_D A ((cW a d S).set q (y, pm d (.inr (3, fs.set 0 v)))) := hD2
    rw [hs] at hP hD2
    exact ⟨hP, hD2, hS⟩
theorem pgX0_X4_held {fs : List Value} {v : Value} {y : Nat} (F : FC p s m meth c args D a d A RX0 cc nL ret) (G : GC D a d A s.heap S H locs) (hy : has S y (.inr (4, fs))) (hv : fs[0]? = some v) (hd : decode cc pc = .ok (.getfield 491, 3)) (k : W p l e R s m args below meth c H locs cells slots Q (F0 m (pc + 3) ls (v :: rest))) : W p l e R s m args below meth c H locs cells slots Q (F0 m pc ls (.ref y :: rest)) := by
  obtain ⟨hx, hb, hr, hml, hown, hts, hlocks, hA, hK, hN⟩ := F
  obtain ⟨q, hq⟩ := has_pos (a := a) (d := d) hy
  exact va_getN (D := D) (ci := 4) (C := RX4) (T := TX4) (N := 1) hx hb hts in_X4 hown hK G.1 q hq rfl 0 (by decide) (va_Nw.use rfl (hN.1 _ (List.mem_of_getElem? (i := 18) rfl))) (fun _ h9 => h9) hv hd k
theorem ppX0_X4_held {fs : List Value} {v : Value} {y : Nat} (F : FC p s m meth c args D a d A RX0 cc nL ret) (G : GC D a d A s.heap S H locs) (hy : has S y (.inr (4, fs))) (hn : narrow (.object "java/lang/Object") v = v) (hf : fits (.object "java/lang/Object") v = true) (hl : 0 < fs.length) (hd : decode cc pc = .ok (.putfield 491, 3)) (k : ∀ (H : Heap) (locs : List Loc), GC D a d A s.heap (cP S y (.inr (4, fs.set 0 v))) H locs → W p l e R s m args below meth c H locs cells slots Q (F0 m (pc + 3) ls rest)) : W p l e R s m args below meth c H locs cells slots Q (F0 m pc ls (v :: .ref y :: rest)) := by
  obtain ⟨hx, hb, hr, hml, hown, hts, hlocks, hA, hK, hN⟩ := F
  obtain ⟨hP, hD, hS⟩ := G
  obtain ⟨q, hq⟩ := has_pos (a := a) (d := d) hy
  · refine va_putN (D := D) (ci := 4) (v := v) (ty := .object "java/lang/Object") (C := RX4) (T := TX4) (N := 1) hx hb hts in_X4 tyX4 tyX4_ok nmX4 hown hK hP hD hS q hq rfl 0 (by decide) (va_Nw.use rfl (hN.1 _ (List.mem_of_getElem? (i := 18) rfl))) (fun _ h9 => h9) rfl (by decide +kernel) hn hf hl hd (fun H1 locs1 hP hD2 hS => k H1 locs1 ?_)
    have hs := has_set (e1 := .inr (4, fs.set 0 v)) hD hy hq
    have hP : va_P D clA ((cW a d S).set q (y, pm d (.inr (4, fs.set 0 v)))) H1 := hP
    have hD2 : va_D A ((cW a d S).set q (y, pm d (.inr (4, fs.set 0 v)))) := hD2
    rw [hs] at hP hD2
    exact ⟨hP, hD2, hS⟩
theorem pgX0_X12_word {fs : List Value} {v : Value} {y : Nat} (F : FC p s m meth c args D a d A RX0 cc nL ret) (G : GC D a d A s.heap S H locs) (hy : has S y (.inr (12, fs))) (hv : fs[0]? = some v) (hd : decode cc pc = .ok (.getfield 115, 3)) (k : W p l e R s m args below meth c H locs cells slots Q (F0 m (pc + 3) ls (v :: rest))) : W p l e R s m args below meth c H locs cells slots Q (F0 m pc ls (.ref y :: rest)) := by
  obtain ⟨hx, hb, hr, hml, hown, hts, hlocks, hA, hK, hN⟩ := F
  obtain ⟨q, hq⟩ := has_pos (a := a) (d := d) hy
  exact va_getN (D := D) (ci := 12) (C := RX12) (T := TX12) (N := 3) hx hb hts in_X12 hown hK G.1 q hq rfl 0 (by decide) (va_Nw.use rfl (hN.1 _ (List.mem_of_getElem? (i := 20) rfl))) (fun _ h9 => h9) hv hd k
theorem pgX0_X12_value {fs : List Value} {v : Value} {y : Nat} (F : FC p s m meth c args D a d A RX0 cc nL ret) (G : GC D a d A s.heap S H locs) (hy : has S y (.inr (12, fs))) (hv : fs[1]? = some v) (hd : decode cc pc = .ok (.getfield 118, 3)) (k : W p l e R s m args below meth c H locs cells slots Q (F0 m (pc + 3) ls (v :: rest))) : W p l e R s m args below meth c H locs cells slots Q (F0 m pc ls (.ref y :: rest)) := by
  obtain ⟨hx, hb, hr, hml, hown, hts, hlocks, hA, hK, hN⟩ := F
  obtain ⟨q, hq⟩ := has_pos (a := a) (d := d) hy
  exact va_getN (D := D) (ci := 12) (C := RX12) (T := TX12) (N := 3) hx hb hts in_X12 hown hK G.1 q hq rfl 1 (by decide) (va_Nw.use rfl (hN.1 _ (List.mem_of_getElem? (i := 21) rfl))) (fun _ h9 => h9) hv hd k
theorem pgX0_X12_many {fs : List Value} {v : Value} {y : Nat} (F : FC p s m meth c args D a d A RX0 cc nL ret) (G : GC D a d A s.heap S H locs) (hy : has S y (.inr (12, fs))) (hv : fs[2]? = some v) (hd : decode cc pc = .ok (.getfield 112, 3)) (k : W p l e R s m args below meth c H locs cells slots Q (F0 m (pc + 3) ls (v :: rest))) : W p l e R s m args below meth c H locs cells slots Q (F0 m pc ls (.ref y :: rest)) := by
  obtain ⟨hx, hb, hr, hml, hown, hts, hlocks, hA, hK, hN⟩ := F
  obtain ⟨q, hq⟩ := has_pos (a := a) (d := d) hy
  exact va_getN (D := D) (ci := 12) (C := RX12) (T := TX12) (N := 3) hx hb hts in_X12 hown hK G.1 q hq rfl 2 (by decide) (va_Nw.use rfl (hN.1 _ (List.mem_of_getElem? (i := 22) rfl))) (fun _ h9 => h9) hv hd k
theorem ppX0_X12_many {fs : List Value} {v : Value} {y : Nat} (F : FC p s m meth c args D a d A RX0 cc nL ret) (G : GC D a d A s.heap S H locs) (hy : has S y (.inr (12, fs))) (hn : narrow (.int) v = v) (hf : fits (.int) v = true) (hl : 2 < fs.length) (hd : decode cc pc = .ok (.putfield 112, 3)) (k : ∀ (H : Heap) (locs : List Loc), GC D a d A s.heap (cP S y (.inr (12, fs.set 2 v))) H locs → W p l e R s m args below meth c H locs cells slots Q (F0 m (pc + 3) ls rest)) : W p l e R s m args below meth c H locs cells slots Q (F0 m pc ls (v :: .ref y :: rest)) := by
  obtain ⟨hx, hb, hr, hml, hown, hts, hlocks, hA, hK, hN⟩ := F
  obtain ⟨hP, hD, hS⟩ := G
  obtain ⟨q, hq⟩ := has_pos (a := a) (d := d) hy
  · refine va_putN (D := D) (ci := 12) (v := v) (ty := .int) (C := RX12) (T := TX12) (N := 3) hx hb hts in_X12 tyX12 tyX12_ok nmX12 hown hK hP hD hS q hq rfl 2 (by decide) (va_Nw.use rfl (hN.1 _ (List.mem_of_getElem? (i := 22) rfl))) (fun _ h9 => h9) rfl (by decide +kernel) hn hf hl hd (fun H1 locs1 hP hD2 hS => k H1 locs1 ?_)
    have hs := has_set (e1 := .inr (12, fs.set 2 v)) hD hy hq
    have hP : va_P D clA ((cW a d S).set q (y, pm d (.inr (12, fs.set 2 v)))) H1 := hP
    have hD2 : va_D A ((cW a d S).set q (y, pm d (.inr (12, fs.set 2 v)))) := hD2
    rw [hs] at hP hD2
    exact ⟨hP, hD2, hS⟩
theorem pgX0_X13_key {fs : List Value} {v : Value} {y : Nat} (F : FC p s m meth c args D a d A RX0 cc nL ret) (G : GC D a d A s.heap S H locs) (hy : has S y (.inr (13, fs))) (hv : fs[0]? = some v) (hd : decode cc pc = .ok (.getfield 247, 3)) (k : W p l e R s m args below meth c H locs cells slots Q (F0 m (pc + 3) ls (v :: rest))) : W p l e R s m args below meth c H locs cells slots Q (F0 m pc ls (.ref y :: rest)) := by
  obtain ⟨hx, hb, hr, hml, hown, hts, hlocks, hA, hK, hN⟩ := F
  obtain ⟨q, hq⟩ := has_pos (a := a) (d := d) hy
  exact va_getN (D := D) (ci := 13) (C := RX13) (T := TX13) (N := 3) hx hb hts in_X13 hown hK G.1 q hq rfl 0 (by decide) (va_Nw.use rfl (hN.1 _ (List.mem_of_getElem? (i := 23) rfl))) (fun _ h9 => h9) hv hd k
theorem pgX0_X13_words {fs : List Value} {v : Value} {y : Nat} (F : FC p s m meth c args D a d A RX0 cc nL ret) (G : GC D a d A s.heap S H locs) (hy : has S y (.inr (13, fs))) (hv : fs[1]? = some v) (hd : decode cc pc = .ok (.getfield 278, 3)) (k : W p l e R s m args below meth c H locs cells slots Q (F0 m (pc + 3) ls (v :: rest))) : W p l e R s m args below meth c H locs cells slots Q (F0 m pc ls (.ref y :: rest)) := by
  obtain ⟨hx, hb, hr, hml, hown, hts, hlocks, hA, hK, hN⟩ := F
  obtain ⟨q, hq⟩ := has_pos (a := a) (d := d) hy
  exact va_getN (D := D) (ci := 13) (C := RX13) (T := TX13) (N := 3) hx hb hts in_X13 hown hK G.1 q hq rfl 1 (by decide) (va_Nw.use rfl (hN.1 _ (List.mem_of_getElem? (i := 24) rfl))) (fun _ h9 => h9) hv hd k
theorem pgX0_X13_many {fs : List Value} {v : Value} {y : Nat} (F : FC p s m meth c args D a d A RX0 cc nL ret) (G : GC D a d A s.heap S H locs) (hy : has S y (.inr (13, fs))) (hv : fs[2]? = some v) (hd : decode cc pc = .ok (.getfield 249, 3)) (k : W p l e R s m args below meth c H locs cells slots Q (F0 m (pc + 3) ls (v :: rest))) : W p l e R s m args below meth c H locs cells slots Q (F0 m pc ls (.ref y :: rest)) := by
  obtain ⟨hx, hb, hr, hml, hown, hts, hlocks, hA, hK, hN⟩ := F
  obtain ⟨q, hq⟩ := has_pos (a := a) (d := d) hy
  exact va_getN (D := D) (ci := 13) (C := RX13) (T := TX13) (N := 3) hx hb hts in_X13 hown hK G.1 q hq rfl 2 (by decide) (va_Nw.use rfl (hN.1 _ (List.mem_of_getElem? (i := 25) rfl))) (fun _ h9 => h9) hv hd k
theorem pgX0_X6_off {κ : Nat} {fs : List Value} {v : Value} {y : Nat} (F : FC p s m meth c args D a d A RX0 cc nL ret) (G : GC D a d A s.heap S H locs) (hκ : κ < 6) (hy : has S y (.inr (6 + κ, fs))) (hv : fs[0]? = some v) (hd : decode cc pc = .ok (.getfield 261, 3)) (k : W p l e R s m args below meth c H locs cells slots Q (F0 m (pc + 3) ls (v :: rest))) : W p l e R s m args below meth c H locs cells slots Q (F0 m pc ls (.ref y :: rest)) := by
  obtain ⟨hx, hb, hr, hml, hown, hts, hlocks, hA, hK, hN⟩ := F
  obtain ⟨q, hq⟩ := has_pos (a := a) (d := d) hy
  obtain rfl | rfl | rfl | rfl | rfl | rfl : κ = 0 ∨ κ = 1 ∨ κ = 2 ∨ κ = 3 ∨ κ = 4 ∨ κ = 5 := by omega
  · exact va_get (D := D) (ci := 6) (C := RX6) (T := TX6) (N := 2) hx hb hts in_X6 hown hK G.1 q hq rfl 0 (by decide) (hts _ q572) (fun _ h9 => h9) hv hd k
  · exact va_get (D := D) (ci := 7) (C := RX7) (T := TX7) (N := 2) hx hb hts in_X7 hown hK G.1 q hq rfl 0 (by decide) (hts _ q572) (fun _ h9 => h9) hv hd k
  · exact va_get (D := D) (ci := 8) (C := RX8) (T := TX8) (N := 2) hx hb hts in_X8 hown hK G.1 q hq rfl 0 (by decide) (hts _ q572) (fun _ h9 => h9) hv hd k
  · exact va_get (D := D) (ci := 9) (C := RX9) (T := TX9) (N := 2) hx hb hts in_X9 hown hK G.1 q hq rfl 0 (by decide) (hts _ q572) (fun _ h9 => h9) hv hd k
  · exact va_get (D := D) (ci := 10) (C := RX10) (T := TX10) (N := 2) hx hb hts in_X10 hown hK G.1 q hq rfl 0 (by decide) (hts _ q572) (fun _ h9 => h9) hv hd k
  · exact va_get (D := D) (ci := 11) (C := RX11) (T := TX11) (N := 2) hx hb hts in_X11 hown hK G.1 q hq rfl 0 (by decide) (hts _ q572) (fun _ h9 => h9) hv hd k
theorem ppX0_X6_off {κ : Nat} {fs : List Value} {v : Value} {y : Nat} (F : FC p s m meth c args D a d A RX0 cc nL ret) (G : GC D a d A s.heap S H locs) (hκ : κ < 6) (hy : has S y (.inr (6 + κ, fs))) (hn : narrow (.int) v = v) (hf : fits (.int) v = true) (hl : 0 < fs.length) (hd : decode cc pc = .ok (.putfield 261, 3)) (k : ∀ (H : Heap) (locs : List Loc), GC D a d A s.heap (cP S y (.inr (6 + κ, fs.set 0 v))) H locs → W p l e R s m args below meth c H locs cells slots Q (F0 m (pc + 3) ls rest)) : W p l e R s m args below meth c H locs cells slots Q (F0 m pc ls (v :: .ref y :: rest)) := by
  obtain ⟨hx, hb, hr, hml, hown, hts, hlocks, hA, hK, hN⟩ := F
  obtain ⟨hP, hD, hS⟩ := G
  obtain ⟨q, hq⟩ := has_pos (a := a) (d := d) hy
  obtain rfl | rfl | rfl | rfl | rfl | rfl : κ = 0 ∨ κ = 1 ∨ κ = 2 ∨ κ = 3 ∨ κ = 4 ∨ κ = 5 := by omega
  · refine va_put (D := D) (ci := 6) (v := v) (ty := .int) (C := RX6) (T := TX6) (N := 2) hx hb hts in_X6 tyX6 tyX6_ok nmX6 hown hK hP hD hS q hq rfl 0 (by decide) (hts _ q572) (fun _ h9 => h9) rfl (by decide +kernel) hn hf hl hd (fun H1 locs1 hP hD2 hS => k H1 locs1 ?_)
    have hs := has_set (e1 := .inr (6, fs.set 0 v)) hD hy hq
    have hP : va_P D clA ((cW a d S).set q (y, pm d (.inr (6, fs.set 0 v)))) H1 := hP
    have hD2 : va_D A ((cW a d S).set q (y, pm d (.inr (6, fs.set 0 v)))) := hD2
    rw [hs] at hP hD2
    exact ⟨hP, hD2, hS⟩
  · refine va_put (D := D) (ci := 7) (v := v) (ty := .int) (C := RX7) (T := TX7) (N := 2) hx hb hts in_X7 tyX7 tyX7_ok nmX7 hown hK hP hD hS q hq rfl 0 (by decide) (hts _ q572) (fun _ h9 => h9) rfl (by decide +kernel) hn hf hl hd (fun H1 locs1 hP hD2 hS => k H1 locs1 ?_)
    have hs := has_set (e1 := .inr (7, fs.set 0 v)) hD hy hq
    have hP : va_P D clA ((cW a d S).set q (y, pm d (.inr (7, fs.set 0 v)))) H1 := hP
    have hD2 : va_D A ((cW a d S).set q (y, pm d (.inr (7, fs.set 0 v)))) := hD2
    rw [hs] at hP hD2
    exact ⟨hP, hD2, hS⟩
  · refine va_put (D := D) (ci := 8) (v := v) (ty := .int) (C := RX8) (T := TX8) (N := 2) hx hb hts in_X8 tyX8 tyX8_ok nmX8 hown hK hP hD hS q hq rfl 0 (by decide) (hts _ q572) (fun _ h9 => h9) rfl (by decide +kernel) hn hf hl hd (fun H1 locs1 hP hD2 hS => k H1 locs1 ?_)
    have hs := has_set (e1 := .inr (8, fs.set 0 v)) hD hy hq
    have hP : va_P D clA ((cW a d S).set q (y, pm d (.inr (8, fs.set 0 v)))) H1 := hP
    have hD2 : va_D A ((cW a d S).set q (y, pm d (.inr (8, fs.set 0 v)))) := hD2
    rw [hs] at hP hD2
    exact ⟨hP, hD2, hS⟩
  · refine va_put (D := D) (ci := 9) (v := v) (ty := .int) (C := RX9) (T := TX9) (N := 2) hx hb hts in_X9 tyX9 tyX9_ok nmX9 hown hK hP hD hS q hq rfl 0 (by decide) (hts _ q572) (fun _ h9 => h9) rfl (by decide +kernel) hn hf hl hd (fun H1 locs1 hP hD2 hS => k H1 locs1 ?_)
    have hs := has_set (e1 := .inr (9, fs.set 0 v)) hD hy hq
    have hP : va_P D clA ((cW a d S).set q (y, pm d (.inr (9, fs.set 0 v)))) H1 := hP
    have hD2 : va_D A ((cW a d S).set q (y, pm d (.inr (9, fs.set 0 v)))) := hD2
    rw [hs] at hP hD2
    exact ⟨hP, hD2, hS⟩
  · refine va_put (D := D) (ci := 10) (v := v) (ty := .int) (C := RX10) (T := TX10) (N := 2) hx hb hts in_X10 tyX10 tyX10_ok nmX10 hown hK hP hD hS q hq rfl 0 (by decide) (hts _ q572) (fun _ h9 => h9) rfl (by decide +kernel) hn hf hl hd (fun H1 locs1 hP hD2 hS => k H1 locs1 ?_)
    have hs := has_set (e1 := .inr (10, fs.set 0 v)) hD hy hq
    have hP : va_P D clA ((cW a d S).set q (y, pm d (.inr (10, fs.set 0 v)))) H1 := hP
    have hD2 : va_D A ((cW a d S).set q (y, pm d (.inr (10, fs.set 0 v)))) := hD2
    rw [hs] at hP hD2
    exact ⟨hP, hD2, hS⟩
  · refine va_put (D := D) (ci := 11) (v := v) (ty := .int) (C := RX11) (T := TX11) (N := 2) hx hb hts in_X11 tyX11 tyX11_ok nmX11 hown hK hP hD hS q hq rfl 0 (by decide) (hts _ q572) (fun _ h9 => h9) rfl (by decide +kernel) hn hf hl hd (fun H1 locs1 hP hD2 hS => k H1 locs1 ?_)
    have hs := has_set (e1 := .inr (11, fs.set 0 v)) hD hy hq
    have hP : va_P D clA ((cW a d S).set q (y, pm d (.inr (11, fs.set 0 v)))) H1 := hP
    have hD2 : va_D A ((cW a d S).set q (y, pm d (.inr (11, fs.set 0 v)))) := hD2
    rw [hs] at hP hD2
    exact ⟨hP, hD2, hS⟩
theorem pgX0_X6_tone {κ : Nat} {fs : List Value} {v : Value} {y : Nat} (F : FC p s m meth c args D a d A RX0 cc nL ret) (G : GC D a d A s.heap S H locs) (hκ : κ < 6) (hy : has S y (.inr (6 + κ, fs))) (hv : fs[1]? = some v) (hd : decode cc pc = .ok (.getfield 264, 3)) (k : W p l e R s m args below meth c H locs cells slots Q (F0 m (pc + 3) ls (v :: rest))) : W p l e R s m args below meth c H locs cells slots Q (F0 m pc ls (.ref y :: rest)) := by
  obtain ⟨hx, hb, hr, hml, hown, hts, hlocks, hA, hK, hN⟩ := F
  obtain ⟨q, hq⟩ := has_pos (a := a) (d := d) hy
  obtain rfl | rfl | rfl | rfl | rfl | rfl : κ = 0 ∨ κ = 1 ∨ κ = 2 ∨ κ = 3 ∨ κ = 4 ∨ κ = 5 := by omega
  · exact va_get (D := D) (ci := 6) (C := RX6) (T := TX6) (N := 2) hx hb hts in_X6 hown hK G.1 q hq rfl 1 (by decide) (hts _ q574) (fun _ h9 => h9) hv hd k
  · exact va_get (D := D) (ci := 7) (C := RX7) (T := TX7) (N := 2) hx hb hts in_X7 hown hK G.1 q hq rfl 1 (by decide) (hts _ q574) (fun _ h9 => h9) hv hd k
  · exact va_get (D := D) (ci := 8) (C := RX8) (T := TX8) (N := 2) hx hb hts in_X8 hown hK G.1 q hq rfl 1 (by decide) (hts _ q574) (fun _ h9 => h9) hv hd k
  · exact va_get (D := D) (ci := 9) (C := RX9) (T := TX9) (N := 2) hx hb hts in_X9 hown hK G.1 q hq rfl 1 (by decide) (hts _ q574) (fun _ h9 => h9) hv hd k
  · exact va_get (D := D) (ci := 10) (C := RX10) (T := TX10) (N := 2) hx hb hts in_X10 hown hK G.1 q hq rfl 1 (by decide) (hts _ q574) (fun _ h9 => h9) hv hd k
  · exact va_get (D := D) (ci := 11) (C := RX11) (T := TX11) (N := 2) hx hb hts in_X11 hown hK G.1 q hq rfl 1 (by decide) (hts _ q574) (fun _ h9 => h9) hv hd k
theorem ppX0_X6_tone {κ : Nat} {fs : List Value} {v : Value} {y : Nat} (F : FC p s m meth c args D a d A RX0 cc nL ret) (G : GC D a d A s.heap S H locs) (hκ : κ < 6) (hy : has S y (.inr (6 + κ, fs))) (hn : narrow (.int) v = v) (hf : fits (.int) v = true) (hl : 1 < fs.length) (hd : decode cc pc = .ok (.putfield 264, 3)) (k : ∀ (H : Heap) (locs : List Loc), GC D a d A s.heap (cP S y (.inr (6 + κ, fs.set 1 v))) H locs → W p l e R s m args below meth c H locs cells slots Q (F0 m (pc + 3) ls rest)) : W p l e R s m args below meth c H locs cells slots Q (F0 m pc ls (v :: .ref y :: rest)) := by
  obtain ⟨hx, hb, hr, hml, hown, hts, hlocks, hA, hK, hN⟩ := F
  obtain ⟨hP, hD, hS⟩ := G
  obtain ⟨q, hq⟩ := has_pos (a := a) (d := d) hy
  obtain rfl | rfl | rfl | rfl | rfl | rfl : κ = 0 ∨ κ = 1 ∨ κ = 2 ∨ κ = 3 ∨ κ = 4 ∨ κ = 5 := by omega
  · refine va_put (D := D) (ci := 6) (v := v) (ty := .int) (C := RX6) (T := TX6) (N := 2) hx hb hts in_X6 tyX6 tyX6_ok nmX6 hown hK hP hD hS q hq rfl 1 (by decide) (hts _ q574) (fun _ h9 => h9) rfl (by decide +kernel) hn hf hl hd (fun H1 locs1 hP hD2 hS => k H1 locs1 ?_)
    have hs := has_set (e1 := .inr (6, fs.set 1 v)) hD hy hq
    have hP : va_P D clA ((cW a d S).set q (y, pm d (.inr (6, fs.set 1 v)))) H1 := hP
    have hD2 : va_D A ((cW a d S).set q (y, pm d (.inr (6, fs.set 1 v)))) := hD2
    rw [hs] at hP hD2
    exact ⟨hP, hD2, hS⟩
  · refine va_put (D := D) (ci := 7) (v := v) (ty := .int) (C := RX7) (T := TX7) (N := 2) hx hb hts in_X7 tyX7 tyX7_ok nmX7 hown hK hP hD hS q hq rfl 1 (by decide) (hts _ q574) (fun _ h9 => h9) rfl (by decide +kernel) hn hf hl hd (fun H1 locs1 hP hD2 hS => k H1 locs1 ?_)
    have hs := has_set (e1 := .inr (7, fs.set 1 v)) hD hy hq
    have hP : va_P D clA ((cW a d S).set q (y, pm d (.inr (7, fs.set 1 v)))) H1 := hP
    have hD2 : va_D A ((cW a d S).set q (y, pm d (.inr (7, fs.set 1 v)))) := hD2
    rw [hs] at hP hD2
    exact ⟨hP, hD2, hS⟩
  · refine va_put (D := D) (ci := 8) (v := v) (ty := .int) (C := RX8) (T := TX8) (N := 2) hx hb hts in_X8 tyX8 tyX8_ok nmX8 hown hK hP hD hS q hq rfl 1 (by decide) (hts _ q574) (fun _ h9 => h9) rfl (by decide +kernel) hn hf hl hd (fun H1 locs1 hP hD2 hS => k H1 locs1 ?_)
    have hs := has_set (e1 := .inr (8, fs.set 1 v)) hD hy hq
    have hP : va_P D clA ((cW a d S).set q (y, pm d (.inr (8, fs.set 1 v)))) H1 := hP
    have hD2 : va_D A ((cW a d S).set q (y, pm d (.inr (8, fs.set 1 v)))) := hD2
    rw [hs] at hP hD2
    exact ⟨hP, hD2, hS⟩
  · refine va_put (D := D) (ci := 9) (v := v) (ty := .int) (C := RX9) (T := TX9) (N := 2) hx hb hts in_X9 tyX9 tyX9_ok nmX9 hown hK hP hD hS q hq rfl 1 (by decide) (hts _ q574) (fun _ h9 => h9) rfl (by decide +kernel) hn hf hl hd (fun H1 locs1 hP hD2 hS => k H1 locs1 ?_)
    have hs := has_set (e1 := .inr (9, fs.set 1 v)) hD hy hq
    have hP : va_P D clA ((cW a d S).set q (y, pm d (.inr (9, fs.set 1 v)))) H1 := hP
    have hD2 : va_D A ((cW a d S).set q (y, pm d (.inr (9, fs.set 1 v)))) := hD2
    rw [hs] at hP hD2
    exact ⟨hP, hD2, hS⟩
  · refine va_put (D := D) (ci := 10) (v := v) (ty := .int) (C := RX10) (T := TX10) (N := 2) hx hb hts in_X10 tyX10 tyX10_ok nmX10 hown hK hP hD hS q hq rfl 1 (by decide) (hts _ q574) (fun _ h9 => h9) rfl (by decide +kernel) hn hf hl hd (fun H1 locs1 hP hD2 hS => k H1 locs1 ?_)
    have hs := has_set (e1 := .inr (10, fs.set 1 v)) hD hy hq
    have hP : va_P D clA ((cW a d S).set q (y, pm d (.inr (10, fs.set 1 v)))) H1 := hP
    have hD2 : va_D A ((cW a d S).set q (y, pm d (.inr (10, fs.set 1 v)))) := hD2
    rw [hs] at hP hD2
    exact ⟨hP, hD2, hS⟩
  · refine va_put (D := D) (ci := 11) (v := v) (ty := .int) (C := RX11) (T := TX11) (N := 2) hx hb hts in_X11 tyX11 tyX11_ok nmX11 hown hK hP hD hS q hq rfl 1 (by decide) (hts _ q574) (fun _ h9 => h9) rfl (by decide +kernel) hn hf hl hd (fun H1 locs1 hP hD2 hS => k H1 locs1 ?_)
    have hs := has_set (e1 := .inr (11, fs.set 1 v)) hD hy hq
    have hP : va_P D clA ((cW a d S).set q (y, pm d (.inr (11, fs.set 1 v)))) H1 := hP
    have hD2 : va_D A ((cW a d S).set q (y, pm d (.inr (11, fs.set 1 v)))) := hD2
    rw [hs] at hP hD2
    exact ⟨hP, hD2, hS⟩
theorem pgX0_X14_v {fs : List Value} {v : Value} {y : Nat} (F : FC p s m meth c args D a d A RX0 cc nL ret) (G : GC D a d A s.heap S H locs) (hy : has S y (.inr (14, fs))) (hv : fs[0]? = some v) (hd : decode cc pc = .ok (.getfield 497, 3)) (k : W p l e R s m args below meth c H locs cells slots Q (F0 m (pc + 3) ls (v :: rest))) : W p l e R s m args below meth c H locs cells slots Q (F0 m pc ls (.ref y :: rest)) := by
  obtain ⟨hx, hb, hr, hml, hown, hts, hlocks, hA, hK, hN⟩ := F
  obtain ⟨q, hq⟩ := has_pos (a := a) (d := d) hy
  exact va_getN (D := D) (ci := 14) (C := RX14) (T := TX14) (N := 1) hx hb hts in_X14 hown hK G.1 q hq rfl 0 (by decide) (va_Nw.use rfl (hN.1 _ (List.mem_of_getElem? (i := 32) rfl))) (fun _ h9 => h9) hv hd k
theorem pgX12_X12_word {fs : List Value} {v : Value} {y : Nat} (F : FC p s m meth c args D a d A RX12 cc nL ret) (G : GC D a d A s.heap S H locs) (hy : has S y (.inr (12, fs))) (hv : fs[0]? = some v) (hd : decode cc pc = .ok (.getfield 9, 3)) (k : W p l e R s m args below meth c H locs cells slots Q (F0 m (pc + 3) ls (v :: rest))) : W p l e R s m args below meth c H locs cells slots Q (F0 m pc ls (.ref y :: rest)) := by
  obtain ⟨hx, hb, hr, hml, hown, hts, hlocks, hA, hK, hN⟩ := F
  obtain ⟨q, hq⟩ := has_pos (a := a) (d := d) hy
  exact va_get (D := D) (ci := 12) (C := RX12) (T := TX12) (N := 3) hx hb hts in_X12 hown hK G.1 q hq rfl 0 (by decide) (hts _ q460) (fun _ h9 => h9) hv hd k
theorem ppX12_X12_word {fs : List Value} {v : Value} {y : Nat} (F : FC p s m meth c args D a d A RX12 cc nL ret) (G : GC D a d A s.heap S H locs) (hy : has S y (.inr (12, fs))) (hmn : meth.name = "<init>") (hn : narrow (.array .int) v = v) (hf : fits (.array .int) v = true) (hl : 0 < fs.length) (hd : decode cc pc = .ok (.putfield 9, 3)) (k : ∀ (H : Heap) (locs : List Loc), GC D a d A s.heap (cP S y (.inr (12, fs.set 0 v))) H locs → W p l e R s m args below meth c H locs cells slots Q (F0 m (pc + 3) ls rest)) : W p l e R s m args below meth c H locs cells slots Q (F0 m pc ls (v :: .ref y :: rest)) := by
  obtain ⟨hx, hb, hr, hml, hown, hts, hlocks, hA, hK, hN⟩ := F
  obtain ⟨hP, hD, hS⟩ := G
  obtain ⟨q, hq⟩ := has_pos (a := a) (d := d) hy
  · refine va_putF (D := D) (ci := 12) (v := v) (ty := .array .int) (C := RX12) (T := TX12) (N := 3) hx hb hts in_X12 tyX12 tyX12_ok nmX12 hown hK hP hD hS q hq rfl 0 (by decide) (hts _ q460) (fun _ h9 => h9) rfl hmn rfl (by decide +kernel) hn hf hl hd (fun H1 locs1 hP hD2 hS => k H1 locs1 ?_)
    have hs := has_set (e1 := .inr (12, fs.set 0 v)) hD hy hq
    have hP : va_P D clA ((cW a d S).set q (y, pm d (.inr (12, fs.set 0 v)))) H1 := hP
    have hD2 : va_D A ((cW a d S).set q (y, pm d (.inr (12, fs.set 0 v)))) := hD2
    rw [hs] at hP hD2
    exact ⟨hP, hD2, hS⟩
theorem pgX12_X12_value {fs : List Value} {v : Value} {y : Nat} (F : FC p s m meth c args D a d A RX12 cc nL ret) (G : GC D a d A s.heap S H locs) (hy : has S y (.inr (12, fs))) (hv : fs[1]? = some v) (hd : decode cc pc = .ok (.getfield 15, 3)) (k : W p l e R s m args below meth c H locs cells slots Q (F0 m (pc + 3) ls (v :: rest))) : W p l e R s m args below meth c H locs cells slots Q (F0 m pc ls (.ref y :: rest)) := by
  obtain ⟨hx, hb, hr, hml, hown, hts, hlocks, hA, hK, hN⟩ := F
  obtain ⟨q, hq⟩ := has_pos (a := a) (d := d) hy
  exact va_get (D := D) (ci := 12) (C := RX12) (T := TX12) (N := 3) hx hb hts in_X12 hown hK G.1 q hq rfl 1 (by decide) (hts _ q462) (fun _ h9 => h9) hv hd k
theorem ppX12_X12_value {fs : List Value} {v : Value} {y : Nat} (F : FC p s m meth c args D a d A RX12 cc nL ret) (G : GC D a d A s.heap S H locs) (hy : has S y (.inr (12, fs))) (hmn : meth.name = "<init>") (hn : narrow (.array .int) v = v) (hf : fits (.array .int) v = true) (hl : 1 < fs.length) (hd : decode cc pc = .ok (.putfield 15, 3)) (k : ∀ (H : Heap) (locs : List Loc), GC D a d A s.heap (cP S y (.inr (12, fs.set 1 v))) H locs → W p l e R s m args below meth c H locs cells slots Q (F0 m (pc + 3) ls rest)) : W p l e R s m args below meth c H locs cells slots Q (F0 m pc ls (v :: .ref y :: rest)) := by
  obtain ⟨hx, hb, hr, hml, hown, hts, hlocks, hA, hK, hN⟩ := F
  obtain ⟨hP, hD, hS⟩ := G
  obtain ⟨q, hq⟩ := has_pos (a := a) (d := d) hy
  · refine va_putF (D := D) (ci := 12) (v := v) (ty := .array .int) (C := RX12) (T := TX12) (N := 3) hx hb hts in_X12 tyX12 tyX12_ok nmX12 hown hK hP hD hS q hq rfl 1 (by decide) (hts _ q462) (fun _ h9 => h9) rfl hmn rfl (by decide +kernel) hn hf hl hd (fun H1 locs1 hP hD2 hS => k H1 locs1 ?_)
    have hs := has_set (e1 := .inr (12, fs.set 1 v)) hD hy hq
    have hP : va_P D clA ((cW a d S).set q (y, pm d (.inr (12, fs.set 1 v)))) H1 := hP
    have hD2 : va_D A ((cW a d S).set q (y, pm d (.inr (12, fs.set 1 v)))) := hD2
    rw [hs] at hP hD2
    exact ⟨hP, hD2, hS⟩
theorem pgX12_X12_many {fs : List Value} {v : Value} {y : Nat} (F : FC p s m meth c args D a d A RX12 cc nL ret) (G : GC D a d A s.heap S H locs) (hy : has S y (.inr (12, fs))) (hv : fs[2]? = some v) (hd : decode cc pc = .ok (.getfield 18, 3)) (k : W p l e R s m args below meth c H locs cells slots Q (F0 m (pc + 3) ls (v :: rest))) : W p l e R s m args below meth c H locs cells slots Q (F0 m pc ls (.ref y :: rest)) := by
  obtain ⟨hx, hb, hr, hml, hown, hts, hlocks, hA, hK, hN⟩ := F
  obtain ⟨q, hq⟩ := has_pos (a := a) (d := d) hy
  exact va_get (D := D) (ci := 12) (C := RX12) (T := TX12) (N := 3) hx hb hts in_X12 hown hK G.1 q hq rfl 2 (by decide) (hts _ q464) (fun _ h9 => h9) hv hd k
theorem ppX12_X12_many {fs : List Value} {v : Value} {y : Nat} (F : FC p s m meth c args D a d A RX12 cc nL ret) (G : GC D a d A s.heap S H locs) (hy : has S y (.inr (12, fs))) (hn : narrow (.int) v = v) (hf : fits (.int) v = true) (hl : 2 < fs.length) (hd : decode cc pc = .ok (.putfield 18, 3)) (k : ∀ (H : Heap) (locs : List Loc), GC D a d A s.heap (cP S y (.inr (12, fs.set 2 v))) H locs → W p l e R s m args below meth c H locs cells slots Q (F0 m (pc + 3) ls rest)) : W p l e R s m args below meth c H locs cells slots Q (F0 m pc ls (v :: .ref y :: rest)) := by
  obtain ⟨hx, hb, hr, hml, hown, hts, hlocks, hA, hK, hN⟩ := F
  obtain ⟨hP, hD, hS⟩ := G
  obtain ⟨q, hq⟩ := has_pos (a := a) (d := d) hy
  · refine va_put (D := D) (ci := 12) (v := v) (ty := .int) (C := RX12) (T := TX12) (N := 3) hx hb hts in_X12 tyX12 tyX12_ok nmX12 hown hK hP hD hS q hq rfl 2 (by decide) (hts _ q464) (fun _ h9 => h9) rfl (by decide +kernel) hn hf hl hd (fun H1 locs1 hP hD2 hS => k H1 locs1 ?_)
    have hs := has_set (e1 := .inr (12, fs.set 2 v)) hD hy hq
    have hP : va_P D clA ((cW a d S).set q (y, pm d (.inr (12, fs.set 2 v)))) H1 := hP
    have hD2 : va_D A ((cW a d S).set q (y, pm d (.inr (12, fs.set 2 v)))) := hD2
    rw [hs] at hP hD2
    exact ⟨hP, hD2, hS⟩
theorem pgX13_X13_key {fs : List Value} {v : Value} {y : Nat} (F : FC p s m meth c args D a d A RX13 cc nL ret) (G : GC D a d A s.heap S H locs) (hy : has S y (.inr (13, fs))) (hv : fs[0]? = some v) (hd : decode cc pc = .ok (.getfield 7, 3)) (k : W p l e R s m args below meth c H locs cells slots Q (F0 m (pc + 3) ls (v :: rest))) : W p l e R s m args below meth c H locs cells slots Q (F0 m pc ls (.ref y :: rest)) := by
  obtain ⟨hx, hb, hr, hml, hown, hts, hlocks, hA, hK, hN⟩ := F
  obtain ⟨q, hq⟩ := has_pos (a := a) (d := d) hy
  exact va_get (D := D) (ci := 13) (C := RX13) (T := TX13) (N := 3) hx hb hts in_X13 hown hK G.1 q hq rfl 0 (by decide) (hts _ q519) (fun _ h9 => h9) hv hd k
theorem ppX13_X13_key {fs : List Value} {v : Value} {y : Nat} (F : FC p s m meth c args D a d A RX13 cc nL ret) (G : GC D a d A s.heap S H locs) (hy : has S y (.inr (13, fs))) (hmn : meth.name = "<init>") (hn : narrow (.int) v = v) (hf : fits (.int) v = true) (hl : 0 < fs.length) (hd : decode cc pc = .ok (.putfield 7, 3)) (k : ∀ (H : Heap) (locs : List Loc), GC D a d A s.heap (cP S y (.inr (13, fs.set 0 v))) H locs → W p l e R s m args below meth c H locs cells slots Q (F0 m (pc + 3) ls rest)) : W p l e R s m args below meth c H locs cells slots Q (F0 m pc ls (v :: .ref y :: rest)) := by
  obtain ⟨hx, hb, hr, hml, hown, hts, hlocks, hA, hK, hN⟩ := F
  obtain ⟨hP, hD, hS⟩ := G
  obtain ⟨q, hq⟩ := has_pos (a := a) (d := d) hy
  · refine va_putF (D := D) (ci := 13) (v := v) (ty := .int) (C := RX13) (T := TX13) (N := 3) hx hb hts in_X13 tyX13 tyX13_ok nmX13 hown hK hP hD hS q hq rfl 0 (by decide) (hts _ q519) (fun _ h9 => h9) rfl hmn rfl (by decide +kernel) hn hf hl hd (fun H1 locs1 hP hD2 hS => k H1 locs1 ?_)
    have hs := has_set (e1 := .inr (13, fs.set 0 v)) hD hy hq
    have hP : va_P D clA ((cW a d S).set q (y, pm d (.inr (13, fs.set 0 v)))) H1 := hP
    have hD2 : va_D A ((cW a d S).set q (y, pm d (.inr (13, fs.set 0 v)))) := hD2
    rw [hs] at hP hD2
    exact ⟨hP, hD2, hS⟩
theorem pgX13_X13_words {fs : List Value} {v : Value} {y : Nat} (F : FC p s m meth c args D a d A RX13 cc nL ret) (G : GC D a d A s.heap S H locs) (hy : has S y (.inr (13, fs))) (hv : fs[1]? = some v) (hd : decode cc pc = .ok (.getfield 13, 3)) (k : W p l e R s m args below meth c H locs cells slots Q (F0 m (pc + 3) ls (v :: rest))) : W p l e R s m args below meth c H locs cells slots Q (F0 m pc ls (.ref y :: rest)) := by
  obtain ⟨hx, hb, hr, hml, hown, hts, hlocks, hA, hK, hN⟩ := F
  obtain ⟨q, hq⟩ := has_pos (a := a) (d := d) hy
  exact va_get (D := D) (ci := 13) (C := RX13) (T := TX13) (N := 3) hx hb hts in_X13 hown hK G.1 q hq rfl 1 (by decide) (hts _ q521) (fun _ h9 => h9) hv hd k
theorem ppX13_X13_words {fs : List Value} {v : Value} {y : Nat} (F : FC p s m meth c args D a d A RX13 cc nL ret) (G : GC D a d A s.heap S H locs) (hy : has S y (.inr (13, fs))) (hmn : meth.name = "<init>") (hn : narrow (.object "StrokesHeard$Words") v = v) (hf : fits (.object "StrokesHeard$Words") v = true) (hl : 1 < fs.length) (hd : decode cc pc = .ok (.putfield 13, 3)) (k : ∀ (H : Heap) (locs : List Loc), GC D a d A s.heap (cP S y (.inr (13, fs.set 1 v))) H locs → W p l e R s m args below meth c H locs cells slots Q (F0 m (pc + 3) ls rest)) : W p l e R s m args below meth c H locs cells slots Q (F0 m pc ls (v :: .ref y :: rest)) := by
  obtain ⟨hx, hb, hr, hml, hown, hts, hlocks, hA, hK, hN⟩ := F
  obtain ⟨hP, hD, hS⟩ := G
  obtain ⟨q, hq⟩ := has_pos (a := a) (d := d) hy
  · refine va_putF (D := D) (ci := 13) (v := v) (ty := .object "StrokesHeard$Words") (C := RX13) (T := TX13) (N := 3) hx hb hts in_X13 tyX13 tyX13_ok nmX13 hown hK hP hD hS q hq rfl 1 (by decide) (hts _ q521) (fun _ h9 => h9) rfl hmn rfl (by decide +kernel) hn hf hl hd (fun H1 locs1 hP hD2 hS => k H1 locs1 ?_)
    have hs := has_set (e1 := .inr (13, fs.set 1 v)) hD hy hq
    have hP : va_P D clA ((cW a d S).set q (y, pm d (.inr (13, fs.set 1 v)))) H1 := hP
    have hD2 : va_D A ((cW a d S).set q (y, pm d (.inr (13, fs.set 1 v)))) := hD2
    rw [hs] at hP hD2
    exact ⟨hP, hD2, hS⟩
theorem pgX13_X13_many {fs : List Value} {v : Value} {y : Nat} (F : FC p s m meth c args D a d A RX13 cc nL ret) (G : GC D a d A s.heap S H locs) (hy : has S y (.inr (13, fs))) (hv : fs[2]? = some v) (hd : decode cc pc = .ok (.getfield 17, 3)) (k : W p l e R s m args below meth c H locs cells slots Q (F0 m (pc + 3) ls (v :: rest))) : W p l e R s m args below meth c H locs cells slots Q (F0 m pc ls (.ref y :: rest)) := by
  obtain ⟨hx, hb, hr, hml, hown, hts, hlocks, hA, hK, hN⟩ := F
  obtain ⟨q, hq⟩ := has_pos (a := a) (d := d) hy
  exact va_get (D := D) (ci := 13) (C := RX13) (T := TX13) (N := 3) hx hb hts in_X13 hown hK G.1 q hq rfl 2 (by decide) (hts _ q523) (fun _ h9 => h9) hv hd k
theorem ppX13_X13_many {fs : List Value} {v : Value} {y : Nat} (F : FC p s m meth c args D a d A RX13 cc nL ret) (G : GC D a d A s.heap S H locs) (hy : has S y (.inr (13, fs))) (hmn : meth.name = "<init>") (hn : narrow (.int) v = v) (hf : fits (.int) v = true) (hl : 2 < fs.length) (hd : decode cc pc = .ok (.putfield 17, 3)) (k : ∀ (H : Heap) (locs : List Loc), GC D a d A s.heap (cP S y (.inr (13, fs.set 2 v))) H locs → W p l e R s m args below meth c H locs cells slots Q (F0 m (pc + 3) ls rest)) : W p l e R s m args below meth c H locs cells slots Q (F0 m pc ls (v :: .ref y :: rest)) := by
  obtain ⟨hx, hb, hr, hml, hown, hts, hlocks, hA, hK, hN⟩ := F
  obtain ⟨hP, hD, hS⟩ := G
  obtain ⟨q, hq⟩ := has_pos (a := a) (d := d) hy
  · refine va_putF (D := D) (ci := 13) (v := v) (ty := .int) (C := RX13) (T := TX13) (N := 3) hx hb hts in_X13 tyX13 tyX13_ok nmX13 hown hK hP hD hS q hq rfl 2 (by decide) (hts _ q523) (fun _ h9 => h9) rfl hmn rfl (by decide +kernel) hn hf hl hd (fun H1 locs1 hP hD2 hS => k H1 locs1 ?_)
    have hs := has_set (e1 := .inr (13, fs.set 2 v)) hD hy hq
    have hP : va_P D clA ((cW a d S).set q (y, pm d (.inr (13, fs.set 2 v)))) H1 := hP
    have hD2 : va_D A ((cW a d S).set q (y, pm d (.inr (13, fs.set 2 v)))) := hD2
    rw [hs] at hP hD2
    exact ⟨hP, hD2, hS⟩
theorem pgX14_X14_v {fs : List Value} {v : Value} {y : Nat} (F : FC p s m meth c args D a d A RX14 cc nL ret) (G : GC D a d A s.heap S H locs) (hy : has S y (.inr (14, fs))) (hv : fs[0]? = some v) (hd : decode cc pc = .ok (.getfield 7, 3)) (k : W p l e R s m args below meth c H locs cells slots Q (F0 m (pc + 3) ls (v :: rest))) : W p l e R s m args below meth c H locs cells slots Q (F0 m pc ls (.ref y :: rest)) := by
  obtain ⟨hx, hb, hr, hml, hown, hts, hlocks, hA, hK, hN⟩ := F
  obtain ⟨q, hq⟩ := has_pos (a := a) (d := d) hy
  exact va_get (D := D) (ci := 14) (C := RX14) (T := TX14) (N := 1) hx hb hts in_X14 hown hK G.1 q hq rfl 0 (by decide) (hts _ q1113) (fun _ h9 => h9) hv hd k
theorem ppX14_X14_v {fs : List Value} {v : Value} {y : Nat} (F : FC p s m meth c args D a d A RX14 cc nL ret) (G : GC D a d A s.heap S H locs) (hy : has S y (.inr (14, fs))) (hmn : meth.name = "<init>") (hn : narrow (.int) v = v) (hf : fits (.int) v = true) (hl : 0 < fs.length) (hd : decode cc pc = .ok (.putfield 7, 3)) (k : ∀ (H : Heap) (locs : List Loc), GC D a d A s.heap (cP S y (.inr (14, fs.set 0 v))) H locs → W p l e R s m args below meth c H locs cells slots Q (F0 m (pc + 3) ls rest)) : W p l e R s m args below meth c H locs cells slots Q (F0 m pc ls (v :: .ref y :: rest)) := by
  obtain ⟨hx, hb, hr, hml, hown, hts, hlocks, hA, hK, hN⟩ := F
  obtain ⟨hP, hD, hS⟩ := G
  obtain ⟨q, hq⟩ := has_pos (a := a) (d := d) hy
  · refine va_putF (D := D) (ci := 14) (v := v) (ty := .int) (C := RX14) (T := TX14) (N := 1) hx hb hts in_X14 tyX14 tyX14_ok nmX14 hown hK hP hD hS q hq rfl 0 (by decide) (hts _ q1113) (fun _ h9 => h9) rfl hmn rfl (by decide +kernel) hn hf hl hd (fun H1 locs1 hP hD2 hS => k H1 locs1 ?_)
    have hs := has_set (e1 := .inr (14, fs.set 0 v)) hD hy hq
    have hP : va_P D clA ((cW a d S).set q (y, pm d (.inr (14, fs.set 0 v)))) H1 := hP
    have hD2 : va_D A ((cW a d S).set q (y, pm d (.inr (14, fs.set 0 v)))) := hD2
    rw [hs] at hP hD2
    exact ⟨hP, hD2, hS⟩
theorem pgX3_X3_row {fs : List Value} {v : Value} {y : Nat} (F : FC p s m meth c args D a d A RX3 cc nL ret) (G : GC D a d A s.heap S H locs) (hy : has S y (.inr (3, fs))) (hv : fs[0]? = some v) (hd : decode cc pc = .ok (.getfield 7, 3)) (k : W p l e R s m args below meth c H locs cells slots Q (F0 m (pc + 3) ls (v :: rest))) : W p l e R s m args below meth c H locs cells slots Q (F0 m pc ls (.ref y :: rest)) := by
  obtain ⟨hx, hb, hr, hml, hown, hts, hlocks, hA, hK, hN⟩ := F
  obtain ⟨q, hq⟩ := has_pos (a := a) (d := d) hy
  exact va_get (D := D) (ci := 3) (C := RX3) (T := TX3) (N := 1) hx hb hts in_X3 hown hK G.1 q hq rfl 0 (by decide) (hts _ q252) (fun _ h9 => h9) hv hd k
theorem ppX3_X3_row {fs : List Value} {v : Value} {y : Nat} (F : FC p s m meth c args D a d A RX3 cc nL ret) (G : GC D a d A s.heap S H locs) (hy : has S y (.inr (3, fs))) (hn : narrow (.object "java/lang/Object") v = v) (hf : fits (.object "java/lang/Object") v = true) (hl : 0 < fs.length) (hd : decode cc pc = .ok (.putfield 7, 3)) (k : ∀ (H : Heap) (locs : List Loc), GC D a d A s.heap (cP S y (.inr (3, fs.set 0 v))) H locs → W p l e R s m args below meth c H locs cells slots Q (F0 m (pc + 3) ls rest)) : W p l e R s m args below meth c H locs cells slots Q (F0 m pc ls (v :: .ref y :: rest)) := by
  obtain ⟨hx, hb, hr, hml, hown, hts, hlocks, hA, hK, hN⟩ := F
  obtain ⟨hP, hD, hS⟩ := G
  obtain ⟨q, hq⟩ := has_pos (a := a) (d := d) hy
  · refine va_put (D := D) (ci := 3) (v := v) (ty := .object "java/lang/Object") (C := RX3) (T := TX3) (N := 1) hx hb hts in_X3 tyX3 tyX3_ok nmX3 hown hK hP hD hS q hq rfl 0 (by decide) (hts _ q252) (fun _ h9 => h9) rfl (by decide +kernel) hn hf hl hd (fun H1 locs1 hP hD2 hS => k H1 locs1 ?_)
    have hs := has_set (e1 := .inr (3, fs.set 0 v)) hD hy hq
    have hP : va_P D clA ((cW a d S).set q (y, pm d (.inr (3, fs.set 0 v)))) H1 := hP
    have hD2 : va_D A ((cW a d S).set q (y, pm d (.inr (3, fs.set 0 v)))) := hD2
    rw [hs] at hP hD2
    exact ⟨hP, hD2, hS⟩
theorem pgX4_X4_held {fs : List Value} {v : Value} {y : Nat} (F : FC p s m meth c args D a d A RX4 cc nL ret) (G : GC D a d A s.heap S H locs) (hy : has S y (.inr (4, fs))) (hv : fs[0]? = some v) (hd : decode cc pc = .ok (.getfield 7, 3)) (k : W p l e R s m args below meth c H locs cells slots Q (F0 m (pc + 3) ls (v :: rest))) : W p l e R s m args below meth c H locs cells slots Q (F0 m pc ls (.ref y :: rest)) := by
  obtain ⟨hx, hb, hr, hml, hown, hts, hlocks, hA, hK, hN⟩ := F
  obtain ⟨q, hq⟩ := has_pos (a := a) (d := d) hy
  exact va_get (D := D) (ci := 4) (C := RX4) (T := TX4) (N := 1) hx hb hts in_X4 hown hK G.1 q hq rfl 0 (by decide) (hts _ q264) (fun _ h9 => h9) hv hd k
theorem ppX4_X4_held {fs : List Value} {v : Value} {y : Nat} (F : FC p s m meth c args D a d A RX4 cc nL ret) (G : GC D a d A s.heap S H locs) (hy : has S y (.inr (4, fs))) (hn : narrow (.object "java/lang/Object") v = v) (hf : fits (.object "java/lang/Object") v = true) (hl : 0 < fs.length) (hd : decode cc pc = .ok (.putfield 7, 3)) (k : ∀ (H : Heap) (locs : List Loc), GC D a d A s.heap (cP S y (.inr (4, fs.set 0 v))) H locs → W p l e R s m args below meth c H locs cells slots Q (F0 m (pc + 3) ls rest)) : W p l e R s m args below meth c H locs cells slots Q (F0 m pc ls (v :: .ref y :: rest)) := by
  obtain ⟨hx, hb, hr, hml, hown, hts, hlocks, hA, hK, hN⟩ := F
  obtain ⟨hP, hD, hS⟩ := G
  obtain ⟨q, hq⟩ := has_pos (a := a) (d := d) hy
  · refine va_put (D := D) (ci := 4) (v := v) (ty := .object "java/lang/Object") (C := RX4) (T := TX4) (N := 1) hx hb hts in_X4 tyX4 tyX4_ok nmX4 hown hK hP hD hS q hq rfl 0 (by decide) (hts _ q264) (fun _ h9 => h9) rfl (by decide +kernel) hn hf hl hd (fun H1 locs1 hP hD2 hS => k H1 locs1 ?_)
    have hs := has_set (e1 := .inr (4, fs.set 0 v)) hD hy hq
    have hP : va_P D clA ((cW a d S).set q (y, pm d (.inr (4, fs.set 0 v)))) H1 := hP
    have hD2 : va_D A ((cW a d S).set q (y, pm d (.inr (4, fs.set 0 v)))) := hD2
    rw [hs] at hP hD2
    exact ⟨hP, hD2, hS⟩
theorem pgX6_X6_off {κ : Nat} {fs : List Value} {v : Value} {y : Nat} (F : FC p s m meth c args D a d A RX6 cc nL ret) (G : GC D a d A s.heap S H locs) (hκ : κ < 6) (hy : has S y (.inr (6 + κ, fs))) (hv : fs[0]? = some v) (hd : decode cc pc = .ok (.getfield 19, 3)) (k : W p l e R s m args below meth c H locs cells slots Q (F0 m (pc + 3) ls (v :: rest))) : W p l e R s m args below meth c H locs cells slots Q (F0 m pc ls (.ref y :: rest)) := by
  obtain ⟨hx, hb, hr, hml, hown, hts, hlocks, hA, hK, hN⟩ := F
  obtain ⟨q, hq⟩ := has_pos (a := a) (d := d) hy
  obtain rfl | rfl | rfl | rfl | rfl | rfl : κ = 0 ∨ κ = 1 ∨ κ = 2 ∨ κ = 3 ∨ κ = 4 ∨ κ = 5 := by omega
  · exact va_get (D := D) (ci := 6) (C := RX6) (T := TX6) (N := 2) hx hb hts in_X6 hown hK G.1 q hq rfl 0 (by decide) (hts _ q571) (fun _ h9 => h9) hv hd k
  · exact va_get (D := D) (ci := 7) (C := RX7) (T := TX7) (N := 2) hx hb hts in_X7 hown hK G.1 q hq rfl 0 (by decide) (hts _ q571) (fun _ h9 => h9) hv hd k
  · exact va_get (D := D) (ci := 8) (C := RX8) (T := TX8) (N := 2) hx hb hts in_X8 hown hK G.1 q hq rfl 0 (by decide) (hts _ q571) (fun _ h9 => h9) hv hd k
  · exact va_get (D := D) (ci := 9) (C := RX9) (T := TX9) (N := 2) hx hb hts in_X9 hown hK G.1 q hq rfl 0 (by decide) (hts _ q571) (fun _ h9 => h9) hv hd k
  · exact va_get (D := D) (ci := 10) (C := RX10) (T := TX10) (N := 2) hx hb hts in_X10 hown hK G.1 q hq rfl 0 (by decide) (hts _ q571) (fun _ h9 => h9) hv hd k
  · exact va_get (D := D) (ci := 11) (C := RX11) (T := TX11) (N := 2) hx hb hts in_X11 hown hK G.1 q hq rfl 0 (by decide) (hts _ q571) (fun _ h9 => h9) hv hd k
theorem ppX6_X6_off {κ : Nat} {fs : List Value} {v : Value} {y : Nat} (F : FC p s m meth c args D a d A RX6 cc nL ret) (G : GC D a d A s.heap S H locs) (hκ : κ < 6) (hy : has S y (.inr (6 + κ, fs))) (hn : narrow (.int) v = v) (hf : fits (.int) v = true) (hl : 0 < fs.length) (hd : decode cc pc = .ok (.putfield 19, 3)) (k : ∀ (H : Heap) (locs : List Loc), GC D a d A s.heap (cP S y (.inr (6 + κ, fs.set 0 v))) H locs → W p l e R s m args below meth c H locs cells slots Q (F0 m (pc + 3) ls rest)) : W p l e R s m args below meth c H locs cells slots Q (F0 m pc ls (v :: .ref y :: rest)) := by
  obtain ⟨hx, hb, hr, hml, hown, hts, hlocks, hA, hK, hN⟩ := F
  obtain ⟨hP, hD, hS⟩ := G
  obtain ⟨q, hq⟩ := has_pos (a := a) (d := d) hy
  obtain rfl | rfl | rfl | rfl | rfl | rfl : κ = 0 ∨ κ = 1 ∨ κ = 2 ∨ κ = 3 ∨ κ = 4 ∨ κ = 5 := by omega
  · refine va_put (D := D) (ci := 6) (v := v) (ty := .int) (C := RX6) (T := TX6) (N := 2) hx hb hts in_X6 tyX6 tyX6_ok nmX6 hown hK hP hD hS q hq rfl 0 (by decide) (hts _ q571) (fun _ h9 => h9) rfl (by decide +kernel) hn hf hl hd (fun H1 locs1 hP hD2 hS => k H1 locs1 ?_)
    have hs := has_set (e1 := .inr (6, fs.set 0 v)) hD hy hq
    have hP : va_P D clA ((cW a d S).set q (y, pm d (.inr (6, fs.set 0 v)))) H1 := hP
    have hD2 : va_D A ((cW a d S).set q (y, pm d (.inr (6, fs.set 0 v)))) := hD2
    rw [hs] at hP hD2
    exact ⟨hP, hD2, hS⟩
  · refine va_put (D := D) (ci := 7) (v := v) (ty := .int) (C := RX7) (T := TX7) (N := 2) hx hb hts in_X7 tyX7 tyX7_ok nmX7 hown hK hP hD hS q hq rfl 0 (by decide) (hts _ q571) (fun _ h9 => h9) rfl (by decide +kernel) hn hf hl hd (fun H1 locs1 hP hD2 hS => k H1 locs1 ?_)
    have hs := has_set (e1 := .inr (7, fs.set 0 v)) hD hy hq
    have hP : va_P D clA ((cW a d S).set q (y, pm d (.inr (7, fs.set 0 v)))) H1 := hP
    have hD2 : va_D A ((cW a d S).set q (y, pm d (.inr (7, fs.set 0 v)))) := hD2
    rw [hs] at hP hD2
    exact ⟨hP, hD2, hS⟩
  · refine va_put (D := D) (ci := 8) (v := v) (ty := .int) (C := RX8) (T := TX8) (N := 2) hx hb hts in_X8 tyX8 tyX8_ok nmX8 hown hK hP hD hS q hq rfl 0 (by decide) (hts _ q571) (fun _ h9 => h9) rfl (by decide +kernel) hn hf hl hd (fun H1 locs1 hP hD2 hS => k H1 locs1 ?_)
    have hs := has_set (e1 := .inr (8, fs.set 0 v)) hD hy hq
    have hP : va_P D clA ((cW a d S).set q (y, pm d (.inr (8, fs.set 0 v)))) H1 := hP
    have hD2 : va_D A ((cW a d S).set q (y, pm d (.inr (8, fs.set 0 v)))) := hD2
    rw [hs] at hP hD2
    exact ⟨hP, hD2, hS⟩
  · refine va_put (D := D) (ci := 9) (v := v) (ty := .int) (C := RX9) (T := TX9) (N := 2) hx hb hts in_X9 tyX9 tyX9_ok nmX9 hown hK hP hD hS q hq rfl 0 (by decide) (hts _ q571) (fun _ h9 => h9) rfl (by decide +kernel) hn hf hl hd (fun H1 locs1 hP hD2 hS => k H1 locs1 ?_)
    have hs := has_set (e1 := .inr (9, fs.set 0 v)) hD hy hq
    have hP : va_P D clA ((cW a d S).set q (y, pm d (.inr (9, fs.set 0 v)))) H1 := hP
    have hD2 : va_D A ((cW a d S).set q (y, pm d (.inr (9, fs.set 0 v)))) := hD2
    rw [hs] at hP hD2
    exact ⟨hP, hD2, hS⟩
  · refine va_put (D := D) (ci := 10) (v := v) (ty := .int) (C := RX10) (T := TX10) (N := 2) hx hb hts in_X10 tyX10 tyX10_ok nmX10 hown hK hP hD hS q hq rfl 0 (by decide) (hts _ q571) (fun _ h9 => h9) rfl (by decide +kernel) hn hf hl hd (fun H1 locs1 hP hD2 hS => k H1 locs1 ?_)
    have hs := has_set (e1 := .inr (10, fs.set 0 v)) hD hy hq
    have hP : va_P D clA ((cW a d S).set q (y, pm d (.inr (10, fs.set 0 v)))) H1 := hP
    have hD2 : va_D A ((cW a d S).set q (y, pm d (.inr (10, fs.set 0 v)))) := hD2
    rw [hs] at hP hD2
    exact ⟨hP, hD2, hS⟩
  · refine va_put (D := D) (ci := 11) (v := v) (ty := .int) (C := RX11) (T := TX11) (N := 2) hx hb hts in_X11 tyX11 tyX11_ok nmX11 hown hK hP hD hS q hq rfl 0 (by decide) (hts _ q571) (fun _ h9 => h9) rfl (by decide +kernel) hn hf hl hd (fun H1 locs1 hP hD2 hS => k H1 locs1 ?_)
    have hs := has_set (e1 := .inr (11, fs.set 0 v)) hD hy hq
    have hP : va_P D clA ((cW a d S).set q (y, pm d (.inr (11, fs.set 0 v)))) H1 := hP
    have hD2 : va_D A ((cW a d S).set q (y, pm d (.inr (11, fs.set 0 v)))) := hD2
    rw [hs] at hP hD2
    exact ⟨hP, hD2, hS⟩
theorem pgX6_X6_tone {κ : Nat} {fs : List Value} {v : Value} {y : Nat} (F : FC p s m meth c args D a d A RX6 cc nL ret) (G : GC D a d A s.heap S H locs) (hκ : κ < 6) (hy : has S y (.inr (6 + κ, fs))) (hv : fs[1]? = some v) (hd : decode cc pc = .ok (.getfield 24, 3)) (k : W p l e R s m args below meth c H locs cells slots Q (F0 m (pc + 3) ls (v :: rest))) : W p l e R s m args below meth c H locs cells slots Q (F0 m pc ls (.ref y :: rest)) := by
  obtain ⟨hx, hb, hr, hml, hown, hts, hlocks, hA, hK, hN⟩ := F
  obtain ⟨q, hq⟩ := has_pos (a := a) (d := d) hy
  obtain rfl | rfl | rfl | rfl | rfl | rfl : κ = 0 ∨ κ = 1 ∨ κ = 2 ∨ κ = 3 ∨ κ = 4 ∨ κ = 5 := by omega
  · exact va_get (D := D) (ci := 6) (C := RX6) (T := TX6) (N := 2) hx hb hts in_X6 hown hK G.1 q hq rfl 1 (by decide) (hts _ q573) (fun _ h9 => h9) hv hd k
  · exact va_get (D := D) (ci := 7) (C := RX7) (T := TX7) (N := 2) hx hb hts in_X7 hown hK G.1 q hq rfl 1 (by decide) (hts _ q573) (fun _ h9 => h9) hv hd k
  · exact va_get (D := D) (ci := 8) (C := RX8) (T := TX8) (N := 2) hx hb hts in_X8 hown hK G.1 q hq rfl 1 (by decide) (hts _ q573) (fun _ h9 => h9) hv hd k
  · exact va_get (D := D) (ci := 9) (C := RX9) (T := TX9) (N := 2) hx hb hts in_X9 hown hK G.1 q hq rfl 1 (by decide) (hts _ q573) (fun _ h9 => h9) hv hd k
  · exact va_get (D := D) (ci := 10) (C := RX10) (T := TX10) (N := 2) hx hb hts in_X10 hown hK G.1 q hq rfl 1 (by decide) (hts _ q573) (fun _ h9 => h9) hv hd k
  · exact va_get (D := D) (ci := 11) (C := RX11) (T := TX11) (N := 2) hx hb hts in_X11 hown hK G.1 q hq rfl 1 (by decide) (hts _ q573) (fun _ h9 => h9) hv hd k
theorem ppX6_X6_tone {κ : Nat} {fs : List Value} {v : Value} {y : Nat} (F : FC p s m meth c args D a d A RX6 cc nL ret) (G : GC D a d A s.heap S H locs) (hκ : κ < 6) (hy : has S y (.inr (6 + κ, fs))) (hn : narrow (.int) v = v) (hf : fits (.int) v = true) (hl : 1 < fs.length) (hd : decode cc pc = .ok (.putfield 24, 3)) (k : ∀ (H : Heap) (locs : List Loc), GC D a d A s.heap (cP S y (.inr (6 + κ, fs.set 1 v))) H locs → W p l e R s m args below meth c H locs cells slots Q (F0 m (pc + 3) ls rest)) : W p l e R s m args below meth c H locs cells slots Q (F0 m pc ls (v :: .ref y :: rest)) := by
  obtain ⟨hx, hb, hr, hml, hown, hts, hlocks, hA, hK, hN⟩ := F
  obtain ⟨hP, hD, hS⟩ := G
  obtain ⟨q, hq⟩ := has_pos (a := a) (d := d) hy
  obtain rfl | rfl | rfl | rfl | rfl | rfl : κ = 0 ∨ κ = 1 ∨ κ = 2 ∨ κ = 3 ∨ κ = 4 ∨ κ = 5 := by omega
  · refine va_put (D := D) (ci := 6) (v := v) (ty := .int) (C := RX6) (T := TX6) (N := 2) hx hb hts in_X6 tyX6 tyX6_ok nmX6 hown hK hP hD hS q hq rfl 1 (by decide) (hts _ q573) (fun _ h9 => h9) rfl (by decide +kernel) hn hf hl hd (fun H1 locs1 hP hD2 hS => k H1 locs1 ?_)
    have hs := has_set (e1 := .inr (6, fs.set 1 v)) hD hy hq
    have hP : va_P D clA ((cW a d S).set q (y, pm d (.inr (6, fs.set 1 v)))) H1 := hP
    have hD2 : va_D A ((cW a d S).set q (y, pm d (.inr (6, fs.set 1 v)))) := hD2
    rw [hs] at hP hD2
    exact ⟨hP, hD2, hS⟩
  · refine va_put (D := D) (ci := 7) (v := v) (ty := .int) (C := RX7) (T := TX7) (N := 2) hx hb hts in_X7 tyX7 tyX7_ok nmX7 hown hK hP hD hS q hq rfl 1 (by decide) (hts _ q573) (fun _ h9 => h9) rfl (by decide +kernel) hn hf hl hd (fun H1 locs1 hP hD2 hS => k H1 locs1 ?_)
    have hs := has_set (e1 := .inr (7, fs.set 1 v)) hD hy hq
    have hP : va_P D clA ((cW a d S).set q (y, pm d (.inr (7, fs.set 1 v)))) H1 := hP
    have hD2 : va_D A ((cW a d S).set q (y, pm d (.inr (7, fs.set 1 v)))) := hD2
    rw [hs] at hP hD2
    exact ⟨hP, hD2, hS⟩
  · refine va_put (D := D) (ci := 8) (v := v) (ty := .int) (C := RX8) (T := TX8) (N := 2) hx hb hts in_X8 tyX8 tyX8_ok nmX8 hown hK hP hD hS q hq rfl 1 (by decide) (hts _ q573) (fun _ h9 => h9) rfl (by decide +kernel) hn hf hl hd (fun H1 locs1 hP hD2 hS => k H1 locs1 ?_)
    have hs := has_set (e1 := .inr (8, fs.set 1 v)) hD hy hq
    have hP : va_P D clA ((cW a d S).set q (y, pm d (.inr (8, fs.set 1 v)))) H1 := hP
    have hD2 : va_D A ((cW a d S).set q (y, pm d (.inr (8, fs.set 1 v)))) := hD2
    rw [hs] at hP hD2
    exact ⟨hP, hD2, hS⟩
  · refine va_put (D := D) (ci := 9) (v := v) (ty := .int) (C := RX9) (T := TX9) (N := 2) hx hb hts in_X9 tyX9 tyX9_ok nmX9 hown hK hP hD hS q hq rfl 1 (by decide) (hts _ q573) (fun _ h9 => h9) rfl (by decide +kernel) hn hf hl hd (fun H1 locs1 hP hD2 hS => k H1 locs1 ?_)
    have hs := has_set (e1 := .inr (9, fs.set 1 v)) hD hy hq
    have hP : va_P D clA ((cW a d S).set q (y, pm d (.inr (9, fs.set 1 v)))) H1 := hP
    have hD2 : va_D A ((cW a d S).set q (y, pm d (.inr (9, fs.set 1 v)))) := hD2
    rw [hs] at hP hD2
    exact ⟨hP, hD2, hS⟩
  · refine va_put (D := D) (ci := 10) (v := v) (ty := .int) (C := RX10) (T := TX10) (N := 2) hx hb hts in_X10 tyX10 tyX10_ok nmX10 hown hK hP hD hS q hq rfl 1 (by decide) (hts _ q573) (fun _ h9 => h9) rfl (by decide +kernel) hn hf hl hd (fun H1 locs1 hP hD2 hS => k H1 locs1 ?_)
    have hs := has_set (e1 := .inr (10, fs.set 1 v)) hD hy hq
    have hP : va_P D clA ((cW a d S).set q (y, pm d (.inr (10, fs.set 1 v)))) H1 := hP
    have hD2 : va_D A ((cW a d S).set q (y, pm d (.inr (10, fs.set 1 v)))) := hD2
    rw [hs] at hP hD2
    exact ⟨hP, hD2, hS⟩
  · refine va_put (D := D) (ci := 11) (v := v) (ty := .int) (C := RX11) (T := TX11) (N := 2) hx hb hts in_X11 tyX11 tyX11_ok nmX11 hown hK hP hD hS q hq rfl 1 (by decide) (hts _ q573) (fun _ h9 => h9) rfl (by decide +kernel) hn hf hl hd (fun H1 locs1 hP hD2 hS => k H1 locs1 ?_)
    have hs := has_set (e1 := .inr (11, fs.set 1 v)) hD hy hq
    have hP : va_P D clA ((cW a d S).set q (y, pm d (.inr (11, fs.set 1 v)))) H1 := hP
    have hD2 : va_D A ((cW a d S).set q (y, pm d (.inr (11, fs.set 1 v)))) := hD2
    rw [hs] at hP hD2
    exact ⟨hP, hD2, hS⟩
theorem p_iaload {n y : Nat} {f : Nat → Int32} {i : Int32} (F : FC p s m meth c args D a d A own cc nL ret) (G : GC D a d A s.heap S H locs) (hy : has S y (.inl (0, n, .inl f))) (hi : vp_in i n) (hd : decode cc pc = .ok (.iaload, 1)) (k : W p l e R s m args below meth c H locs cells slots Q (F0 m (pc + 1) ls (.int (f i.toNatClampNeg) :: rest))) : W p l e R s m args below meth c H locs cells slots Q (F0 m pc ls (.int i :: .ref y :: rest)) := by
  obtain ⟨hx, hb, hr, hml, hown, hts, hlocks, hA, hK, hN⟩ := F
  obtain ⟨q, hq⟩ := has_pos (a := a) (d := d) hy
  exact va_iald hx hb hK G.1 q 0 hq rfl hi hd k
theorem p_saload {n y : Nat} {f : Nat → Int32} {i : Int32} (F : FC p s m meth c args D a d A own cc nL ret) (G : GC D a d A s.heap S H locs) (hy : has S y (.inl (7, n, .inl f))) (hi : vp_in i n) (hd : decode cc pc = .ok (.saload, 1)) (k : W p l e R s m args below meth c H locs cells slots Q (F0 m (pc + 1) ls (.int (f i.toNatClampNeg) :: rest))) : W p l e R s m args below meth c H locs cells slots Q (F0 m pc ls (.int i :: .ref y :: rest)) := by
  obtain ⟨hx, hb, hr, hml, hown, hts, hlocks, hA, hK, hN⟩ := F
  obtain ⟨q, hq⟩ := has_pos (a := a) (d := d) hy
  exact va_sald hx hb hK G.1 q 7 hq rfl hi hd k
theorem p_faload {n y : Nat} {f : Nat → UInt32} {i : Int32} (F : FC p s m meth c args D a d A own cc nL ret) (G : GC D a d A s.heap S H locs) (hy : has S y (.inl (6, n, .inr (.inr (.inl f))))) (hi : vp_in i n) (hd : decode cc pc = .ok (.faload, 1)) (k : W p l e R s m args below meth c H locs cells slots Q (F0 m (pc + 1) ls (.float (f i.toNatClampNeg) :: rest))) : W p l e R s m args below meth c H locs cells slots Q (F0 m pc ls (.int i :: .ref y :: rest)) := by
  obtain ⟨hx, hb, hr, hml, hown, hts, hlocks, hA, hK, hN⟩ := F
  obtain ⟨q, hq⟩ := has_pos (a := a) (d := d) hy
  exact va_fald hx hb hK G.1 q 6 hq rfl hi hd k
theorem p_iastore {n y : Nat} {f : Nat → Int32} {i : Int32} {x : Int32} (F : FC p s m meth c args D a d A own cc nL ret) (G : GC D a d A s.heap S H locs) (hy : has S y (.inl (0, n, .inl f))) (hi : vp_in i n) (hd : decode cc pc = .ok (.iastore, 1)) (k : ∀ (H : Heap) (locs : List Loc), GC D a d A s.heap (cP S y (.inl (0, n, .inl (upd f i.toNatClampNeg x)))) H locs → W p l e R s m args below meth c H locs cells slots Q (F0 m (pc + 1) ls rest)) : W p l e R s m args below meth c H locs cells slots Q (F0 m pc ls (.int x :: .int i :: .ref y :: rest)) := by
  obtain ⟨hx, hb, hr, hml, hown, hts, hlocks, hA, hK, hN⟩ := F
  obtain ⟨hP, hD, hS⟩ := G
  obtain ⟨q, hq⟩ := has_pos (a := a) (d := d) hy
  refine va_iast hx hb hK hP hD hS q 0 hq rfl hi hd (fun H1 locs1 hP hD2 hS => k H1 locs1 ?_)
  have hs := has_set (e1 := .inl (0, n, .inl (upd f i.toNatClampNeg x))) hD hy hq
  have hP : va_P D clA ((cW a d S).set q (y, pm d (.inl (0, n, .inl (upd f i.toNatClampNeg x))))) H1 := hP
  have hD2 : va_D A ((cW a d S).set q (y, pm d (.inl (0, n, .inl (upd f i.toNatClampNeg x))))) := hD2
  rw [hs] at hP hD2
  exact ⟨hP, hD2, hS⟩
theorem p_sastore {n y : Nat} {f : Nat → Int32} {i : Int32} {x : Int32} (F : FC p s m meth c args D a d A own cc nL ret) (G : GC D a d A s.heap S H locs) (hy : has S y (.inl (7, n, .inl f))) (hi : vp_in i n) (hd : decode cc pc = .ok (.sastore, 1)) (k : ∀ (H : Heap) (locs : List Loc), GC D a d A s.heap (cP S y (.inl (7, n, .inl (upd f i.toNatClampNeg (vp_nar .short x))))) H locs → W p l e R s m args below meth c H locs cells slots Q (F0 m (pc + 1) ls rest)) : W p l e R s m args below meth c H locs cells slots Q (F0 m pc ls (.int x :: .int i :: .ref y :: rest)) := by
  obtain ⟨hx, hb, hr, hml, hown, hts, hlocks, hA, hK, hN⟩ := F
  obtain ⟨hP, hD, hS⟩ := G
  obtain ⟨q, hq⟩ := has_pos (a := a) (d := d) hy
  refine va_sast hx hb hK hP hD hS q 7 hq rfl hi hd (fun H1 locs1 hP hD2 hS => k H1 locs1 ?_)
  have hs := has_set (e1 := .inl (7, n, .inl (upd f i.toNatClampNeg (vp_nar .short x)))) hD hy hq
  have hP : va_P D clA ((cW a d S).set q (y, pm d (.inl (7, n, .inl (upd f i.toNatClampNeg (vp_nar .short x)))))) H1 := hP
  have hD2 : va_D A ((cW a d S).set q (y, pm d (.inl (7, n, .inl (upd f i.toNatClampNeg (vp_nar .short x)))))) := hD2
  rw [hs] at hP hD2
  exact ⟨hP, hD2, hS⟩
theorem p_fastore {n y : Nat} {f : Nat → UInt32} {i : Int32} {x : UInt32} (F : FC p s m meth c args D a d A own cc nL ret) (G : GC D a d A s.heap S H locs) (hy : has S y (.inl (6, n, .inr (.inr (.inl f))))) (hi : vp_in i n) (hd : decode cc pc = .ok (.fastore, 1)) (k : ∀ (H : Heap) (locs : List Loc), GC D a d A s.heap (cP S y (.inl (6, n, .inr (.inr (.inl (vf_upd f i.toNatClampNeg x)))))) H locs → W p l e R s m args below meth c H locs cells slots Q (F0 m (pc + 1) ls rest)) : W p l e R s m args below meth c H locs cells slots Q (F0 m pc ls (.float x :: .int i :: .ref y :: rest)) := by
  obtain ⟨hx, hb, hr, hml, hown, hts, hlocks, hA, hK, hN⟩ := F
  obtain ⟨hP, hD, hS⟩ := G
  obtain ⟨q, hq⟩ := has_pos (a := a) (d := d) hy
  refine va_fast hx hb hK hP hD hS q 6 hq rfl hi hd (fun H1 locs1 hP hD2 hS => k H1 locs1 ?_)
  have hs := has_set (e1 := .inl (6, n, .inr (.inr (.inl (vf_upd f i.toNatClampNeg x))))) hD hy hq
  have hP : va_P D clA ((cW a d S).set q (y, pm d (.inl (6, n, .inr (.inr (.inl (vf_upd f i.toNatClampNeg x))))))) H1 := hP
  have hD2 : va_D A ((cW a d S).set q (y, pm d (.inl (6, n, .inr (.inr (.inl (vf_upd f i.toNatClampNeg x))))))) := hD2
  rw [hs] at hP hD2
  exact ⟨hP, hD2, hS⟩
theorem p_len {t n y : Nat} {x : vp_A} {ty : FieldType} (F : FC p s m meth c args D a d A own cc nL ret) (G : GC D a d A s.heap S H locs) (hy : has S y (.inl (t, x))) (ht : (tyC d)[t]? = some (d t, ty)) (hd : decode cc pc = .ok (.arraylength, 1)) (k : W p l e R s m args below meth c H locs cells slots Q (F0 m (pc + 1) ls (.int (Int32.ofNat x.1) :: rest))) : W p l e R s m args below meth c H locs cells slots Q (F0 m pc ls (.ref y :: rest)) := by
  obtain ⟨hx, hb, hr, hml, hown, hts, hlocks, hA, hK, hN⟩ := F
  obtain ⟨q, hq⟩ := has_pos (a := a) (d := d) hy
  exact va_alen hx hb hK G.1 q t hq ht rfl hd k
theorem pnX0_X3 (F : FC p s m meth c args D a d A RX0 cc nL ret) (G : GC D a d A s.heap S H locs) (hc : cells + 1 ≤ R.cells ∧ slots + 1 ≤ R.slots) (hd : decode cc pc = .ok (.new 80, 3)) (k : ∀ (y : Nat) (H : Heap), y ∉ S.2.2.1 → GC D a d A s.heap (cN S y (.inr (3, [.null]))) H locs → W p l e R s m args below meth c H locs (cells + 1) (slots + 1) Q (F0 m (pc + 3) ls (.ref y :: rest))) : W p l e R s m args below meth c H locs cells slots Q (F0 m pc ls rest) := by
  obtain ⟨hx, hb, hr, hml, hown, hts, hlocks, hA, hK, hN⟩ := F
  obtain ⟨hP, hD, hS⟩ := G
  refine va_new (ci := 3) (fs := [.null]) (C := RX3) (T := TX3) (N := 1) hx hb hts in_X3 tyX3 tyX3_ok hown (hts _ q245) (hts _ q247) (hts _ q88) hK hP hD hS hA rfl (fun j hj => by rcases (show j = 0 by omega) with rfl <;> rfl) hc.1 hc.2 hd (fun y H1 hP hD hS => ?_)
  obtain ⟨h1, h2⟩ := has_new (e := .inr (3, [.null])) hD
  have hP : va_P D clA (cW a d S ++ [(y, pm d (.inr (3, [.null])))]) H1 := hP
  have hD : va_D A (cW a d S ++ [(y, pm d (.inr (3, [.null])))]) := hD
  rw [h2] at hP hD
  exact k y H1 h1 ⟨hP, hD, hS⟩
theorem pnX0_X4 (F : FC p s m meth c args D a d A RX0 cc nL ret) (G : GC D a d A s.heap S H locs) (hc : cells + 1 ≤ R.cells ∧ slots + 1 ≤ R.slots) (hd : decode cc pc = .ok (.new 87, 3)) (k : ∀ (y : Nat) (H : Heap), y ∉ S.2.2.1 → GC D a d A s.heap (cN S y (.inr (4, [.null]))) H locs → W p l e R s m args below meth c H locs (cells + 1) (slots + 1) Q (F0 m (pc + 3) ls (.ref y :: rest))) : W p l e R s m args below meth c H locs cells slots Q (F0 m pc ls rest) := by
  obtain ⟨hx, hb, hr, hml, hown, hts, hlocks, hA, hK, hN⟩ := F
  obtain ⟨hP, hD, hS⟩ := G
  refine va_new (ci := 4) (fs := [.null]) (C := RX4) (T := TX4) (N := 1) hx hb hts in_X4 tyX4 tyX4_ok hown (hts _ q257) (hts _ q259) (hts _ q89) hK hP hD hS hA rfl (fun j hj => by rcases (show j = 0 by omega) with rfl <;> rfl) hc.1 hc.2 hd (fun y H1 hP hD hS => ?_)
  obtain ⟨h1, h2⟩ := has_new (e := .inr (4, [.null])) hD
  have hP : va_P D clA (cW a d S ++ [(y, pm d (.inr (4, [.null])))]) H1 := hP
  have hD : va_D A (cW a d S ++ [(y, pm d (.inr (4, [.null])))]) := hD
  rw [h2] at hP hD
  exact k y H1 h1 ⟨hP, hD, hS⟩
theorem pnX0_X12 (F : FC p s m meth c args D a d A RX0 cc nL ret) (G : GC D a d A s.heap S H locs) (hc : cells + 1 ≤ R.cells ∧ slots + 3 ≤ R.slots) (hd : decode cc pc = .ok (.new 113, 3)) (k : ∀ (y : Nat) (H : Heap), y ∉ S.2.2.1 → GC D a d A s.heap (cN S y (.inr (12, [.null, .null, .int 0]))) H locs → W p l e R s m args below meth c H locs (cells + 1) (slots + 3) Q (F0 m (pc + 3) ls (.ref y :: rest))) : W p l e R s m args below meth c H locs cells slots Q (F0 m pc ls rest) := by
  obtain ⟨hx, hb, hr, hml, hown, hts, hlocks, hA, hK, hN⟩ := F
  obtain ⟨hP, hD, hS⟩ := G
  refine va_new (ci := 12) (fs := [.null, .null, .int 0]) (C := RX12) (T := TX12) (N := 3) hx hb hts in_X12 tyX12 tyX12_ok hown (hts _ q454) (hts _ q455) (hts _ q105) hK hP hD hS hA rfl (fun j hj => by rcases (show j = 0 ∨ j = 1 ∨ j = 2 by omega) with rfl | rfl | rfl <;> rfl) hc.1 hc.2 hd (fun y H1 hP hD hS => ?_)
  obtain ⟨h1, h2⟩ := has_new (e := .inr (12, [.null, .null, .int 0])) hD
  have hP : va_P D clA (cW a d S ++ [(y, pm d (.inr (12, [.null, .null, .int 0])))]) H1 := hP
  have hD : va_D A (cW a d S ++ [(y, pm d (.inr (12, [.null, .null, .int 0])))]) := hD
  rw [h2] at hP hD
  exact k y H1 h1 ⟨hP, hD, hS⟩
theorem pnX0_X13 (F : FC p s m meth c args D a d A RX0 cc nL ret) (G : GC D a d A s.heap S H locs) (hc : cells + 1 ≤ R.cells ∧ slots + 3 ≤ R.slots) (hd : decode cc pc = .ok (.new 231, 3)) (k : ∀ (y : Nat) (H : Heap), y ∉ S.2.2.1 → GC D a d A s.heap (cN S y (.inr (13, [.int 0, .null, .int 0]))) H locs → W p l e R s m args below meth c H locs (cells + 1) (slots + 3) Q (F0 m (pc + 3) ls (.ref y :: rest))) : W p l e R s m args below meth c H locs cells slots Q (F0 m pc ls rest) := by
  obtain ⟨hx, hb, hr, hml, hown, hts, hlocks, hA, hK, hN⟩ := F
  obtain ⟨hP, hD, hS⟩ := G
  refine va_new (ci := 13) (fs := [.int 0, .null, .int 0]) (C := RX13) (T := TX13) (N := 3) hx hb hts in_X13 tyX13 tyX13_ok hown (hts _ q513) (hts _ q514) (hts _ q106) hK hP hD hS hA rfl (fun j hj => by rcases (show j = 0 ∨ j = 1 ∨ j = 2 by omega) with rfl | rfl | rfl <;> rfl) hc.1 hc.2 hd (fun y H1 hP hD hS => ?_)
  obtain ⟨h1, h2⟩ := has_new (e := .inr (13, [.int 0, .null, .int 0])) hD
  have hP : va_P D clA (cW a d S ++ [(y, pm d (.inr (13, [.int 0, .null, .int 0])))]) H1 := hP
  have hD : va_D A (cW a d S ++ [(y, pm d (.inr (13, [.int 0, .null, .int 0])))]) := hD
  rw [h2] at hP hD
  exact k y H1 h1 ⟨hP, hD, hS⟩
theorem pnX0_X7 (F : FC p s m meth c args D a d A RX0 cc nL ret) (G : GC D a d A s.heap S H locs) (hc : cells + 1 ≤ R.cells ∧ slots + 2 ≤ R.slots) (hd : decode cc pc = .ok (.new 13, 3)) (k : ∀ (y : Nat) (H : Heap), y ∉ S.2.2.1 → GC D a d A s.heap (cN S y (.inr (7, [.int 0, .int 0]))) H locs → W p l e R s m args below meth c H locs (cells + 1) (slots + 2) Q (F0 m (pc + 3) ls (.ref y :: rest))) : W p l e R s m args below meth c H locs cells slots Q (F0 m pc ls rest) := by
  obtain ⟨hx, hb, hr, hml, hown, hts, hlocks, hA, hK, hN⟩ := F
  obtain ⟨hP, hD, hS⟩ := G
  refine va_new (ci := 7) (fs := [.int 0, .int 0]) (C := RX7) (T := TX7) (N := 2) hx hb hts in_X7 tyX7 tyX7_ok hown (hts _ q562) (hts _ q563) (hts _ q92) hK hP hD hS hA rfl (fun j hj => by rcases (show j = 0 ∨ j = 1 by omega) with rfl | rfl <;> rfl) hc.1 hc.2 hd (fun y H1 hP hD hS => ?_)
  obtain ⟨h1, h2⟩ := has_new (e := .inr (7, [.int 0, .int 0])) hD
  have hP : va_P D clA (cW a d S ++ [(y, pm d (.inr (7, [.int 0, .int 0])))]) H1 := hP
  have hD : va_D A (cW a d S ++ [(y, pm d (.inr (7, [.int 0, .int 0])))]) := hD
  rw [h2] at hP hD
  exact k y H1 h1 ⟨hP, hD, hS⟩
theorem pnX0_X8 (F : FC p s m meth c args D a d A RX0 cc nL ret) (G : GC D a d A s.heap S H locs) (hc : cells + 1 ≤ R.cells ∧ slots + 2 ≤ R.slots) (hd : decode cc pc = .ok (.new 19, 3)) (k : ∀ (y : Nat) (H : Heap), y ∉ S.2.2.1 → GC D a d A s.heap (cN S y (.inr (8, [.int 0, .int 0]))) H locs → W p l e R s m args below meth c H locs (cells + 1) (slots + 2) Q (F0 m (pc + 3) ls (.ref y :: rest))) : W p l e R s m args below meth c H locs cells slots Q (F0 m pc ls rest) := by
  obtain ⟨hx, hb, hr, hml, hown, hts, hlocks, hA, hK, hN⟩ := F
  obtain ⟨hP, hD, hS⟩ := G
  refine va_new (ci := 8) (fs := [.int 0, .int 0]) (C := RX8) (T := TX8) (N := 2) hx hb hts in_X8 tyX8 tyX8_ok hown (hts _ q580) (hts _ q581) (hts _ q93) hK hP hD hS hA rfl (fun j hj => by rcases (show j = 0 ∨ j = 1 by omega) with rfl | rfl <;> rfl) hc.1 hc.2 hd (fun y H1 hP hD hS => ?_)
  obtain ⟨h1, h2⟩ := has_new (e := .inr (8, [.int 0, .int 0])) hD
  have hP : va_P D clA (cW a d S ++ [(y, pm d (.inr (8, [.int 0, .int 0])))]) H1 := hP
  have hD : va_D A (cW a d S ++ [(y, pm d (.inr (8, [.int 0, .int 0])))]) := hD
  rw [h2] at hP hD
  exact k y H1 h1 ⟨hP, hD, hS⟩
theorem pnX0_X9 (F : FC p s m meth c args D a d A RX0 cc nL ret) (G : GC D a d A s.heap S H locs) (hc : cells + 1 ≤ R.cells ∧ slots + 2 ≤ R.slots) (hd : decode cc pc = .ok (.new 22, 3)) (k : ∀ (y : Nat) (H : Heap), y ∉ S.2.2.1 → GC D a d A s.heap (cN S y (.inr (9, [.int 0, .int 0]))) H locs → W p l e R s m args below meth c H locs (cells + 1) (slots + 2) Q (F0 m (pc + 3) ls (.ref y :: rest))) : W p l e R s m args below meth c H locs cells slots Q (F0 m pc ls rest) := by
  obtain ⟨hx, hb, hr, hml, hown, hts, hlocks, hA, hK, hN⟩ := F
  obtain ⟨hP, hD, hS⟩ := G
  refine va_new (ci := 9) (fs := [.int 0, .int 0]) (C := RX9) (T := TX9) (N := 2) hx hb hts in_X9 tyX9 tyX9_ok hown (hts _ q589) (hts _ q590) (hts _ q94) hK hP hD hS hA rfl (fun j hj => by rcases (show j = 0 ∨ j = 1 by omega) with rfl | rfl <;> rfl) hc.1 hc.2 hd (fun y H1 hP hD hS => ?_)
  obtain ⟨h1, h2⟩ := has_new (e := .inr (9, [.int 0, .int 0])) hD
  have hP : va_P D clA (cW a d S ++ [(y, pm d (.inr (9, [.int 0, .int 0])))]) H1 := hP
  have hD : va_D A (cW a d S ++ [(y, pm d (.inr (9, [.int 0, .int 0])))]) := hD
  rw [h2] at hP hD
  exact k y H1 h1 ⟨hP, hD, hS⟩
theorem pnX0_X10 (F : FC p s m meth c args D a d A RX0 cc nL ret) (G : GC D a d A s.heap S H locs) (hc : cells + 1 ≤ R.cells ∧ slots + 2 ≤ R.slots) (hd : decode cc pc = .ok (.new 25, 3)) (k : ∀ (y : Nat) (H : Heap), y ∉ S.2.2.1 → GC D a d A s.heap (cN S y (.inr (10, [.int 0, .int 0]))) H locs → W p l e R s m args below meth c H locs (cells + 1) (slots + 2) Q (F0 m (pc + 3) ls (.ref y :: rest))) : W p l e R s m args below meth c H locs cells slots Q (F0 m pc ls rest) := by
  obtain ⟨hx, hb, hr, hml, hown, hts, hlocks, hA, hK, hN⟩ := F
  obtain ⟨hP, hD, hS⟩ := G
  refine va_new (ci := 10) (fs := [.int 0, .int 0]) (C := RX10) (T := TX10) (N := 2) hx hb hts in_X10 tyX10 tyX10_ok hown (hts _ q598) (hts _ q599) (hts _ q95) hK hP hD hS hA rfl (fun j hj => by rcases (show j = 0 ∨ j = 1 by omega) with rfl | rfl <;> rfl) hc.1 hc.2 hd (fun y H1 hP hD hS => ?_)
  obtain ⟨h1, h2⟩ := has_new (e := .inr (10, [.int 0, .int 0])) hD
  have hP : va_P D clA (cW a d S ++ [(y, pm d (.inr (10, [.int 0, .int 0])))]) H1 := hP
  have hD : va_D A (cW a d S ++ [(y, pm d (.inr (10, [.int 0, .int 0])))]) := hD
  rw [h2] at hP hD
  exact k y H1 h1 ⟨hP, hD, hS⟩
theorem pnX0_X11 (F : FC p s m meth c args D a d A RX0 cc nL ret) (G : GC D a d A s.heap S H locs) (hc : cells + 1 ≤ R.cells ∧ slots + 2 ≤ R.slots) (hd : decode cc pc = .ok (.new 28, 3)) (k : ∀ (y : Nat) (H : Heap), y ∉ S.2.2.1 → GC D a d A s.heap (cN S y (.inr (11, [.int 0, .int 0]))) H locs → W p l e R s m args below meth c H locs (cells + 1) (slots + 2) Q (F0 m (pc + 3) ls (.ref y :: rest))) : W p l e R s m args below meth c H locs cells slots Q (F0 m pc ls rest) := by
  obtain ⟨hx, hb, hr, hml, hown, hts, hlocks, hA, hK, hN⟩ := F
  obtain ⟨hP, hD, hS⟩ := G
  refine va_new (ci := 11) (fs := [.int 0, .int 0]) (C := RX11) (T := TX11) (N := 2) hx hb hts in_X11 tyX11 tyX11_ok hown (hts _ q607) (hts _ q608) (hts _ q96) hK hP hD hS hA rfl (fun j hj => by rcases (show j = 0 ∨ j = 1 by omega) with rfl | rfl <;> rfl) hc.1 hc.2 hd (fun y H1 hP hD hS => ?_)
  obtain ⟨h1, h2⟩ := has_new (e := .inr (11, [.int 0, .int 0])) hD
  have hP : va_P D clA (cW a d S ++ [(y, pm d (.inr (11, [.int 0, .int 0])))]) H1 := hP
  have hD : va_D A (cW a d S ++ [(y, pm d (.inr (11, [.int 0, .int 0])))]) := hD
  rw [h2] at hP hD
  exact k y H1 h1 ⟨hP, hD, hS⟩
theorem pnX0_X6 (F : FC p s m meth c args D a d A RX0 cc nL ret) (G : GC D a d A s.heap S H locs) (hc : cells + 1 ≤ R.cells ∧ slots + 2 ≤ R.slots) (hd : decode cc pc = .ok (.new 31, 3)) (k : ∀ (y : Nat) (H : Heap), y ∉ S.2.2.1 → GC D a d A s.heap (cN S y (.inr (6, [.int 0, .int 0]))) H locs → W p l e R s m args below meth c H locs (cells + 1) (slots + 2) Q (F0 m (pc + 3) ls (.ref y :: rest))) : W p l e R s m args below meth c H locs cells slots Q (F0 m pc ls rest) := by
  obtain ⟨hx, hb, hr, hml, hown, hts, hlocks, hA, hK, hN⟩ := F
  obtain ⟨hP, hD, hS⟩ := G
  refine va_new (ci := 6) (fs := [.int 0, .int 0]) (C := RX6) (T := TX6) (N := 2) hx hb hts in_X6 tyX6 tyX6_ok hown (hts _ q616) (hts _ q617) (hts _ q91) hK hP hD hS hA rfl (fun j hj => by rcases (show j = 0 ∨ j = 1 by omega) with rfl | rfl <;> rfl) hc.1 hc.2 hd (fun y H1 hP hD hS => ?_)
  obtain ⟨h1, h2⟩ := has_new (e := .inr (6, [.int 0, .int 0])) hD
  have hP : va_P D clA (cW a d S ++ [(y, pm d (.inr (6, [.int 0, .int 0])))]) H1 := hP
  have hD : va_D A (cW a d S ++ [(y, pm d (.inr (6, [.int 0, .int 0])))]) := hD
  rw [h2] at hP hD
  exact k y H1 h1 ⟨hP, hD, hS⟩
theorem pnX0_X14 (F : FC p s m meth c args D a d A RX0 cc nL ret) (G : GC D a d A s.heap S H locs) (hc : cells + 1 ≤ R.cells ∧ slots + 1 ≤ R.slots) (hd : decode cc pc = .ok (.new 487, 3)) (k : ∀ (y : Nat) (H : Heap), y ∉ S.2.2.1 → GC D a d A s.heap (cN S y (.inr (14, [.int 0]))) H locs → W p l e R s m args below meth c H locs (cells + 1) (slots + 1) Q (F0 m (pc + 3) ls (.ref y :: rest))) : W p l e R s m args below meth c H locs cells slots Q (F0 m pc ls rest) := by
  obtain ⟨hx, hb, hr, hml, hown, hts, hlocks, hA, hK, hN⟩ := F
  obtain ⟨hP, hD, hS⟩ := G
  refine va_new (ci := 14) (fs := [.int 0]) (C := RX14) (T := TX14) (N := 1) hx hb hts in_X14 tyX14 tyX14_ok hown (hts _ q1107) (hts _ q1108) (hts _ q108) hK hP hD hS hA rfl (fun j hj => by rcases (show j = 0 by omega) with rfl <;> rfl) hc.1 hc.2 hd (fun y H1 hP hD hS => ?_)
  obtain ⟨h1, h2⟩ := has_new (e := .inr (14, [.int 0])) hD
  have hP : va_P D clA (cW a d S ++ [(y, pm d (.inr (14, [.int 0])))]) H1 := hP
  have hD : va_D A (cW a d S ++ [(y, pm d (.inr (14, [.int 0])))]) := hD
  rw [h2] at hP hD
  exact k y H1 h1 ⟨hP, hD, hS⟩
theorem pnX1_X6 (F : FC p s m meth c args D a d A RX1 cc nL ret) (G : GC D a d A s.heap S H locs) (hc : cells + 1 ≤ R.cells ∧ slots + 2 ≤ R.slots) (hd : decode cc pc = .ok (.new 15, 3)) (k : ∀ (y : Nat) (H : Heap), y ∉ S.2.2.1 → GC D a d A s.heap (cN S y (.inr (6, [.int 0, .int 0]))) H locs → W p l e R s m args below meth c H locs (cells + 1) (slots + 2) Q (F0 m (pc + 3) ls (.ref y :: rest))) : W p l e R s m args below meth c H locs cells slots Q (F0 m pc ls rest) := by
  obtain ⟨hx, hb, hr, hml, hown, hts, hlocks, hA, hK, hN⟩ := F
  obtain ⟨hP, hD, hS⟩ := G
  refine va_new (ci := 6) (fs := [.int 0, .int 0]) (C := RX6) (T := TX6) (N := 2) hx hb hts in_X6 tyX6 tyX6_ok hown (hts _ q123) (hts _ q617) (hts _ q91) hK hP hD hS hA rfl (fun j hj => by rcases (show j = 0 ∨ j = 1 by omega) with rfl | rfl <;> rfl) hc.1 hc.2 hd (fun y H1 hP hD hS => ?_)
  obtain ⟨h1, h2⟩ := has_new (e := .inr (6, [.int 0, .int 0])) hD
  have hP : va_P D clA (cW a d S ++ [(y, pm d (.inr (6, [.int 0, .int 0])))]) H1 := hP
  have hD : va_D A (cW a d S ++ [(y, pm d (.inr (6, [.int 0, .int 0])))]) := hD
  rw [h2] at hP hD
  exact k y H1 h1 ⟨hP, hD, hS⟩
theorem pnX1_X13 (F : FC p s m meth c args D a d A RX1 cc nL ret) (G : GC D a d A s.heap S H locs) (hc : cells + 1 ≤ R.cells ∧ slots + 3 ≤ R.slots) (hd : decode cc pc = .ok (.new 28, 3)) (k : ∀ (y : Nat) (H : Heap), y ∉ S.2.2.1 → GC D a d A s.heap (cN S y (.inr (13, [.int 0, .null, .int 0]))) H locs → W p l e R s m args below meth c H locs (cells + 1) (slots + 3) Q (F0 m (pc + 3) ls (.ref y :: rest))) : W p l e R s m args below meth c H locs cells slots Q (F0 m pc ls rest) := by
  obtain ⟨hx, hb, hr, hml, hown, hts, hlocks, hA, hK, hN⟩ := F
  obtain ⟨hP, hD, hS⟩ := G
  refine va_new (ci := 13) (fs := [.int 0, .null, .int 0]) (C := RX13) (T := TX13) (N := 3) hx hb hts in_X13 tyX13 tyX13_ok hown (hts _ q125) (hts _ q514) (hts _ q106) hK hP hD hS hA rfl (fun j hj => by rcases (show j = 0 ∨ j = 1 ∨ j = 2 by omega) with rfl | rfl | rfl <;> rfl) hc.1 hc.2 hd (fun y H1 hP hD hS => ?_)
  obtain ⟨h1, h2⟩ := has_new (e := .inr (13, [.int 0, .null, .int 0])) hD
  have hP : va_P D clA (cW a d S ++ [(y, pm d (.inr (13, [.int 0, .null, .int 0])))]) H1 := hP
  have hD : va_D A (cW a d S ++ [(y, pm d (.inr (13, [.int 0, .null, .int 0])))]) := hD
  rw [h2] at hP hD
  exact k y H1 h1 ⟨hP, hD, hS⟩
theorem pnX10_X10 (F : FC p s m meth c args D a d A RX10 cc nL ret) (G : GC D a d A s.heap S H locs) (hc : cells + 1 ≤ R.cells ∧ slots + 2 ≤ R.slots) (hd : decode cc pc = .ok (.new 18, 3)) (k : ∀ (y : Nat) (H : Heap), y ∉ S.2.2.1 → GC D a d A s.heap (cN S y (.inr (10, [.int 0, .int 0]))) H locs → W p l e R s m args below meth c H locs (cells + 1) (slots + 2) Q (F0 m (pc + 3) ls (.ref y :: rest))) : W p l e R s m args below meth c H locs cells slots Q (F0 m pc ls rest) := by
  obtain ⟨hx, hb, hr, hml, hown, hts, hlocks, hA, hK, hN⟩ := F
  obtain ⟨hP, hD, hS⟩ := G
  refine va_new (ci := 10) (fs := [.int 0, .int 0]) (C := RX10) (T := TX10) (N := 2) hx hb hts in_X10 tyX10 tyX10_ok hown (hts _ q949) (hts _ q599) (hts _ q95) hK hP hD hS hA rfl (fun j hj => by rcases (show j = 0 ∨ j = 1 by omega) with rfl | rfl <;> rfl) hc.1 hc.2 hd (fun y H1 hP hD hS => ?_)
  obtain ⟨h1, h2⟩ := has_new (e := .inr (10, [.int 0, .int 0])) hD
  have hP : va_P D clA (cW a d S ++ [(y, pm d (.inr (10, [.int 0, .int 0])))]) H1 := hP
  have hD : va_D A (cW a d S ++ [(y, pm d (.inr (10, [.int 0, .int 0])))]) := hD
  rw [h2] at hP hD
  exact k y H1 h1 ⟨hP, hD, hS⟩
theorem pnX11_X11 (F : FC p s m meth c args D a d A RX11 cc nL ret) (G : GC D a d A s.heap S H locs) (hc : cells + 1 ≤ R.cells ∧ slots + 2 ≤ R.slots) (hd : decode cc pc = .ok (.new 13, 3)) (k : ∀ (y : Nat) (H : Heap), y ∉ S.2.2.1 → GC D a d A s.heap (cN S y (.inr (11, [.int 0, .int 0]))) H locs → W p l e R s m args below meth c H locs (cells + 1) (slots + 2) Q (F0 m (pc + 3) ls (.ref y :: rest))) : W p l e R s m args below meth c H locs cells slots Q (F0 m pc ls rest) := by
  obtain ⟨hx, hb, hr, hml, hown, hts, hlocks, hA, hK, hN⟩ := F
  obtain ⟨hP, hD, hS⟩ := G
  refine va_new (ci := 11) (fs := [.int 0, .int 0]) (C := RX11) (T := TX11) (N := 2) hx hb hts in_X11 tyX11 tyX11_ok hown (hts _ q939) (hts _ q608) (hts _ q96) hK hP hD hS hA rfl (fun j hj => by rcases (show j = 0 ∨ j = 1 by omega) with rfl | rfl <;> rfl) hc.1 hc.2 hd (fun y H1 hP hD hS => ?_)
  obtain ⟨h1, h2⟩ := has_new (e := .inr (11, [.int 0, .int 0])) hD
  have hP : va_P D clA (cW a d S ++ [(y, pm d (.inr (11, [.int 0, .int 0])))]) H1 := hP
  have hD : va_D A (cW a d S ++ [(y, pm d (.inr (11, [.int 0, .int 0])))]) := hD
  rw [h2] at hP hD
  exact k y H1 h1 ⟨hP, hD, hS⟩
theorem pnX4_X6 (F : FC p s m meth c args D a d A RX4 cc nL ret) (G : GC D a d A s.heap S H locs) (hc : cells + 1 ≤ R.cells ∧ slots + 2 ≤ R.slots) (hd : decode cc pc = .ok (.new 13, 3)) (k : ∀ (y : Nat) (H : Heap), y ∉ S.2.2.1 → GC D a d A s.heap (cN S y (.inr (6, [.int 0, .int 0]))) H locs → W p l e R s m args below meth c H locs (cells + 1) (slots + 2) Q (F0 m (pc + 3) ls (.ref y :: rest))) : W p l e R s m args below meth c H locs cells slots Q (F0 m pc ls rest) := by
  obtain ⟨hx, hb, hr, hml, hown, hts, hlocks, hA, hK, hN⟩ := F
  obtain ⟨hP, hD, hS⟩ := G
  refine va_new (ci := 6) (fs := [.int 0, .int 0]) (C := RX6) (T := TX6) (N := 2) hx hb hts in_X6 tyX6 tyX6_ok hown (hts _ q1089) (hts _ q617) (hts _ q91) hK hP hD hS hA rfl (fun j hj => by rcases (show j = 0 ∨ j = 1 by omega) with rfl | rfl <;> rfl) hc.1 hc.2 hd (fun y H1 hP hD hS => ?_)
  obtain ⟨h1, h2⟩ := has_new (e := .inr (6, [.int 0, .int 0])) hD
  have hP : va_P D clA (cW a d S ++ [(y, pm d (.inr (6, [.int 0, .int 0])))]) H1 := hP
  have hD : va_D A (cW a d S ++ [(y, pm d (.inr (6, [.int 0, .int 0])))]) := hD
  rw [h2] at hP hD
  exact k y H1 h1 ⟨hP, hD, hS⟩
theorem pnX4_X3 (F : FC p s m meth c args D a d A RX4 cc nL ret) (G : GC D a d A s.heap S H locs) (hc : cells + 1 ≤ R.cells ∧ slots + 1 ≤ R.slots) (hd : decode cc pc = .ok (.new 15, 3)) (k : ∀ (y : Nat) (H : Heap), y ∉ S.2.2.1 → GC D a d A s.heap (cN S y (.inr (3, [.null]))) H locs → W p l e R s m args below meth c H locs (cells + 1) (slots + 1) Q (F0 m (pc + 3) ls (.ref y :: rest))) : W p l e R s m args below meth c H locs cells slots Q (F0 m pc ls rest) := by
  obtain ⟨hx, hb, hr, hml, hown, hts, hlocks, hA, hK, hN⟩ := F
  obtain ⟨hP, hD, hS⟩ := G
  refine va_new (ci := 3) (fs := [.null]) (C := RX3) (T := TX3) (N := 1) hx hb hts in_X3 tyX3 tyX3_ok hown (hts _ q1090) (hts _ q247) (hts _ q88) hK hP hD hS hA rfl (fun j hj => by rcases (show j = 0 by omega) with rfl <;> rfl) hc.1 hc.2 hd (fun y H1 hP hD hS => ?_)
  obtain ⟨h1, h2⟩ := has_new (e := .inr (3, [.null])) hD
  have hP : va_P D clA (cW a d S ++ [(y, pm d (.inr (3, [.null])))]) H1 := hP
  have hD : va_D A (cW a d S ++ [(y, pm d (.inr (3, [.null])))]) := hD
  rw [h2] at hP hD
  exact k y H1 h1 ⟨hP, hD, hS⟩
theorem pnX6_X6 (F : FC p s m meth c args D a d A RX6 cc nL ret) (G : GC D a d A s.heap S H locs) (hc : cells + 1 ≤ R.cells ∧ slots + 2 ≤ R.slots) (hd : decode cc pc = .ok (.new 10, 3)) (k : ∀ (y : Nat) (H : Heap), y ∉ S.2.2.1 → GC D a d A s.heap (cN S y (.inr (6, [.int 0, .int 0]))) H locs → W p l e R s m args below meth c H locs (cells + 1) (slots + 2) Q (F0 m (pc + 3) ls (.ref y :: rest))) : W p l e R s m args below meth c H locs cells slots Q (F0 m pc ls rest) := by
  obtain ⟨hx, hb, hr, hml, hown, hts, hlocks, hA, hK, hN⟩ := F
  obtain ⟨hP, hD, hS⟩ := G
  refine va_new (ci := 6) (fs := [.int 0, .int 0]) (C := RX6) (T := TX6) (N := 2) hx hb hts in_X6 tyX6 tyX6_ok hown (hts _ q962) (hts _ q617) (hts _ q91) hK hP hD hS hA rfl (fun j hj => by rcases (show j = 0 ∨ j = 1 by omega) with rfl | rfl <;> rfl) hc.1 hc.2 hd (fun y H1 hP hD hS => ?_)
  obtain ⟨h1, h2⟩ := has_new (e := .inr (6, [.int 0, .int 0])) hD
  have hP : va_P D clA (cW a d S ++ [(y, pm d (.inr (6, [.int 0, .int 0])))]) H1 := hP
  have hD : va_D A (cW a d S ++ [(y, pm d (.inr (6, [.int 0, .int 0])))]) := hD
  rw [h2] at hP hD
  exact k y H1 h1 ⟨hP, hD, hS⟩
theorem pnX7_X7 (F : FC p s m meth c args D a d A RX7 cc nL ret) (G : GC D a d A s.heap S H locs) (hc : cells + 1 ≤ R.cells ∧ slots + 2 ≤ R.slots) (hd : decode cc pc = .ok (.new 17, 3)) (k : ∀ (y : Nat) (H : Heap), y ∉ S.2.2.1 → GC D a d A s.heap (cN S y (.inr (7, [.int 0, .int 0]))) H locs → W p l e R s m args below meth c H locs (cells + 1) (slots + 2) Q (F0 m (pc + 3) ls (.ref y :: rest))) : W p l e R s m args below meth c H locs cells slots Q (F0 m pc ls rest) := by
  obtain ⟨hx, hb, hr, hml, hown, hts, hlocks, hA, hK, hN⟩ := F
  obtain ⟨hP, hD, hS⟩ := G
  refine va_new (ci := 7) (fs := [.int 0, .int 0]) (C := RX7) (T := TX7) (N := 2) hx hb hts in_X7 tyX7 tyX7_ok hown (hts _ q944) (hts _ q563) (hts _ q92) hK hP hD hS hA rfl (fun j hj => by rcases (show j = 0 ∨ j = 1 by omega) with rfl | rfl <;> rfl) hc.1 hc.2 hd (fun y H1 hP hD hS => ?_)
  obtain ⟨h1, h2⟩ := has_new (e := .inr (7, [.int 0, .int 0])) hD
  have hP : va_P D clA (cW a d S ++ [(y, pm d (.inr (7, [.int 0, .int 0])))]) H1 := hP
  have hD : va_D A (cW a d S ++ [(y, pm d (.inr (7, [.int 0, .int 0])))]) := hD
  rw [h2] at hP hD
  exact k y H1 h1 ⟨hP, hD, hS⟩
theorem pnX8_X8 (F : FC p s m meth c args D a d A RX8 cc nL ret) (G : GC D a d A s.heap S H locs) (hc : cells + 1 ≤ R.cells ∧ slots + 2 ≤ R.slots) (hd : decode cc pc = .ok (.new 10, 3)) (k : ∀ (y : Nat) (H : Heap), y ∉ S.2.2.1 → GC D a d A s.heap (cN S y (.inr (8, [.int 0, .int 0]))) H locs → W p l e R s m args below meth c H locs (cells + 1) (slots + 2) Q (F0 m (pc + 3) ls (.ref y :: rest))) : W p l e R s m args below meth c H locs cells slots Q (F0 m pc ls rest) := by
  obtain ⟨hx, hb, hr, hml, hown, hts, hlocks, hA, hK, hN⟩ := F
  obtain ⟨hP, hD, hS⟩ := G
  refine va_new (ci := 8) (fs := [.int 0, .int 0]) (C := RX8) (T := TX8) (N := 2) hx hb hts in_X8 tyX8 tyX8_ok hown (hts _ q959) (hts _ q581) (hts _ q93) hK hP hD hS hA rfl (fun j hj => by rcases (show j = 0 ∨ j = 1 by omega) with rfl | rfl <;> rfl) hc.1 hc.2 hd (fun y H1 hP hD hS => ?_)
  obtain ⟨h1, h2⟩ := has_new (e := .inr (8, [.int 0, .int 0])) hD
  have hP : va_P D clA (cW a d S ++ [(y, pm d (.inr (8, [.int 0, .int 0])))]) H1 := hP
  have hD : va_D A (cW a d S ++ [(y, pm d (.inr (8, [.int 0, .int 0])))]) := hD
  rw [h2] at hP hD
  exact k y H1 h1 ⟨hP, hD, hS⟩
theorem pnX9_X9 (F : FC p s m meth c args D a d A RX9 cc nL ret) (G : GC D a d A s.heap S H locs) (hc : cells + 1 ≤ R.cells ∧ slots + 2 ≤ R.slots) (hd : decode cc pc = .ok (.new 18, 3)) (k : ∀ (y : Nat) (H : Heap), y ∉ S.2.2.1 → GC D a d A s.heap (cN S y (.inr (9, [.int 0, .int 0]))) H locs → W p l e R s m args below meth c H locs (cells + 1) (slots + 2) Q (F0 m (pc + 3) ls (.ref y :: rest))) : W p l e R s m args below meth c H locs cells slots Q (F0 m pc ls rest) := by
  obtain ⟨hx, hb, hr, hml, hown, hts, hlocks, hA, hK, hN⟩ := F
  obtain ⟨hP, hD, hS⟩ := G
  refine va_new (ci := 9) (fs := [.int 0, .int 0]) (C := RX9) (T := TX9) (N := 2) hx hb hts in_X9 tyX9 tyX9_ok hown (hts _ q954) (hts _ q590) (hts _ q94) hK hP hD hS hA rfl (fun j hj => by rcases (show j = 0 ∨ j = 1 by omega) with rfl | rfl <;> rfl) hc.1 hc.2 hd (fun y H1 hP hD hS => ?_)
  obtain ⟨h1, h2⟩ := has_new (e := .inr (9, [.int 0, .int 0])) hD
  have hP : va_P D clA (cW a d S ++ [(y, pm d (.inr (9, [.int 0, .int 0])))]) H1 := hP
  have hD : va_D A (cW a d S ++ [(y, pm d (.inr (9, [.int 0, .int 0])))]) := hD
  rw [h2] at hP hD
  exact k y H1 h1 ⟨hP, hD, hS⟩
theorem p_new_int {n : Int32} {N : Nat} (F : FC p s m meth c args D a d A own cc nL ret) (G : GC D a d A s.heap S H locs) (hn : ¬ n < 0) (hle : n.toNatClampNeg ≤ N) (hb0 : N ≤ 1000) (hc : cells + 1 ≤ R.cells ∧ slots + N ≤ R.slots) (hd : decode cc pc = .ok (.newarray .int, 2)) (k : ∀ (y : Nat) (H : Heap), y ∉ S.2.2.1 → GC D a d A s.heap (cN S y (.inl (0, n.toNatClampNeg, .inl (fun _ => 0)))) H locs → W p l e R s m args below meth c H locs (cells + 1) (slots + N) Q (F0 m (pc + 2) ls (.ref y :: rest))) : W p l e R s m args below meth c H locs cells slots Q (F0 m pc ls (.int n :: rest)) := by
  obtain ⟨hx, hb, hr, hml, hown, hts, hlocks, hA, hK, hN⟩ := F
  obtain ⟨hP, hD, hS⟩ := G
  have hby : n.toNatClampNeg * componentBytes .int ≤ 536870912 := Nat.le_trans (Nat.mul_le_mul (Nat.le_trans hle hb0) (show componentBytes .int ≤ 8 by decide)) (by decide)
  refine va_newa (atype := .int) (ty := .int) (a0 := (n.toNatClampNeg, .inl (fun _ => 0))) hx hb (hts _ q176) rfl hK hP hD hS hA (fun cA => rfl) hn rfl hby hc.1 (Nat.le_trans (Nat.add_le_add_left hle _) hc.2) hd (fun y cA H1 hK2 hP hD hS => ?_)
  have e1 : s.vm.findClass _ = some cA := (hK2.2 8 (cA, .int) rfl).2
  have e2 : s.vm.findClass _ = some (d 0) := (hK.2 0 (d 0, .int) rfl).2
  have e3 : cA = d 0 := Option.some.inj (e1.symm.trans e2)
  subst e3
  obtain ⟨h1, h2⟩ := has_new (e := .inl (0, n.toNatClampNeg, .inl (fun _ => 0))) hD
  have hP : va_P D clA (cW a d S ++ [(y, pm d (.inl (0, n.toNatClampNeg, .inl (fun _ => 0))))]) H1 := hP
  have hD : va_D A (cW a d S ++ [(y, pm d (.inl (0, n.toNatClampNeg, .inl (fun _ => 0))))]) := hD
  rw [h2] at hP hD
  exact W.widen (k := cells + 1) (n := slots + N) (Nat.le_refl _) (Nat.add_le_add_left hle _) (k y H1 h1 ⟨hP, hD, hS⟩)
theorem p_new_float {n : Int32} {N : Nat} (F : FC p s m meth c args D a d A own cc nL ret) (G : GC D a d A s.heap S H locs) (hn : ¬ n < 0) (hle : n.toNatClampNeg ≤ N) (hb0 : N ≤ 1000) (hc : cells + 1 ≤ R.cells ∧ slots + N ≤ R.slots) (hd : decode cc pc = .ok (.newarray .float, 2)) (k : ∀ (y : Nat) (H : Heap), y ∉ S.2.2.1 → GC D a d A s.heap (cN S y (.inl (6, n.toNatClampNeg, .inr (.inr (.inl (fun _ => 0)))))) H locs → W p l e R s m args below meth c H locs (cells + 1) (slots + N) Q (F0 m (pc + 2) ls (.ref y :: rest))) : W p l e R s m args below meth c H locs cells slots Q (F0 m pc ls (.int n :: rest)) := by
  obtain ⟨hx, hb, hr, hml, hown, hts, hlocks, hA, hK, hN⟩ := F
  obtain ⟨hP, hD, hS⟩ := G
  have hby : n.toNatClampNeg * componentBytes .float ≤ 536870912 := Nat.le_trans (Nat.mul_le_mul (Nat.le_trans hle hb0) (show componentBytes .float ≤ 8 by decide)) (by decide)
  refine va_newa (atype := .float) (ty := .float) (a0 := (n.toNatClampNeg, .inr (.inr (.inl (fun _ => 0))))) hx hb (hts _ q351) rfl hK hP hD hS hA (fun cA => rfl) hn rfl hby hc.1 (Nat.le_trans (Nat.add_le_add_left hle _) hc.2) hd (fun y cA H1 hK2 hP hD hS => ?_)
  have e1 : s.vm.findClass _ = some cA := (hK2.2 8 (cA, .float) rfl).2
  have e2 : s.vm.findClass _ = some (d 6) := (hK.2 6 (d 6, .float) rfl).2
  have e3 : cA = d 6 := Option.some.inj (e1.symm.trans e2)
  subst e3
  obtain ⟨h1, h2⟩ := has_new (e := .inl (6, n.toNatClampNeg, .inr (.inr (.inl (fun _ => 0))))) hD
  have hP : va_P D clA (cW a d S ++ [(y, pm d (.inl (6, n.toNatClampNeg, .inr (.inr (.inl (fun _ => 0))))))]) H1 := hP
  have hD : va_D A (cW a d S ++ [(y, pm d (.inl (6, n.toNatClampNeg, .inr (.inr (.inl (fun _ => 0))))))]) := hD
  rw [h2] at hP hD
  exact W.widen (k := cells + 1) (n := slots + N) (Nat.le_refl _) (Nat.add_le_add_left hle _) (k y H1 h1 ⟨hP, hD, hS⟩)
theorem p_new_short {n : Int32} {N : Nat} (F : FC p s m meth c args D a d A own cc nL ret) (G : GC D a d A s.heap S H locs) (hn : ¬ n < 0) (hle : n.toNatClampNeg ≤ N) (hb0 : N ≤ 1000) (hc : cells + 1 ≤ R.cells ∧ slots + N ≤ R.slots) (hd : decode cc pc = .ok (.newarray .short, 2)) (k : ∀ (y : Nat) (H : Heap), y ∉ S.2.2.1 → GC D a d A s.heap (cN S y (.inl (7, n.toNatClampNeg, .inl (fun _ => 0)))) H locs → W p l e R s m args below meth c H locs (cells + 1) (slots + N) Q (F0 m (pc + 2) ls (.ref y :: rest))) : W p l e R s m args below meth c H locs cells slots Q (F0 m pc ls (.int n :: rest)) := by
  obtain ⟨hx, hb, hr, hml, hown, hts, hlocks, hA, hK, hN⟩ := F
  obtain ⟨hP, hD, hS⟩ := G
  have hby : n.toNatClampNeg * componentBytes .short ≤ 536870912 := Nat.le_trans (Nat.mul_le_mul (Nat.le_trans hle hb0) (show componentBytes .short ≤ 8 by decide)) (by decide)
  refine va_newa (atype := .short) (ty := .short) (a0 := (n.toNatClampNeg, .inl (fun _ => 0))) hx hb (hts _ q1010) rfl hK hP hD hS hA (fun cA => rfl) hn rfl hby hc.1 (Nat.le_trans (Nat.add_le_add_left hle _) hc.2) hd (fun y cA H1 hK2 hP hD hS => ?_)
  have e1 : s.vm.findClass _ = some cA := (hK2.2 8 (cA, .short) rfl).2
  have e2 : s.vm.findClass _ = some (d 7) := (hK.2 7 (d 7, .short) rfl).2
  have e3 : cA = d 7 := Option.some.inj (e1.symm.trans e2)
  subst e3
  obtain ⟨h1, h2⟩ := has_new (e := .inl (7, n.toNatClampNeg, .inl (fun _ => 0))) hD
  have hP : va_P D clA (cW a d S ++ [(y, pm d (.inl (7, n.toNatClampNeg, .inl (fun _ => 0))))]) H1 := hP
  have hD : va_D A (cW a d S ++ [(y, pm d (.inl (7, n.toNatClampNeg, .inl (fun _ => 0))))]) := hD
  rw [h2] at hP hD
  exact W.widen (k := cells + 1) (n := slots + N) (Nat.le_refl _) (Nat.add_le_add_left hle _) (k y H1 h1 ⟨hP, hD, hS⟩)
end
