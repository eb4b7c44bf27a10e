set_option maxRecDepth 100000
def sby : Nat → List Int32
  | 0 => [97, 103, 97, 105, 110]
  | 1 => [102, 101, 101]
  | _ => [102, 105, 110, 101]
section
variable {p : Program} {l : Launch} {e : Env} {R : Room} {s : State} {m : MethodId} {args : Array Value} {below : List Frame} {meth : Method} {c : Code} {H : Heap} {locs : List Loc} {cells slots : Nat} {Q : State → Prop} {D : va_G} {a : Nat → Nat} {d : Nat → ClassId} {A : Nat → Prop} {S : CS} {own : String} {cc : ByteArray} {nL : Nat} {ret : Option FieldType} {pc : Nat} {ls : Array Slot} {rest : List Value}
theorem st_value_100 (F : FC p s m meth c args D a d A RJ5 cc nL ret) (G : GC D a d A s.heap S H locs) (hd : decode cc pc = .ok (.getfield 9, 3)) (k : W p l e R s m args below meth c H locs cells slots Q (F0 m (pc + 3) ls (.ref (a 110) :: rest))) : W p l e R s m args below meth c H locs cells slots Q (F0 m pc ls (.ref (a 100) :: rest)) := by
  obtain ⟨hx, hb, hr, hml, hown, hts, hlocks, hA, hK, hN⟩ := F
  obtain ⟨hP, hD, hS⟩ := G
  obtain ⟨z1, z2, z3, z4, z5, z6, z7, z8⟩ := hN.2.2.2.2
  exact vk_getf hx hb (z4.1 0 (by decide)).2.2.1 hS hown (hts _ q1703) (fun _ h => h) hd k
theorem st_coder_100 (F : FC p s m meth c args D a d A RJ5 cc nL ret) (G : GC D a d A s.heap S H locs) (hd : decode cc pc = .ok (.getfield 15, 3)) (k : W p l e R s m args below meth c H locs cells slots Q (F0 m (pc + 3) ls (.int 0 :: rest))) : W p l e R s m args below meth c H locs cells slots Q (F0 m pc ls (.ref (a 100) :: rest)) := by
  obtain ⟨hx, hb, hr, hml, hown, hts, hlocks, hA, hK, hN⟩ := F
  obtain ⟨hP, hD, hS⟩ := G
  obtain ⟨z1, z2, z3, z4, z5, z6, z7, z8⟩ := hN.2.2.2.2
  exact vk_getf hx hb (z4.1 0 (by decide)).2.1 hS hown (hts _ q1704) (fun _ h => h) hd k
theorem st_len_110 (F : FC p s m meth c args D a d A own cc nL ret) (G : GC D a d A s.heap S H locs) (hd : decode cc pc = .ok (.arraylength, 1)) (k : W p l e R s m args below meth c H locs cells slots Q (F0 m (pc + 1) ls (.int 5 :: rest))) : W p l e R s m args below meth c H locs cells slots Q (F0 m pc ls (.ref (a 110) :: rest)) := by
  obtain ⟨hx, hb, hr, hml, hown, hts, hlocks, hA, hK, hN⟩ := F
  obtain ⟨hP, hD, hS⟩ := G
  obtain ⟨z1, z2, z3, z4, z5, z6, z7, z8⟩ := hN.2.2.2.2
  exact va_tlen hx hb (z4.1 0 (by decide)).2.2.2 hS (v := 5) (by decide) hd k
theorem st_byte_110 {i : Int32} (F : FC p s m meth c args D a d A own cc nL ret) (G : GC D a d A s.heap S H locs) (hi : vp_in i 5) (hd : decode cc pc = .ok (.baload, 1)) (k : W p l e R s m args below meth c H locs cells slots Q (F0 m (pc + 1) ls (.int ((sby 0).getD i.toNatClampNeg 0) :: rest))) : W p l e R s m args below meth c H locs cells slots Q (F0 m pc ls (.int i :: .ref (a 110) :: rest)) := by
  obtain ⟨hx, hb, hr, hml, hown, hts, hlocks, hA, hK, hN⟩ := F
  obtain ⟨hP, hD, hS⟩ := G
  obtain ⟨z1, z2, z3, z4, z5, z6, z7, z8⟩ := hN.2.2.2.2
  exact va_tb hx hb (z4.1 0 (by decide)).2.2.2 hS hi rfl hd k
theorem st_ldc_100 (F : FC p s m meth c args D a d A RX0 cc nL ret) (G : GC D a d A s.heap S H locs) (hd : decode cc pc = .ok (.ldc 214, 2)) (k : W p l e R s m args below meth c H locs cells slots Q (F0 m (pc + 2) ls (.ref (a 100) :: rest))) : W p l e R s m args below meth c H locs cells slots Q (F0 m pc ls (rest)) := by
  obtain ⟨hx, hb, hr, hml, hown, hts, hlocks, hA, hK, hN⟩ := F
  obtain ⟨hP, hD, hS⟩ := G
  obtain ⟨z1, z2, z3, z4, z5, z6, z7, z8⟩ := hN.2.2.2.2
  exact va_ldcS hx hb hown z1 hd k
theorem st_recv_100 (F : FC p s m meth c args D a d A own cc nL ret) (G : GC D a d A s.heap S H locs) : ∃ cell : Cell, H[a 100]? = some cell ∧ cell.vm.isStatics = false ∧ s.vm.findClass RJ5 = some cell.cls := by
  obtain ⟨hx, hb, hr, hml, hown, hts, hlocks, hA, hK, hN⟩ := F
  obtain ⟨hP, hD, hS⟩ := G
  obtain ⟨z1, z2, z3, z4, z5, z6, z7, z8⟩ := hN.2.2.2.2
  exact vk_recv (i := 0) z4 (by decide) hS
theorem st_value_101 (F : FC p s m meth c args D a d A RJ5 cc nL ret) (G : GC D a d A s.heap S H locs) (hd : decode cc pc = .ok (.getfield 9, 3)) (k : W p l e R s m args below meth c H locs cells slots Q (F0 m (pc + 3) ls (.ref (a 111) :: rest))) : W p l e R s m args below meth c H locs cells slots Q (F0 m pc ls (.ref (a 101) :: rest)) := by
  obtain ⟨hx, hb, hr, hml, hown, hts, hlocks, hA, hK, hN⟩ := F
  obtain ⟨hP, hD, hS⟩ := G
  obtain ⟨z1, z2, z3, z4, z5, z6, z7, z8⟩ := hN.2.2.2.2
  exact vk_getf hx hb (z4.1 1 (by decide)).2.2.1 hS hown (hts _ q1703) (fun _ h => h) hd k
theorem st_coder_101 (F : FC p s m meth c args D a d A RJ5 cc nL ret) (G : GC D a d A s.heap S H locs) (hd : decode cc pc = .ok (.getfield 15, 3)) (k : W p l e R s m args below meth c H locs cells slots Q (F0 m (pc + 3) ls (.int 0 :: rest))) : W p l e R s m args below meth c H locs cells slots Q (F0 m pc ls (.ref (a 101) :: rest)) := by
  obtain ⟨hx, hb, hr, hml, hown, hts, hlocks, hA, hK, hN⟩ := F
  obtain ⟨hP, hD, hS⟩ := G
  obtain ⟨z1, z2, z3, z4, z5, z6, z7, z8⟩ := hN.2.2.2.2
  exact vk_getf hx hb (z4.1 1 (by decide)).2.1 hS hown (hts _ q1704) (fun _ h => h) hd k
theorem st_len_111 (F : FC p s m meth c args D a d A own cc nL ret) (G : GC D a d A s.heap S H locs) (hd : decode cc pc = .ok (.arraylength, 1)) (k : W p l e R s m args below meth c H locs cells slots Q (F0 m (pc + 1) ls (.int 3 :: rest))) : W p l e R s m args below meth c H locs cells slots Q (F0 m pc ls (.ref (a 111) :: rest)) := by
  obtain ⟨hx, hb, hr, hml, hown, hts, hlocks, hA, hK, hN⟩ := F
  obtain ⟨hP, hD, hS⟩ := G
  obtain ⟨z1, z2, z3, z4, z5, z6, z7, z8⟩ := hN.2.2.2.2
  exact va_tlen hx hb (z4.1 1 (by decide)).2.2.2 hS (v := 3) (by decide) hd k
theorem st_byte_111 {i : Int32} (F : FC p s m meth c args D a d A own cc nL ret) (G : GC D a d A s.heap S H locs) (hi : vp_in i 3) (hd : decode cc pc = .ok (.baload, 1)) (k : W p l e R s m args below meth c H locs cells slots Q (F0 m (pc + 1) ls (.int ((sby 1).getD i.toNatClampNeg 0) :: rest))) : W p l e R s m args below meth c H locs cells slots Q (F0 m pc ls (.int i :: .ref (a 111) :: rest)) := by
  obtain ⟨hx, hb, hr, hml, hown, hts, hlocks, hA, hK, hN⟩ := F
  obtain ⟨hP, hD, hS⟩ := G
  obtain ⟨z1, z2, z3, z4, z5, z6, z7, z8⟩ := hN.2.2.2.2
  exact va_tb hx hb (z4.1 1 (by decide)).2.2.2 hS hi rfl hd k
theorem st_ldc_101 (F : FC p s m meth c args D a d A RX0 cc nL ret) (G : GC D a d A s.heap S H locs) (hd : decode cc pc = .ok (.ldc 220, 2)) (k : W p l e R s m args below meth c H locs cells slots Q (F0 m (pc + 2) ls (.ref (a 101) :: rest))) : W p l e R s m args below meth c H locs cells slots Q (F0 m pc ls (rest)) := by
  obtain ⟨hx, hb, hr, hml, hown, hts, hlocks, hA, hK, hN⟩ := F
  obtain ⟨hP, hD, hS⟩ := G
  obtain ⟨z1, z2, z3, z4, z5, z6, z7, z8⟩ := hN.2.2.2.2
  exact va_ldcS hx hb hown z2 hd k
theorem st_recv_101 (F : FC p s m meth c args D a d A own cc nL ret) (G : GC D a d A s.heap S H locs) : ∃ cell : Cell, H[a 101]? = some cell ∧ cell.vm.isStatics = false ∧ s.vm.findClass RJ5 = some cell.cls := by
  obtain ⟨hx, hb, hr, hml, hown, hts, hlocks, hA, hK, hN⟩ := F
  obtain ⟨hP, hD, hS⟩ := G
  obtain ⟨z1, z2, z3, z4, z5, z6, z7, z8⟩ := hN.2.2.2.2
  exact vk_recv (i := 1) z4 (by decide) hS
theorem st_value_102 (F : FC p s m meth c args D a d A RJ5 cc nL ret) (G : GC D a d A s.heap S H locs) (hd : decode cc pc = .ok (.getfield 9, 3)) (k : W p l e R s m args below meth c H locs cells slots Q (F0 m (pc + 3) ls (.ref (a 112) :: rest))) : W p l e R s m args below meth c H locs cells slots Q (F0 m pc ls (.ref (a 102) :: rest)) := by
  obtain ⟨hx, hb, hr, hml, hown, hts, hlocks, hA, hK, hN⟩ := F
  obtain ⟨hP, hD, hS⟩ := G
  obtain ⟨z1, z2, z3, z4, z5, z6, z7, z8⟩ := hN.2.2.2.2
  exact vk_getf hx hb (z4.1 2 (by decide)).2.2.1 hS hown (hts _ q1703) (fun _ h => h) hd k
theorem st_coder_102 (F : FC p s m meth c args D a d A RJ5 cc nL ret) (G : GC D a d A s.heap S H locs) (hd : decode cc pc = .ok (.getfield 15, 3)) (k : W p l e R s m args below meth c H locs cells slots Q (F0 m (pc + 3) ls (.int 0 :: rest))) : W p l e R s m args below meth c H locs cells slots Q (F0 m pc ls (.ref (a 102) :: rest)) := by
  obtain ⟨hx, hb, hr, hml, hown, hts, hlocks, hA, hK, hN⟩ := F
  obtain ⟨hP, hD, hS⟩ := G
  obtain ⟨z1, z2, z3, z4, z5, z6, z7, z8⟩ := hN.2.2.2.2
  exact vk_getf hx hb (z4.1 2 (by decide)).2.1 hS hown (hts _ q1704) (fun _ h => h) hd k
theorem st_len_112 (F : FC p s m meth c args D a d A own cc nL ret) (G : GC D a d A s.heap S H locs) (hd : decode cc pc = .ok (.arraylength, 1)) (k : W p l e R s m args below meth c H locs cells slots Q (F0 m (pc + 1) ls (.int 4 :: rest))) : W p l e R s m args below meth c H locs cells slots Q (F0 m pc ls (.ref (a 112) :: rest)) := by
  obtain ⟨hx, hb, hr, hml, hown, hts, hlocks, hA, hK, hN⟩ := F
  obtain ⟨hP, hD, hS⟩ := G
  obtain ⟨z1, z2, z3, z4, z5, z6, z7, z8⟩ := hN.2.2.2.2
  exact va_tlen hx hb (z4.1 2 (by decide)).2.2.2 hS (v := 4) (by decide) hd k
theorem st_byte_112 {i : Int32} (F : FC p s m meth c args D a d A own cc nL ret) (G : GC D a d A s.heap S H locs) (hi : vp_in i 4) (hd : decode cc pc = .ok (.baload, 1)) (k : W p l e R s m args below meth c H locs cells slots Q (F0 m (pc + 1) ls (.int ((sby 2).getD i.toNatClampNeg 0) :: rest))) : W p l e R s m args below meth c H locs cells slots Q (F0 m pc ls (.int i :: .ref (a 112) :: rest)) := by
  obtain ⟨hx, hb, hr, hml, hown, hts, hlocks, hA, hK, hN⟩ := F
  obtain ⟨hP, hD, hS⟩ := G
  obtain ⟨z1, z2, z3, z4, z5, z6, z7, z8⟩ := hN.2.2.2.2
  exact va_tb hx hb (z4.1 2 (by decide)).2.2.2 hS hi rfl hd k
theorem st_ldc_102 (F : FC p s m meth c args D a d A RX0 cc nL ret) (G : GC D a d A s.heap S H locs) (hd : decode cc pc = .ok (.ldc 222, 2)) (k : W p l e R s m args below meth c H locs cells slots Q (F0 m (pc + 2) ls (.ref (a 102) :: rest))) : W p l e R s m args below meth c H locs cells slots Q (F0 m pc ls (rest)) := by
  obtain ⟨hx, hb, hr, hml, hown, hts, hlocks, hA, hK, hN⟩ := F
  obtain ⟨hP, hD, hS⟩ := G
  obtain ⟨z1, z2, z3, z4, z5, z6, z7, z8⟩ := hN.2.2.2.2
  exact va_ldcS hx hb hown z3 hd k
theorem st_recv_102 (F : FC p s m meth c args D a d A own cc nL ret) (G : GC D a d A s.heap S H locs) : ∃ cell : Cell, H[a 102]? = some cell ∧ cell.vm.isStatics = false ∧ s.vm.findClass RJ5 = some cell.cls := by
  obtain ⟨hx, hb, hr, hml, hown, hts, hlocks, hA, hK, hN⟩ := F
  obtain ⟨hP, hD, hS⟩ := G
  obtain ⟨z1, z2, z3, z4, z5, z6, z7, z8⟩ := hN.2.2.2.2
  exact vk_recv (i := 2) z4 (by decide) hS
theorem st_compact (F : FC p s m meth c args D a d A RJ5 cc nL ret) (G : GC D a d A s.heap S H locs) (hd : decode cc pc = .ok (.getstatic 38, 3)) (k : W p l e R s m args below meth c H locs cells slots Q (F0 m (pc + 3) ls (.int 1 :: rest))) : W p l e R s m args below meth c H locs cells slots Q (F0 m pc ls (rest)) := by
  obtain ⟨hx, hb, hr, hml, hown, hts, hlocks, hA, hK, hN⟩ := F
  obtain ⟨hP, hD, hS⟩ := G
  obtain ⟨z1, z2, z3, z4, z5, z6, z7, z8⟩ := hN.2.2.2.2
  exact va_gets hx hb z5 hS hown (hts _ q408) (fun _ h => h) hd k
theorem st_sioobe (F : FC p s m meth c args D a d A RJ5 cc nL ret) (G : GC D a d A s.heap S H locs) (hd : decode cc pc = .ok (.getstatic 1053, 3)) (k1 : W p l e R s m args below meth c H locs cells slots Q (F0 m (pc + 3) ls (.null :: rest))) (k2 : ∀ y : Nat, W p l e R s m args below meth c H locs cells slots Q (F0 m (pc + 3) ls (.ref y :: rest))) : W p l e R s m args below meth c H locs cells slots Q (F0 m pc ls (rest)) := by
  obtain ⟨hx, hb, hr, hml, hown, hts, hlocks, hA, hK, hN⟩ := F
  obtain ⟨hP, hD, hS⟩ := G
  obtain ⟨z1, z2, z3, z4, z5, z6, z7, z8⟩ := hN.2.2.2.2
  rcases z6 with h | ⟨t, h⟩
  · exact va_gets hx hb h hS hown (hts _ q424) (fun _ h => h) hd k1
  · exact va_gets hx hb h hS hown (hts _ q424) (fun _ h => h) hd (k2 t)
theorem c_nret {Q : Int32 → CS → Prop} {v : Int32} {ty : FieldType} (hz : narrow ty (.int v) = .int v) (F : FC p s m meth c args D a d A own cc nL (some ty)) (G : GC D a d A s.heap S H locs) (hd : decode cc pc = .ok (.ireturn, 1)) (h : Q v S) : wCi p l e R s m args below meth c D a d A Q cells slots H locs cells slots (F0 m pc ls [.int v]) := by
  obtain ⟨hx, hb, hr, hml, hown, hts, hlocks, hA, hK, hN⟩ := F
  obtain ⟨hP, hD, hS⟩ := G
  exact W.zret (v := v) hx hb hr hz (fun t ht hW => ⟨⟨v, S, rfl, h, by rw [ht]; exact hP, va_K.moved hW.alike hK, hD⟩, hS.F ht⟩) hS.2.2 hd
end
