-- ===== PART A: goes FIRST, ahead of the names: the tables' words, and 'selects' of the private methods out of them =====
/-- a private method of a class that the tables say can be made, by its rows of tables_1 -/
def lw_okq (q : MethodName × Nat) : Prop := (q.1.cls ≠ "java/lang/invoke/MethodHandle" ∧ q.1.cls ≠ "java/lang/invoke/VarHandle") ∧ Cond.instantiable q.1.cls q.2 ∈ tables_1 ∧ Cond.privateMethod q.1 ∈ tables_1 ∧ Cond.instanceMethod q.1 ∈ tables_1
set_option maxRecDepth 100000
theorem lw_t1 {w : Cond} (h : w ∈ tables_1_1) : w ∈ tables_1 := List.mem_append_left _ h
theorem lw_t2 {w : Cond} (h : w ∈ tables_1_2) : w ∈ tables_1 := List.mem_append_right _ (List.mem_append_left _ h)
theorem lw_t3 {w : Cond} (h : w ∈ tables_1_3) : w ∈ tables_1 := List.mem_append_right _ (List.mem_append_right _ (List.mem_append_left _ h))
theorem lw_t4 {w : Cond} (h : w ∈ tables_1_4) : w ∈ tables_1 := List.mem_append_right _ (List.mem_append_right _ (List.mem_append_right _ (List.mem_append_left _ h)))
theorem lw_t5 {w : Cond} (h : w ∈ tables_1_5) : w ∈ tables_1 := List.mem_append_right _ (List.mem_append_right _ (List.mem_append_right _ (List.mem_append_right _ (List.mem_append_left _ h))))
theorem lw_t6 {w : Cond} (h : w ∈ tables_1_6) : w ∈ tables_1 := List.mem_append_right _ (List.mem_append_right _ (List.mem_append_right _ (List.mem_append_right _ (List.mem_append_right _ (List.mem_append_left _ h)))))
theorem lw_t7 {w : Cond} (h : w ∈ tables_1_7) : w ∈ tables_1 := List.mem_append_right _ (List.mem_append_right _ (List.mem_append_right _ (List.mem_append_right _ (List.mem_append_right _ (List.mem_append_right _ h)))))
theorem lw_p0 : lw_okq (⟨"java/lang/Throwable", "fillInStackTrace", "(I)Ljava/lang/Throwable;"⟩, 6) := ⟨⟨by decide +kernel, by decide +kernel⟩, lw_t1 (List.mem_of_getElem? (i := 135) rfl), lw_t1 (List.mem_of_getElem? (i := 133) rfl), lw_t1 (List.mem_of_getElem? (i := 134) rfl)⟩
theorem lw_p1 : lw_okq (⟨"StrokesHeard", "four", "(I)V"⟩, 27) := ⟨⟨by decide +kernel, by decide +kernel⟩, lw_t1 (List.mem_of_getElem? (i := 29) rfl), lw_t2 (List.mem_of_getElem? (i := 37) rfl), lw_t2 (List.mem_of_getElem? (i := 38) rfl)⟩
theorem lw_p2 : lw_okq (⟨"StrokesHeard", "textRead", "()LStrokesHeard$Text;"⟩, 27) := ⟨⟨by decide +kernel, by decide +kernel⟩, lw_t1 (List.mem_of_getElem? (i := 29) rfl), lw_t2 (List.mem_of_getElem? (i := 53) rfl), lw_t2 (List.mem_of_getElem? (i := 54) rfl)⟩
theorem lw_p3 : lw_okq (⟨"StrokesHeard", "goes", "()V"⟩, 27) := ⟨⟨by decide +kernel, by decide +kernel⟩, lw_t1 (List.mem_of_getElem? (i := 29) rfl), lw_t2 (List.mem_of_getElem? (i := 57) rfl), lw_t2 (List.mem_of_getElem? (i := 58) rfl)⟩
theorem lw_p4 : lw_okq (⟨"StrokesHeard", "wrong", "()V"⟩, 27) := ⟨⟨by decide +kernel, by decide +kernel⟩, lw_t1 (List.mem_of_getElem? (i := 29) rfl), lw_t2 (List.mem_of_getElem? (i := 67) rfl), lw_t2 (List.mem_of_getElem? (i := 68) rfl)⟩
theorem lw_p5 : lw_okq (⟨"StrokesHeard", "key", "()I"⟩, 27) := ⟨⟨by decide +kernel, by decide +kernel⟩, lw_t1 (List.mem_of_getElem? (i := 29) rfl), lw_t2 (List.mem_of_getElem? (i := 71) rfl), lw_t2 (List.mem_of_getElem? (i := 72) rfl)⟩
theorem lw_p6 : lw_okq (⟨"StrokesHeard", "isWord", "(Ljava/lang/String;)Z"⟩, 27) := ⟨⟨by decide +kernel, by decide +kernel⟩, lw_t1 (List.mem_of_getElem? (i := 29) rfl), lw_t2 (List.mem_of_getElem? (i := 76) rfl), lw_t2 (List.mem_of_getElem? (i := 77) rfl)⟩
theorem lw_p7 : lw_okq (⟨"StrokesHeard", "expression", "()LStrokesHeard$Words;"⟩, 27) := ⟨⟨by decide +kernel, by decide +kernel⟩, lw_t1 (List.mem_of_getElem? (i := 29) rfl), lw_t2 (List.mem_of_getElem? (i := 130) rfl), lw_t2 (List.mem_of_getElem? (i := 131) rfl)⟩
theorem lw_p8 : lw_okq (⟨"StrokesHeard", "or", "(LStrokesHeard$Words;)V"⟩, 27) := ⟨⟨by decide +kernel, by decide +kernel⟩, lw_t1 (List.mem_of_getElem? (i := 29) rfl), lw_t2 (List.mem_of_getElem? (i := 153) rfl), lw_t2 (List.mem_of_getElem? (i := 154) rfl)⟩
theorem lw_p9 : lw_okq (⟨"StrokesHeard", "and", "(LStrokesHeard$Words;)V"⟩, 27) := ⟨⟨by decide +kernel, by decide +kernel⟩, lw_t1 (List.mem_of_getElem? (i := 29) rfl), lw_t2 (List.mem_of_getElem? (i := 157) rfl), lw_t2 (List.mem_of_getElem? (i := 158) rfl)⟩
theorem lw_p10 : lw_okq (⟨"StrokesHeard", "test", "(LStrokesHeard$Words;)V"⟩, 27) := ⟨⟨by decide +kernel, by decide +kernel⟩, lw_t1 (List.mem_of_getElem? (i := 29) rfl), lw_t2 (List.mem_of_getElem? (i := 161) rfl), lw_t2 (List.mem_of_getElem? (i := 162) rfl)⟩
theorem lw_p11 : lw_okq (⟨"StrokesHeard", "sum", "(LStrokesHeard$Words;)V"⟩, 27) := ⟨⟨by decide +kernel, by decide +kernel⟩, lw_t1 (List.mem_of_getElem? (i := 29) rfl), lw_t2 (List.mem_of_getElem? (i := 165) rfl), lw_t2 (List.mem_of_getElem? (i := 166) rfl)⟩
theorem lw_p12 : lw_okq (⟨"StrokesHeard", "term", "(LStrokesHeard$Words;)V"⟩, 27) := ⟨⟨by decide +kernel, by decide +kernel⟩, lw_t1 (List.mem_of_getElem? (i := 29) rfl), lw_t2 (List.mem_of_getElem? (i := 169) rfl), lw_t2 (List.mem_of_getElem? (i := 170) rfl)⟩
theorem lw_p13 : lw_okq (⟨"StrokesHeard", "piece", "(LStrokesHeard$Words;)V"⟩, 27) := ⟨⟨by decide +kernel, by decide +kernel⟩, lw_t1 (List.mem_of_getElem? (i := 29) rfl), lw_t2 (List.mem_of_getElem? (i := 173) rfl), lw_t2 (List.mem_of_getElem? (i := 174) rfl)⟩
theorem lw_p14 : lw_okq (⟨"StrokesHeard", "isSign", "(I)Z"⟩, 27) := ⟨⟨by decide +kernel, by decide +kernel⟩, lw_t1 (List.mem_of_getElem? (i := 29) rfl), lw_t2 (List.mem_of_getElem? (i := 177) rfl), lw_t2 (List.mem_of_getElem? (i := 178) rfl)⟩
theorem lw_p15 : lw_okq (⟨"StrokesHeard", "number", "()I"⟩, 27) := ⟨⟨by decide +kernel, by decide +kernel⟩, lw_t1 (List.mem_of_getElem? (i := 29) rfl), lw_t2 (List.mem_of_getElem? (i := 185) rfl), lw_t2 (List.mem_of_getElem? (i := 186) rfl)⟩
def lw_privs_1 : List (MethodName × Nat) := [(⟨"java/lang/Throwable", "fillInStackTrace", "(I)Ljava/lang/Throwable;"⟩, 6), (⟨"StrokesHeard", "four", "(I)V"⟩, 27), (⟨"StrokesHeard", "textRead", "()LStrokesHeard$Text;"⟩, 27), (⟨"StrokesHeard", "goes", "()V"⟩, 27), (⟨"StrokesHeard", "wrong", "()V"⟩, 27), (⟨"StrokesHeard", "key", "()I"⟩, 27), (⟨"StrokesHeard", "isWord", "(Ljava/lang/String;)Z"⟩, 27), (⟨"StrokesHeard", "expression", "()LStrokesHeard$Words;"⟩, 27), (⟨"StrokesHeard", "or", "(LStrokesHeard$Words;)V"⟩, 27), (⟨"StrokesHeard", "and", "(LStrokesHeard$Words;)V"⟩, 27), (⟨"StrokesHeard", "test", "(LStrokesHeard$Words;)V"⟩, 27), (⟨"StrokesHeard", "sum", "(LStrokesHeard$Words;)V"⟩, 27), (⟨"StrokesHeard", "term", "(LStrokesHeard$Words;)V"⟩, 27), (⟨"StrokesHeard", "piece", "(LStrokesHeard$Words;)V"⟩, 27), (⟨"StrokesHeard", "isSign", "(I)Z"⟩, 27), (⟨"StrokesHeard", "number", "()I"⟩, 27)]
theorem lw_r1 : ∀ q ∈ lw_privs_1, lw_okq q := List.forall_mem_cons.mpr ⟨lw_p0, List.forall_mem_cons.mpr ⟨lw_p1, List.forall_mem_cons.mpr ⟨lw_p2, List.forall_mem_cons.mpr ⟨lw_p3, List.forall_mem_cons.mpr ⟨lw_p4, List.forall_mem_cons.mpr ⟨lw_p5, List.forall_mem_cons.mpr ⟨lw_p6, List.forall_mem_cons.mpr ⟨lw_p7, List.forall_mem_cons.mpr ⟨lw_p8, List.forall_mem_cons.mpr ⟨lw_p9, List.forall_mem_cons.mpr ⟨lw_p10, List.forall_mem_cons.mpr ⟨lw_p11, List.forall_mem_cons.mpr ⟨lw_p12, List.forall_mem_cons.mpr ⟨lw_p13, List.forall_mem_cons.mpr ⟨lw_p14, List.forall_mem_cons.mpr ⟨lw_p15, fun _ h => absurd h List.not_mem_nil⟩⟩⟩⟩⟩⟩⟩⟩⟩⟩⟩⟩⟩⟩⟩⟩
theorem lw_p16 : lw_okq (⟨"StrokesHeard", "isName", "(I)Z"⟩, 27) := ⟨⟨by decide +kernel, by decide +kernel⟩, lw_t1 (List.mem_of_getElem? (i := 29) rfl), lw_t2 (List.mem_of_getElem? (i := 189) rfl), lw_t2 (List.mem_of_getElem? (i := 190) rfl)⟩
theorem lw_p17 : lw_okq (⟨"StrokesHeard", "counts", "(I)I"⟩, 27) := ⟨⟨by decide +kernel, by decide +kernel⟩, lw_t1 (List.mem_of_getElem? (i := 29) rfl), lw_t2 (List.mem_of_getElem? (i := 220) rfl), lw_t2 (List.mem_of_getElem? (i := 221) rfl)⟩
theorem lw_p18 : lw_okq (⟨"StrokesHeard", "comes", "(III)I"⟩, 27) := ⟨⟨by decide +kernel, by decide +kernel⟩, lw_t1 (List.mem_of_getElem? (i := 29) rfl), lw_t2 (List.mem_of_getElem? (i := 235) rfl), lw_t2 (List.mem_of_getElem? (i := 236) rfl)⟩
theorem lw_p19 : lw_okq (⟨"StrokesHeard", "isClock", "(I)Z"⟩, 27) := ⟨⟨by decide +kernel, by decide +kernel⟩, lw_t1 (List.mem_of_getElem? (i := 29) rfl), lw_t3 (List.mem_of_getElem? (i := 66) rfl), lw_t3 (List.mem_of_getElem? (i := 67) rfl)⟩
theorem lw_p20 : lw_okq (⟨"StrokesHeard", "timeNow", "()I"⟩, 27) := ⟨⟨by decide +kernel, by decide +kernel⟩, lw_t1 (List.mem_of_getElem? (i := 29) rfl), lw_t3 (List.mem_of_getElem? (i := 92) rfl), lw_t3 (List.mem_of_getElem? (i := 93) rfl)⟩
theorem lw_p21 : lw_okq (⟨"StrokesHeard", "strokesOf", "(LStrokesHeard$Ringer;I)I"⟩, 27) := ⟨⟨by decide +kernel, by decide +kernel⟩, lw_t1 (List.mem_of_getElem? (i := 29) rfl), lw_t3 (List.mem_of_getElem? (i := 96) rfl), lw_t3 (List.mem_of_getElem? (i := 97) rfl)⟩
theorem lw_p22 : lw_okq (⟨"StrokesHeard", "againAt", "(LStrokesHeard$Ringer;I)I"⟩, 27) := ⟨⟨by decide +kernel, by decide +kernel⟩, lw_t1 (List.mem_of_getElem? (i := 29) rfl), lw_t3 (List.mem_of_getElem? (i := 103) rfl), lw_t3 (List.mem_of_getElem? (i := 104) rfl)⟩
theorem lw_p23 : lw_okq (⟨"StrokesHeard", "reckon", "(LStrokesHeard$Words;)I"⟩, 27) := ⟨⟨by decide +kernel, by decide +kernel⟩, lw_t1 (List.mem_of_getElem? (i := 29) rfl), lw_t3 (List.mem_of_getElem? (i := 107) rfl), lw_t3 (List.mem_of_getElem? (i := 108) rfl)⟩
theorem lw_p24 : lw_okq (⟨"StrokesHeard", "inAll", "(LStrokesHeard$Ringer;)I"⟩, 27) := ⟨⟨by decide +kernel, by decide +kernel⟩, lw_t1 (List.mem_of_getElem? (i := 29) rfl), lw_t3 (List.mem_of_getElem? (i := 163) rfl), lw_t3 (List.mem_of_getElem? (i := 164) rfl)⟩
theorem lw_p25 : lw_okq (⟨"StrokesHeard", "totalAt", "(I)I"⟩, 27) := ⟨⟨by decide +kernel, by decide +kernel⟩, lw_t1 (List.mem_of_getElem? (i := 29) rfl), lw_t4 (List.mem_of_getElem? (i := 15) rfl), lw_t4 (List.mem_of_getElem? (i := 16) rfl)⟩
theorem lw_p26 : lw_okq (⟨"StrokesHeard", "goesOn", "(I)V"⟩, 27) := ⟨⟨by decide +kernel, by decide +kernel⟩, lw_t1 (List.mem_of_getElem? (i := 29) rfl), lw_t4 (List.mem_of_getElem? (i := 40) rfl), lw_t4 (List.mem_of_getElem? (i := 41) rfl)⟩
theorem lw_p27 : lw_okq (⟨"StrokesHeard", "aMinute", "()V"⟩, 27) := ⟨⟨by decide +kernel, by decide +kernel⟩, lw_t1 (List.mem_of_getElem? (i := 29) rfl), lw_t4 (List.mem_of_getElem? (i := 44) rfl), lw_t4 (List.mem_of_getElem? (i := 45) rfl)⟩
theorem lw_p28 : lw_okq (⟨"StrokesHeard", "addsUpAll", "()V"⟩, 27) := ⟨⟨by decide +kernel, by decide +kernel⟩, lw_t1 (List.mem_of_getElem? (i := 29) rfl), lw_t4 (List.mem_of_getElem? (i := 68) rfl), lw_t4 (List.mem_of_getElem? (i := 69) rfl)⟩
theorem lw_p29 : lw_okq (⟨"StrokesHeard", "addsUp", "(ILStrokesHeard$Ringer;)V"⟩, 27) := ⟨⟨by decide +kernel, by decide +kernel⟩, lw_t1 (List.mem_of_getElem? (i := 29) rfl), lw_t4 (List.mem_of_getElem? (i := 72) rfl), lw_t4 (List.mem_of_getElem? (i := 73) rfl)⟩
theorem lw_p30 : lw_okq (⟨"StrokesHeard", "isFit", "(I)Z"⟩, 27) := ⟨⟨by decide +kernel, by decide +kernel⟩, lw_t1 (List.mem_of_getElem? (i := 29) rfl), lw_t4 (List.mem_of_getElem? (i := 76) rfl), lw_t4 (List.mem_of_getElem? (i := 77) rfl)⟩
theorem lw_p31 : lw_okq (⟨"StrokesHeard", "isSure", "()Z"⟩, 27) := ⟨⟨by decide +kernel, by decide +kernel⟩, lw_t1 (List.mem_of_getElem? (i := 29) rfl), lw_t4 (List.mem_of_getElem? (i := 84) rfl), lw_t4 (List.mem_of_getElem? (i := 85) rfl)⟩
def lw_privs_2 : List (MethodName × Nat) := [(⟨"StrokesHeard", "isName", "(I)Z"⟩, 27), (⟨"StrokesHeard", "counts", "(I)I"⟩, 27), (⟨"StrokesHeard", "comes", "(III)I"⟩, 27), (⟨"StrokesHeard", "isClock", "(I)Z"⟩, 27), (⟨"StrokesHeard", "timeNow", "()I"⟩, 27), (⟨"StrokesHeard", "strokesOf", "(LStrokesHeard$Ringer;I)I"⟩, 27), (⟨"StrokesHeard", "againAt", "(LStrokesHeard$Ringer;I)I"⟩, 27), (⟨"StrokesHeard", "reckon", "(LStrokesHeard$Words;)I"⟩, 27), (⟨"StrokesHeard", "inAll", "(LStrokesHeard$Ringer;)I"⟩, 27), (⟨"StrokesHeard", "totalAt", "(I)I"⟩, 27), (⟨"StrokesHeard", "goesOn", "(I)V"⟩, 27), (⟨"StrokesHeard", "aMinute", "()V"⟩, 27), (⟨"StrokesHeard", "addsUpAll", "()V"⟩, 27), (⟨"StrokesHeard", "addsUp", "(ILStrokesHeard$Ringer;)V"⟩, 27), (⟨"StrokesHeard", "isFit", "(I)Z"⟩, 27), (⟨"StrokesHeard", "isSure", "()Z"⟩, 27)]
theorem lw_r2 : ∀ q ∈ lw_privs_2, lw_okq q := List.forall_mem_cons.mpr ⟨lw_p16, List.forall_mem_cons.mpr ⟨lw_p17, List.forall_mem_cons.mpr ⟨lw_p18, List.forall_mem_cons.mpr ⟨lw_p19, List.forall_mem_cons.mpr ⟨lw_p20, List.forall_mem_cons.mpr ⟨lw_p21, List.forall_mem_cons.mpr ⟨lw_p22, List.forall_mem_cons.mpr ⟨lw_p23, List.forall_mem_cons.mpr ⟨lw_p24, List.forall_mem_cons.mpr ⟨lw_p25, List.forall_mem_cons.mpr ⟨lw_p26, List.forall_mem_cons.mpr ⟨lw_p27, List.forall_mem_cons.mpr ⟨lw_p28, List.forall_mem_cons.mpr ⟨lw_p29, List.forall_mem_cons.mpr ⟨lw_p30, List.forall_mem_cons.mpr ⟨lw_p31, fun _ h => absurd h List.not_mem_nil⟩⟩⟩⟩⟩⟩⟩⟩⟩⟩⟩⟩⟩⟩⟩⟩
theorem lw_p32 : lw_okq (⟨"StrokesHeard", "holds", "()I"⟩, 27) := ⟨⟨by decide +kernel, by decide +kernel⟩, lw_t1 (List.mem_of_getElem? (i := 29) rfl), lw_t4 (List.mem_of_getElem? (i := 88) rfl), lw_t4 (List.mem_of_getElem? (i := 89) rfl)⟩
theorem lw_p33 : lw_okq (⟨"StrokesHeard", "thinks", "()V"⟩, 27) := ⟨⟨by decide +kernel, by decide +kernel⟩, lw_t1 (List.mem_of_getElem? (i := 29) rfl), lw_t4 (List.mem_of_getElem? (i := 123) rfl), lw_t4 (List.mem_of_getElem? (i := 124) rfl)⟩
theorem lw_p34 : lw_okq (⟨"StrokesHeard", "putsBack", "()V"⟩, 27) := ⟨⟨by decide +kernel, by decide +kernel⟩, lw_t1 (List.mem_of_getElem? (i := 29) rfl), lw_t4 (List.mem_of_getElem? (i := 169) rfl), lw_t4 (List.mem_of_getElem? (i := 170) rfl)⟩
theorem lw_p35 : lw_okq (⟨"StrokesHeard", "carries", "(LStrokesHeard$Sheet;ILStrokesHeard$Sheet;II)V"⟩, 27) := ⟨⟨by decide +kernel, by decide +kernel⟩, lw_t1 (List.mem_of_getElem? (i := 29) rfl), lw_t5 (List.mem_of_getElem? (i := 33) rfl), lw_t5 (List.mem_of_getElem? (i := 34) rfl)⟩
theorem lw_p36 : lw_okq (⟨"StrokesHeard", "own", "(LStrokesHeard$Sheet;)LStrokesHeard$Sheet;"⟩, 27) := ⟨⟨by decide +kernel, by decide +kernel⟩, lw_t1 (List.mem_of_getElem? (i := 29) rfl), lw_t5 (List.mem_of_getElem? (i := 63) rfl), lw_t5 (List.mem_of_getElem? (i := 64) rfl)⟩
theorem lw_p37 : lw_okq (⟨"StrokesHeard", "rowsOfMinutes", "(I)I"⟩, 27) := ⟨⟨by decide +kernel, by decide +kernel⟩, lw_t1 (List.mem_of_getElem? (i := 29) rfl), lw_t5 (List.mem_of_getElem? (i := 127) rfl), lw_t5 (List.mem_of_getElem? (i := 128) rfl)⟩
theorem lw_p38 : lw_okq (⟨"StrokesHeardModel", "comes", "(III)V"⟩, 32) := ⟨⟨by decide +kernel, by decide +kernel⟩, lw_t5 (List.mem_of_getElem? (i := 143) rfl), lw_t6 (List.mem_of_getElem? (i := 18) rfl), lw_t6 (List.mem_of_getElem? (i := 19) rfl)⟩
theorem lw_p39 : lw_okq (⟨"StrokesHeardModel", "sets", "(III)V"⟩, 32) := ⟨⟨by decide +kernel, by decide +kernel⟩, lw_t5 (List.mem_of_getElem? (i := 143) rfl), lw_t6 (List.mem_of_getElem? (i := 22) rfl), lw_t6 (List.mem_of_getElem? (i := 23) rfl)⟩
theorem lw_p40 : lw_okq (⟨"StrokesHeardModel", "isClock", "(I)Z"⟩, 32) := ⟨⟨by decide +kernel, by decide +kernel⟩, lw_t5 (List.mem_of_getElem? (i := 143) rfl), lw_t6 (List.mem_of_getElem? (i := 30) rfl), lw_t6 (List.mem_of_getElem? (i := 31) rfl)⟩
theorem lw_p41 : lw_okq (⟨"StrokesHeardModel", "of", "(II)I"⟩, 32) := ⟨⟨by decide +kernel, by decide +kernel⟩, lw_t5 (List.mem_of_getElem? (i := 143) rfl), lw_t6 (List.mem_of_getElem? (i := 34) rfl), lw_t6 (List.mem_of_getElem? (i := 35) rfl)⟩
theorem lw_p42 : lw_okq (⟨"StrokesHeardModel", "timeNow", "()I"⟩, 32) := ⟨⟨by decide +kernel, by decide +kernel⟩, lw_t5 (List.mem_of_getElem? (i := 143) rfl), lw_t6 (List.mem_of_getElem? (i := 38) rfl), lw_t6 (List.mem_of_getElem? (i := 39) rfl)⟩
theorem lw_p43 : lw_okq (⟨"StrokesHeardModel", "strikes", "(II)I"⟩, 32) := ⟨⟨by decide +kernel, by decide +kernel⟩, lw_t5 (List.mem_of_getElem? (i := 143) rfl), lw_t6 (List.mem_of_getElem? (i := 42) rfl), lw_t6 (List.mem_of_getElem? (i := 43) rfl)⟩
theorem lw_p44 : lw_okq (⟨"StrokesHeardModel", "atHour", "(II)I"⟩, 32) := ⟨⟨by decide +kernel, by decide +kernel⟩, lw_t5 (List.mem_of_getElem? (i := 143) rfl), lw_t6 (List.mem_of_getElem? (i := 46) rfl), lw_t6 (List.mem_of_getElem? (i := 47) rfl)⟩
theorem lw_p45 : lw_okq (⟨"StrokesHeardModel", "again", "(II)I"⟩, 32) := ⟨⟨by decide +kernel, by decide +kernel⟩, lw_t5 (List.mem_of_getElem? (i := 143) rfl), lw_t6 (List.mem_of_getElem? (i := 50) rfl), lw_t6 (List.mem_of_getElem? (i := 51) rfl)⟩
theorem lw_p46 : lw_okq (⟨"StrokesHeardModel", "counts", "(I)I"⟩, 32) := ⟨⟨by decide +kernel, by decide +kernel⟩, lw_t5 (List.mem_of_getElem? (i := 143) rfl), lw_t6 (List.mem_of_getElem? (i := 54) rfl), lw_t6 (List.mem_of_getElem? (i := 55) rfl)⟩
theorem lw_p47 : lw_okq (⟨"StrokesHeardModel", "textAt", "(I)I"⟩, 32) := ⟨⟨by decide +kernel, by decide +kernel⟩, lw_t5 (List.mem_of_getElem? (i := 143) rfl), lw_t6 (List.mem_of_getElem? (i := 58) rfl), lw_t6 (List.mem_of_getElem? (i := 59) rfl)⟩
def lw_privs_3 : List (MethodName × Nat) := [(⟨"StrokesHeard", "holds", "()I"⟩, 27), (⟨"StrokesHeard", "thinks", "()V"⟩, 27), (⟨"StrokesHeard", "putsBack", "()V"⟩, 27), (⟨"StrokesHeard", "carries", "(LStrokesHeard$Sheet;ILStrokesHeard$Sheet;II)V"⟩, 27), (⟨"StrokesHeard", "own", "(LStrokesHeard$Sheet;)LStrokesHeard$Sheet;"⟩, 27), (⟨"StrokesHeard", "rowsOfMinutes", "(I)I"⟩, 27), (⟨"StrokesHeardModel", "comes", "(III)V"⟩, 32), (⟨"StrokesHeardModel", "sets", "(III)V"⟩, 32), (⟨"StrokesHeardModel", "isClock", "(I)Z"⟩, 32), (⟨"StrokesHeardModel", "of", "(II)I"⟩, 32), (⟨"StrokesHeardModel", "timeNow", "()I"⟩, 32), (⟨"StrokesHeardModel", "strikes", "(II)I"⟩, 32), (⟨"StrokesHeardModel", "atHour", "(II)I"⟩, 32), (⟨"StrokesHeardModel", "again", "(II)I"⟩, 32), (⟨"StrokesHeardModel", "counts", "(I)I"⟩, 32), (⟨"StrokesHeardModel", "textAt", "(I)I"⟩, 32)]
theorem lw_r3 : ∀ q ∈ lw_privs_3, lw_okq q := List.forall_mem_cons.mpr ⟨lw_p32, List.forall_mem_cons.mpr ⟨lw_p33, List.forall_mem_cons.mpr ⟨lw_p34, List.forall_mem_cons.mpr ⟨lw_p35, List.forall_mem_cons.mpr ⟨lw_p36, List.forall_mem_cons.mpr ⟨lw_p37, List.forall_mem_cons.mpr ⟨lw_p38, List.forall_mem_cons.mpr ⟨lw_p39, List.forall_mem_cons.mpr ⟨lw_p40, List.forall_mem_cons.mpr ⟨lw_p41, List.forall_mem_cons.mpr ⟨lw_p42, List.forall_mem_cons.mpr ⟨lw_p43, List.forall_mem_cons.mpr ⟨lw_p44, List.forall_mem_cons.mpr ⟨lw_p45, List.forall_mem_cons.mpr ⟨lw_p46, List.forall_mem_cons.mpr ⟨lw_p47, fun _ h => absurd h List.not_mem_nil⟩⟩⟩⟩⟩⟩⟩⟩⟩⟩⟩⟩⟩⟩⟩⟩
theorem lw_p48 : lw_okq (⟨"StrokesHeardModel", "worked", "(I)I"⟩, 32) := ⟨⟨by decide +kernel, by decide +kernel⟩, lw_t5 (List.mem_of_getElem? (i := 143) rfl), lw_t6 (List.mem_of_getElem? (i := 62) rfl), lw_t6 (List.mem_of_getElem? (i := 63) rfl)⟩
theorem lw_p49 : lw_okq (⟨"StrokesHeardModel", "worth", "(I)I"⟩, 32) := ⟨⟨by decide +kernel, by decide +kernel⟩, lw_t5 (List.mem_of_getElem? (i := 143) rfl), lw_t6 (List.mem_of_getElem? (i := 69) rfl), lw_t6 (List.mem_of_getElem? (i := 70) rfl)⟩
theorem lw_p50 : lw_okq (⟨"StrokesHeardModel", "becomes", "(II)I"⟩, 32) := ⟨⟨by decide +kernel, by decide +kernel⟩, lw_t5 (List.mem_of_getElem? (i := 143) rfl), lw_t6 (List.mem_of_getElem? (i := 85) rfl), lw_t6 (List.mem_of_getElem? (i := 86) rfl)⟩
theorem lw_p51 : lw_okq (⟨"StrokesHeardModel", "totalAt", "(I)I"⟩, 32) := ⟨⟨by decide +kernel, by decide +kernel⟩, lw_t5 (List.mem_of_getElem? (i := 143) rfl), lw_t6 (List.mem_of_getElem? (i := 106) rfl), lw_t6 (List.mem_of_getElem? (i := 107) rfl)⟩
theorem lw_p52 : lw_okq (⟨"StrokesHeardModel", "drawn", "()I"⟩, 32) := ⟨⟨by decide +kernel, by decide +kernel⟩, lw_t5 (List.mem_of_getElem? (i := 143) rfl), lw_t6 (List.mem_of_getElem? (i := 120) rfl), lw_t6 (List.mem_of_getElem? (i := 121) rfl)⟩
theorem lw_p53 : lw_okq (⟨"StrokesHeardModel", "goesOnMany", "(I)V"⟩, 32) := ⟨⟨by decide +kernel, by decide +kernel⟩, lw_t5 (List.mem_of_getElem? (i := 143) rfl), lw_t6 (List.mem_of_getElem? (i := 133) rfl), lw_t6 (List.mem_of_getElem? (i := 134) rfl)⟩
theorem lw_p54 : lw_okq (⟨"StrokesHeardModel", "goesOn", "()V"⟩, 32) := ⟨⟨by decide +kernel, by decide +kernel⟩, lw_t5 (List.mem_of_getElem? (i := 143) rfl), lw_t6 (List.mem_of_getElem? (i := 137) rfl), lw_t6 (List.mem_of_getElem? (i := 138) rfl)⟩
theorem lw_p55 : lw_okq (⟨"StrokesHeardModel", "findAll", "()V"⟩, 32) := ⟨⟨by decide +kernel, by decide +kernel⟩, lw_t5 (List.mem_of_getElem? (i := 143) rfl), lw_t6 (List.mem_of_getElem? (i := 156) rfl), lw_t6 (List.mem_of_getElem? (i := 157) rfl)⟩
theorem lw_p56 : lw_okq (⟨"StrokesHeardModel", "doesFit", "(I)Z"⟩, 32) := ⟨⟨by decide +kernel, by decide +kernel⟩, lw_t5 (List.mem_of_getElem? (i := 143) rfl), lw_t6 (List.mem_of_getElem? (i := 160) rfl), lw_t6 (List.mem_of_getElem? (i := 161) rfl)⟩
theorem lw_p57 : lw_okq (⟨"StrokesHeardModel", "manyFit", "()I"⟩, 32) := ⟨⟨by decide +kernel, by decide +kernel⟩, lw_t5 (List.mem_of_getElem? (i := 143) rfl), lw_t6 (List.mem_of_getElem? (i := 168) rfl), lw_t6 (List.mem_of_getElem? (i := 169) rfl)⟩
theorem lw_p58 : lw_okq (⟨"StrokesHeardModel", "hoursFit", "()I"⟩, 32) := ⟨⟨by decide +kernel, by decide +kernel⟩, lw_t5 (List.mem_of_getElem? (i := 143) rfl), lw_t6 (List.mem_of_getElem? (i := 172) rfl), lw_t6 (List.mem_of_getElem? (i := 173) rfl)⟩
theorem lw_p59 : lw_okq (⟨"StrokesHeardModel", "isSure", "()Z"⟩, 32) := ⟨⟨by decide +kernel, by decide +kernel⟩, lw_t5 (List.mem_of_getElem? (i := 143) rfl), lw_t6 (List.mem_of_getElem? (i := 176) rfl), lw_t6 (List.mem_of_getElem? (i := 177) rfl)⟩
theorem lw_p60 : lw_okq (⟨"StrokesHeardModel", "findMore", "(II)V"⟩, 32) := ⟨⟨by decide +kernel, by decide +kernel⟩, lw_t5 (List.mem_of_getElem? (i := 143) rfl), lw_t6 (List.mem_of_getElem? (i := 192) rfl), lw_t6 (List.mem_of_getElem? (i := 193) rfl)⟩
theorem lw_p61 : lw_okq (⟨"StrokesHeardModel", "offBy", "(II)I"⟩, 32) := ⟨⟨by decide +kernel, by decide +kernel⟩, lw_t5 (List.mem_of_getElem? (i := 143) rfl), lw_t6 (List.mem_of_getElem? (i := 212) rfl), lw_t6 (List.mem_of_getElem? (i := 213) rfl)⟩
theorem lw_p62 : lw_okq (⟨"StrokesHeardModel", "laysBy", "()V"⟩, 32) := ⟨⟨by decide +kernel, by decide +kernel⟩, lw_t5 (List.mem_of_getElem? (i := 143) rfl), lw_t6 (List.mem_of_getElem? (i := 223) rfl), lw_t6 (List.mem_of_getElem? (i := 224) rfl)⟩
theorem lw_p63 : lw_okq (⟨"StrokesHeardModel", "laysBack", "()V"⟩, 32) := ⟨⟨by decide +kernel, by decide +kernel⟩, lw_t5 (List.mem_of_getElem? (i := 143) rfl), lw_t6 (List.mem_of_getElem? (i := 227) rfl), lw_t6 (List.mem_of_getElem? (i := 228) rfl)⟩
def lw_privs_4 : List (MethodName × Nat) := [(⟨"StrokesHeardModel", "worked", "(I)I"⟩, 32), (⟨"StrokesHeardModel", "worth", "(I)I"⟩, 32), (⟨"StrokesHeardModel", "becomes", "(II)I"⟩, 32), (⟨"StrokesHeardModel", "totalAt", "(I)I"⟩, 32), (⟨"StrokesHeardModel", "drawn", "()I"⟩, 32), (⟨"StrokesHeardModel", "goesOnMany", "(I)V"⟩, 32), (⟨"StrokesHeardModel", "goesOn", "()V"⟩, 32), (⟨"StrokesHeardModel", "findAll", "()V"⟩, 32), (⟨"StrokesHeardModel", "doesFit", "(I)Z"⟩, 32), (⟨"StrokesHeardModel", "manyFit", "()I"⟩, 32), (⟨"StrokesHeardModel", "hoursFit", "()I"⟩, 32), (⟨"StrokesHeardModel", "isSure", "()Z"⟩, 32), (⟨"StrokesHeardModel", "findMore", "(II)V"⟩, 32), (⟨"StrokesHeardModel", "offBy", "(II)I"⟩, 32), (⟨"StrokesHeardModel", "laysBy", "()V"⟩, 32), (⟨"StrokesHeardModel", "laysBack", "()V"⟩, 32)]
theorem lw_r4 : ∀ q ∈ lw_privs_4, lw_okq q := List.forall_mem_cons.mpr ⟨lw_p48, List.forall_mem_cons.mpr ⟨lw_p49, List.forall_mem_cons.mpr ⟨lw_p50, List.forall_mem_cons.mpr ⟨lw_p51, List.forall_mem_cons.mpr ⟨lw_p52, List.forall_mem_cons.mpr ⟨lw_p53, List.forall_mem_cons.mpr ⟨lw_p54, List.forall_mem_cons.mpr ⟨lw_p55, List.forall_mem_cons.mpr ⟨lw_p56, List.forall_mem_cons.mpr ⟨lw_p57, List.forall_mem_cons.mpr ⟨lw_p58, List.forall_mem_cons.mpr ⟨lw_p59, List.forall_mem_cons.mpr ⟨lw_p60, List.forall_mem_cons.mpr ⟨lw_p61, List.forall_mem_cons.mpr ⟨lw_p62, List.forall_mem_cons.mpr ⟨lw_p63, fun _ h => absurd h List.not_mem_nil⟩⟩⟩⟩⟩⟩⟩⟩⟩⟩⟩⟩⟩⟩⟩⟩
theorem lw_p64 : lw_okq (⟨"StrokesHeardModel", "parse", "()I"⟩, 32) := ⟨⟨by decide +kernel, by decide +kernel⟩, lw_t5 (List.mem_of_getElem? (i := 143) rfl), lw_t7 (List.mem_of_getElem? (i := 15) rfl), lw_t7 (List.mem_of_getElem? (i := 16) rfl)⟩
theorem lw_p65 : lw_okq (⟨"StrokesHeardModel", "nextToken", "()V"⟩, 32) := ⟨⟨by decide +kernel, by decide +kernel⟩, lw_t5 (List.mem_of_getElem? (i := 143) rfl), lw_t7 (List.mem_of_getElem? (i := 19) rfl), lw_t7 (List.mem_of_getElem? (i := 20) rfl)⟩
theorem lw_p66 : lw_okq (⟨"StrokesHeardModel", "isLetter", "(I)Z"⟩, 32) := ⟨⟨by decide +kernel, by decide +kernel⟩, lw_t5 (List.mem_of_getElem? (i := 143) rfl), lw_t7 (List.mem_of_getElem? (i := 23) rfl), lw_t7 (List.mem_of_getElem? (i := 24) rfl)⟩
theorem lw_p67 : lw_okq (⟨"StrokesHeardModel", "isDigit", "(I)Z"⟩, 32) := ⟨⟨by decide +kernel, by decide +kernel⟩, lw_t5 (List.mem_of_getElem? (i := 143) rfl), lw_t7 (List.mem_of_getElem? (i := 29) rfl), lw_t7 (List.mem_of_getElem? (i := 30) rfl)⟩
theorem lw_p68 : lw_okq (⟨"StrokesHeardModel", "key", "()I"⟩, 32) := ⟨⟨by decide +kernel, by decide +kernel⟩, lw_t5 (List.mem_of_getElem? (i := 143) rfl), lw_t7 (List.mem_of_getElem? (i := 35) rfl), lw_t7 (List.mem_of_getElem? (i := 36) rfl)⟩
theorem lw_p69 : lw_okq (⟨"StrokesHeardModel", "isLong", "(IIIIII)Z"⟩, 32) := ⟨⟨by decide +kernel, by decide +kernel⟩, lw_t5 (List.mem_of_getElem? (i := 143) rfl), lw_t7 (List.mem_of_getElem? (i := 39) rfl), lw_t7 (List.mem_of_getElem? (i := 40) rfl)⟩
theorem lw_p70 : lw_okq (⟨"StrokesHeardModel", "isWordAt", "(IIII)Z"⟩, 32) := ⟨⟨by decide +kernel, by decide +kernel⟩, lw_t5 (List.mem_of_getElem? (i := 143) rfl), lw_t7 (List.mem_of_getElem? (i := 43) rfl), lw_t7 (List.mem_of_getElem? (i := 44) rfl)⟩
theorem lw_p71 : lw_okq (⟨"StrokesHeardModel", "either", "(I)Z"⟩, 32) := ⟨⟨by decide +kernel, by decide +kernel⟩, lw_t5 (List.mem_of_getElem? (i := 143) rfl), lw_t7 (List.mem_of_getElem? (i := 47) rfl), lw_t7 (List.mem_of_getElem? (i := 48) rfl)⟩
theorem lw_p72 : lw_okq (⟨"StrokesHeardModel", "both", "(I)Z"⟩, 32) := ⟨⟨by decide +kernel, by decide +kernel⟩, lw_t5 (List.mem_of_getElem? (i := 143) rfl), lw_t7 (List.mem_of_getElem? (i := 51) rfl), lw_t7 (List.mem_of_getElem? (i := 52) rfl)⟩
theorem lw_p73 : lw_okq (⟨"StrokesHeardModel", "test", "(I)Z"⟩, 32) := ⟨⟨by decide +kernel, by decide +kernel⟩, lw_t5 (List.mem_of_getElem? (i := 143) rfl), lw_t7 (List.mem_of_getElem? (i := 55) rfl), lw_t7 (List.mem_of_getElem? (i := 56) rfl)⟩
theorem lw_p74 : lw_okq (⟨"StrokesHeardModel", "sum", "(I)Z"⟩, 32) := ⟨⟨by decide +kernel, by decide +kernel⟩, lw_t5 (List.mem_of_getElem? (i := 143) rfl), lw_t7 (List.mem_of_getElem? (i := 59) rfl), lw_t7 (List.mem_of_getElem? (i := 60) rfl)⟩
theorem lw_p75 : lw_okq (⟨"StrokesHeardModel", "term", "(I)Z"⟩, 32) := ⟨⟨by decide +kernel, by decide +kernel⟩, lw_t5 (List.mem_of_getElem? (i := 143) rfl), lw_t7 (List.mem_of_getElem? (i := 63) rfl), lw_t7 (List.mem_of_getElem? (i := 64) rfl)⟩
theorem lw_p76 : lw_okq (⟨"StrokesHeardModel", "part0", "(I)Z"⟩, 32) := ⟨⟨by decide +kernel, by decide +kernel⟩, lw_t5 (List.mem_of_getElem? (i := 143) rfl), lw_t7 (List.mem_of_getElem? (i := 67) rfl), lw_t7 (List.mem_of_getElem? (i := 68) rfl)⟩
theorem lw_p77 : lw_okq (⟨"StrokesHeardModel", "step", "(II)V"⟩, 32) := ⟨⟨by decide +kernel, by decide +kernel⟩, lw_t5 (List.mem_of_getElem? (i := 143) rfl), lw_t7 (List.mem_of_getElem? (i := 71) rfl), lw_t7 (List.mem_of_getElem? (i := 72) rfl)⟩
theorem lw_p78 : lw_okq (⟨"StrokesHeardModel", "isSign", "(I)Z"⟩, 32) := ⟨⟨by decide +kernel, by decide +kernel⟩, lw_t5 (List.mem_of_getElem? (i := 143) rfl), lw_t7 (List.mem_of_getElem? (i := 78) rfl), lw_t7 (List.mem_of_getElem? (i := 79) rfl)⟩
theorem lw_p79 : lw_okq (⟨"StrokesHeardModel", "isText", "(I)Z"⟩, 32) := ⟨⟨by decide +kernel, by decide +kernel⟩, lw_t5 (List.mem_of_getElem? (i := 143) rfl), lw_t7 (List.mem_of_getElem? (i := 86) rfl), lw_t7 (List.mem_of_getElem? (i := 87) rfl)⟩
def lw_privs_5 : List (MethodName × Nat) := [(⟨"StrokesHeardModel", "parse", "()I"⟩, 32), (⟨"StrokesHeardModel", "nextToken", "()V"⟩, 32), (⟨"StrokesHeardModel", "isLetter", "(I)Z"⟩, 32), (⟨"StrokesHeardModel", "isDigit", "(I)Z"⟩, 32), (⟨"StrokesHeardModel", "key", "()I"⟩, 32), (⟨"StrokesHeardModel", "isLong", "(IIIIII)Z"⟩, 32), (⟨"StrokesHeardModel", "isWordAt", "(IIII)Z"⟩, 32), (⟨"StrokesHeardModel", "either", "(I)Z"⟩, 32), (⟨"StrokesHeardModel", "both", "(I)Z"⟩, 32), (⟨"StrokesHeardModel", "test", "(I)Z"⟩, 32), (⟨"StrokesHeardModel", "sum", "(I)Z"⟩, 32), (⟨"StrokesHeardModel", "term", "(I)Z"⟩, 32), (⟨"StrokesHeardModel", "part0", "(I)Z"⟩, 32), (⟨"StrokesHeardModel", "step", "(II)V"⟩, 32), (⟨"StrokesHeardModel", "isSign", "(I)Z"⟩, 32), (⟨"StrokesHeardModel", "isText", "(I)Z"⟩, 32)]
theorem lw_r5 : ∀ q ∈ lw_privs_5, lw_okq q := List.forall_mem_cons.mpr ⟨lw_p64, List.forall_mem_cons.mpr ⟨lw_p65, List.forall_mem_cons.mpr ⟨lw_p66, List.forall_mem_cons.mpr ⟨lw_p67, List.forall_mem_cons.mpr ⟨lw_p68, List.forall_mem_cons.mpr ⟨lw_p69, List.forall_mem_cons.mpr ⟨lw_p70, List.forall_mem_cons.mpr ⟨lw_p71, List.forall_mem_cons.mpr ⟨lw_p72, List.forall_mem_cons.mpr ⟨lw_p73, List.forall_mem_cons.mpr ⟨lw_p74, List.forall_mem_cons.mpr ⟨lw_p75, List.forall_mem_cons.mpr ⟨lw_p76, List.forall_mem_cons.mpr ⟨lw_p77, List.forall_mem_cons.mpr ⟨lw_p78, List.forall_mem_cons.mpr ⟨lw_p79, fun _ h => absurd h List.not_mem_nil⟩⟩⟩⟩⟩⟩⟩⟩⟩⟩⟩⟩⟩⟩⟩⟩
theorem lw_p80 : lw_okq (⟨"StrokesHeardModel", "setAside", "([I[I)V"⟩, 32) := ⟨⟨by decide +kernel, by decide +kernel⟩, lw_t5 (List.mem_of_getElem? (i := 143) rfl), lw_t7 (List.mem_of_getElem? (i := 155) rfl), lw_t7 (List.mem_of_getElem? (i := 156) rfl)⟩
def lw_privs_6 : List (MethodName × Nat) := [(⟨"StrokesHeardModel", "setAside", "([I[I)V"⟩, 32)]
theorem lw_r6 : ∀ q ∈ lw_privs_6, lw_okq q := List.forall_mem_cons.mpr ⟨lw_p80, fun _ h => absurd h List.not_mem_nil⟩
def lw_privs : List (MethodName × Nat) := lw_privs_1 ++ (lw_privs_2 ++ (lw_privs_3 ++ (lw_privs_4 ++ (lw_privs_5 ++ (lw_privs_6)))))
def lw_tbl : List Cond := k2_sels lw_privs ++ tables_1
theorem lw_privs_ok : ∀ q ∈ lw_privs, lw_okq q := by
  show ∀ q ∈ lw_privs_1 ++ (lw_privs_2 ++ (lw_privs_3 ++ (lw_privs_4 ++ (lw_privs_5 ++ (lw_privs_6))))), lw_okq q
  exact List.forall_mem_append.mpr ⟨lw_r1, List.forall_mem_append.mpr ⟨lw_r2, List.forall_mem_append.mpr ⟨lw_r3, List.forall_mem_append.mpr ⟨lw_r4, List.forall_mem_append.mpr ⟨lw_r5, lw_r6⟩⟩⟩⟩⟩
-- ===== ONE list of words for every method: the tables' words that hold all through a run =====
def lw_all : List Cond := lw_tbl.filter goodWord
/-- a word of the tables by its place: claim/WORDS.tsv -/
theorem lw_w {w : Cond} (i : Nat) (h : lw_tbl[i]? = some w) (g : goodWord w = true) : w ∈ lw_all := List.mem_filter.mpr ⟨List.mem_of_getElem? h, g⟩
theorem lw_all_tbl {w : Cond} (h : w ∈ lw_all) : w ∈ lw_tbl := (List.mem_filter.mp h).1
theorem lw_self : GoodIn lw_all lw_all := fun w h => ⟨h, good_of_word (List.mem_filter.mp h).2⟩
/-- a class's field words, by their places -/
theorem lw_in (ws : List Cond) (ps : List Nat) (hp : ws = ps.filterMap (fun i => lw_tbl[i]?)) (hg : ws.all goodWord = true) : ∀ w ∈ ws, w ∈ lw_all := by
  intro w h
  have h1 := List.all_eq_true.mp hg w h
  rw [hp] at h
  obtain ⟨i, -, hi⟩ := List.mem_filterMap.mp h
  exact lw_w i hi h1
/-- the words of a contract for the method y with code b, L locals, answer r -/
abbrev ws_ (y : MethodName) (b : ByteArray) (L : Nat) (r : Option FieldType) : List Cond := Cond.code y b L r :: lw_all
theorem lw_meth {y : MethodName} {b : ByteArray} {L : Nat} {r : Option FieldType} (h : Cond.code y b L r ∈ lw_all) : GoodIn lw_all (ws_ y b L r) := by
  intro w hw
  rcases List.mem_cons.mp hw with e | e
  · rw [e]
    exact lw_self _ h
  · exact lw_self _ e
theorem lw_app {a c : List Cond} (ha : ∀ w ∈ a, w ∈ lw_all) (hc : GoodIn lw_all c) : GoodIn lw_all (a ++ c) := by
  intro w hw
  rcases List.mem_append.mp hw with e | e
  · exact lw_self w (ha w e)
  · exact hc w e
/-- what a call through an object asks: cwV n hts (lw_V ..) -/
theorem lw_V {own : String} {idx : Nat} {C : String} {y : MethodName} {b : ByteArray} {L : Nat} {r : Option FieldType} (h1 : Cond.methodLink own idx y ∈ lw_all) (h2 : Cond.instanceMethod y ∈ lw_all) (h3 : Cond.selects C y y ∈ lw_all) (h4 : Cond.initialized C ∈ lw_all) (h5 : Cond.code y b L r ∈ lw_all) : GoodIn lw_all (wsV own idx C y (ws_ y b L r)) := by
  refine lw_app ?_ (lw_meth h5)
  intro w hw
  simp only [List.mem_cons, List.not_mem_nil, or_false] at hw
  rcases hw with e | e | e | e
  · rw [e]; exact h1
  · rw [e]; exact h2
  · rw [e]; exact h3
  · rw [e]; exact h4
/-- what a static call asks: va_cwS n hts (lw_S ..) -/
theorem lw_S {own : String} {idx : Nat} {y : MethodName} {b : ByteArray} {L : Nat} {r : Option FieldType} (h1 : Cond.methodLink own idx y ∈ lw_all) (h2 : Cond.static y ∈ lw_all) (h3 : Cond.initialized y.cls ∈ lw_all) (h4 : Cond.code y b L r ∈ lw_all) : GoodIn lw_all (va_wsS own idx y (ws_ y b L r)) := by
  refine lw_app ?_ (lw_meth h4)
  intro w hw
  simp only [List.mem_cons, List.not_mem_nil, or_false] at hw
  rcases hw with e | e | e
  · rw [e]; exact h1
  · rw [e]; exact h2
  · rw [e]; exact h3
/-- the words of a contract for a method WITH HANDLERS (hh: its table) -/
abbrev wsW_ (y : MethodName) (b : ByteArray) (L : Nat) (r : Option FieldType) (hh : List (Nat × Nat × Nat × Nat)) : List Cond := Cond.codeWith y b L r hh :: lw_all
theorem lw_methW {y : MethodName} {b : ByteArray} {L : Nat} {r : Option FieldType} {hh : List (Nat × Nat × Nat × Nat)} (h : Cond.codeWith y b L r hh ∈ lw_all) : GoodIn lw_all (wsW_ y b L r hh) := by
  intro w hw
  rcases List.mem_cons.mp hw with e | e
  · rw [e]
    exact lw_self _ h
  · exact lw_self _ e
/-- any list of words by their places (lw_in), good -/
theorem lw_good {ws : List Cond} (h : ∀ w ∈ ws, w ∈ lw_all) : GoodIn lw_all ws := fun w hw => lw_self w (h w hw)
/-- what a call of a method with handlers asks: vx_cwVW n hts (lw_VW ..), vx_cwSW n hts (lw_SW ..) -/
theorem lw_VW {own : String} {idx : Nat} {C : String} {y : MethodName} {b : ByteArray} {L : Nat} {r : Option FieldType} {hh : List (Nat × Nat × Nat × Nat)} (h1 : Cond.methodLink own idx y ∈ lw_all) (h2 : Cond.instanceMethod y ∈ lw_all) (h3 : Cond.selects C y y ∈ lw_all) (h4 : Cond.initialized C ∈ lw_all) (h5 : Cond.codeWith y b L r hh ∈ lw_all) : GoodIn lw_all (wsV own idx C y (wsW_ y b L r hh)) := by
  refine lw_app ?_ (lw_methW h5)
  intro w hw
  simp only [List.mem_cons, List.not_mem_nil, or_false] at hw
  rcases hw with e | e | e | e
  · rw [e]; exact h1
  · rw [e]; exact h2
  · rw [e]; exact h3
  · rw [e]; exact h4
theorem lw_SW {own : String} {idx : Nat} {y : MethodName} {b : ByteArray} {L : Nat} {r : Option FieldType} {hh : List (Nat × Nat × Nat × Nat)} (h1 : Cond.methodLink own idx y ∈ lw_all) (h2 : Cond.static y ∈ lw_all) (h3 : Cond.initialized y.cls ∈ lw_all) (h4 : Cond.codeWith y b L r hh ∈ lw_all) : GoodIn lw_all (va_wsS own idx y (wsW_ y b L r hh)) := by
  refine lw_app ?_ (lw_methW h4)
  intro w hw
  simp only [List.mem_cons, List.not_mem_nil, or_false] at hw
  rcases hw with e | e | e
  · rw [e]; exact h1
  · rw [e]; exact h2
  · rw [e]; exact h3
/-- a word by its place in its run of the tables -/
theorem lw_at {r : List Cond} (hr : ∀ w ∈ r, w ∈ lw_tbl) {w : Cond} (i : Nat) (h : r[i]? = some w) : w ∈ lw_tbl := hr w (List.mem_of_getElem? h)
theorem lw_g {w : Cond} (h : w ∈ lw_tbl) (g : goodWord w = true) : w ∈ lw_all := List.mem_filter.mpr ⟨h, g⟩
theorem lw_ms : ∀ w ∈ k2_sels lw_privs, w ∈ lw_tbl := fun w h => show w ∈ k2_sels lw_privs ++ tables_1 from List.mem_append_left _ h
theorem lw_m1 : ∀ w ∈ tables_1_1, w ∈ lw_tbl := fun w h => show w ∈ k2_sels lw_privs ++ tables_1 from List.mem_append_right (k2_sels lw_privs) (show w ∈ tables_1 from List.mem_append_left _ h)
theorem lw_m2 : ∀ w ∈ tables_1_2, w ∈ lw_tbl := fun w h => show w ∈ k2_sels lw_privs ++ tables_1 from List.mem_append_right (k2_sels lw_privs) (show w ∈ tables_1 from List.mem_append_right _ (List.mem_append_left _ h))
theorem lw_m3 : ∀ w ∈ tables_1_3, w ∈ lw_tbl := fun w h => show w ∈ k2_sels lw_privs ++ tables_1 from List.mem_append_right (k2_sels lw_privs) (show w ∈ tables_1 from List.mem_append_right _ (List.mem_append_right _ (List.mem_append_left _ h)))
theorem lw_m4 : ∀ w ∈ tables_1_4, w ∈ lw_tbl := fun w h => show w ∈ k2_sels lw_privs ++ tables_1 from List.mem_append_right (k2_sels lw_privs) (show w ∈ tables_1 from List.mem_append_right _ (List.mem_append_right _ (List.mem_append_right _ (List.mem_append_left _ h))))
theorem lw_m5 : ∀ w ∈ tables_1_5, w ∈ lw_tbl := fun w h => show w ∈ k2_sels lw_privs ++ tables_1 from List.mem_append_right (k2_sels lw_privs) (show w ∈ tables_1 from List.mem_append_right _ (List.mem_append_right _ (List.mem_append_right _ (List.mem_append_right _ (List.mem_append_left _ h)))))
theorem lw_m6 : ∀ w ∈ tables_1_6, w ∈ lw_tbl := fun w h => show w ∈ k2_sels lw_privs ++ tables_1 from List.mem_append_right (k2_sels lw_privs) (show w ∈ tables_1 from List.mem_append_right _ (List.mem_append_right _ (List.mem_append_right _ (List.mem_append_right _ (List.mem_append_right _ (List.mem_append_left _ h))))))
theorem lw_m7 : ∀ w ∈ tables_1_7, w ∈ lw_tbl := fun w h => show w ∈ k2_sels lw_privs ++ tables_1 from List.mem_append_right (k2_sels lw_privs) (show w ∈ tables_1 from List.mem_append_right _ (List.mem_append_right _ (List.mem_append_right _ (List.mem_append_right _ (List.mem_append_right _ (List.mem_append_right _ h))))))
theorem qs0 : (Cond.selects "java/lang/Throwable" ⟨"java/lang/Throwable", "fillInStackTrace", "(I)Ljava/lang/Throwable;"⟩ ⟨"java/lang/Throwable", "fillInStackTrace", "(I)Ljava/lang/Throwable;"⟩) ∈ lw_all := lw_g (lw_at lw_ms 0 rfl) rfl
theorem qs1 : (Cond.selects "StrokesHeard" ⟨"StrokesHeard", "four", "(I)V"⟩ ⟨"StrokesHeard", "four", "(I)V"⟩) ∈ lw_all := lw_g (lw_at lw_ms 1 rfl) rfl
theorem qs2 : (Cond.selects "StrokesHeard" ⟨"StrokesHeard", "textRead", "()LStrokesHeard$Text;"⟩ ⟨"StrokesHeard", "textRead", "()LStrokesHeard$Text;"⟩) ∈ lw_all := lw_g (lw_at lw_ms 2 rfl) rfl
theorem qs3 : (Cond.selects "StrokesHeard" ⟨"StrokesHeard", "goes", "()V"⟩ ⟨"StrokesHeard", "goes", "()V"⟩) ∈ lw_all := lw_g (lw_at lw_ms 3 rfl) rfl
theorem qs4 : (Cond.selects "StrokesHeard" ⟨"StrokesHeard", "wrong", "()V"⟩ ⟨"StrokesHeard", "wrong", "()V"⟩) ∈ lw_all := lw_g (lw_at lw_ms 4 rfl) rfl
theorem qs5 : (Cond.selects "StrokesHeard" ⟨"StrokesHeard", "key", "()I"⟩ ⟨"StrokesHeard", "key", "()I"⟩) ∈ lw_all := lw_g (lw_at lw_ms 5 rfl) rfl
theorem qs6 : (Cond.selects "StrokesHeard" ⟨"StrokesHeard", "isWord", "(Ljava/lang/String;)Z"⟩ ⟨"StrokesHeard", "isWord", "(Ljava/lang/String;)Z"⟩) ∈ lw_all := lw_g (lw_at lw_ms 6 rfl) rfl
theorem qs7 : (Cond.selects "StrokesHeard" ⟨"StrokesHeard", "expression", "()LStrokesHeard$Words;"⟩ ⟨"StrokesHeard", "expression", "()LStrokesHeard$Words;"⟩) ∈ lw_all := lw_g (lw_at lw_ms 7 rfl) rfl
theorem qs8 : (Cond.selects "StrokesHeard" ⟨"StrokesHeard", "or", "(LStrokesHeard$Words;)V"⟩ ⟨"StrokesHeard", "or", "(LStrokesHeard$Words;)V"⟩) ∈ lw_all := lw_g (lw_at lw_ms 8 rfl) rfl
theorem qs9 : (Cond.selects "StrokesHeard" ⟨"StrokesHeard", "and", "(LStrokesHeard$Words;)V"⟩ ⟨"StrokesHeard", "and", "(LStrokesHeard$Words;)V"⟩) ∈ lw_all := lw_g (lw_at lw_ms 9 rfl) rfl
theorem qs10 : (Cond.selects "StrokesHeard" ⟨"StrokesHeard", "test", "(LStrokesHeard$Words;)V"⟩ ⟨"StrokesHeard", "test", "(LStrokesHeard$Words;)V"⟩) ∈ lw_all := lw_g (lw_at lw_ms 10 rfl) rfl
theorem qs11 : (Cond.selects "StrokesHeard" ⟨"StrokesHeard", "sum", "(LStrokesHeard$Words;)V"⟩ ⟨"StrokesHeard", "sum", "(LStrokesHeard$Words;)V"⟩) ∈ lw_all := lw_g (lw_at lw_ms 11 rfl) rfl
theorem qs12 : (Cond.selects "StrokesHeard" ⟨"StrokesHeard", "term", "(LStrokesHeard$Words;)V"⟩ ⟨"StrokesHeard", "term", "(LStrokesHeard$Words;)V"⟩) ∈ lw_all := lw_g (lw_at lw_ms 12 rfl) rfl
theorem qs13 : (Cond.selects "StrokesHeard" ⟨"StrokesHeard", "piece", "(LStrokesHeard$Words;)V"⟩ ⟨"StrokesHeard", "piece", "(LStrokesHeard$Words;)V"⟩) ∈ lw_all := lw_g (lw_at lw_ms 13 rfl) rfl
theorem qs14 : (Cond.selects "StrokesHeard" ⟨"StrokesHeard", "isSign", "(I)Z"⟩ ⟨"StrokesHeard", "isSign", "(I)Z"⟩) ∈ lw_all := lw_g (lw_at lw_ms 14 rfl) rfl
theorem qs15 : (Cond.selects "StrokesHeard" ⟨"StrokesHeard", "number", "()I"⟩ ⟨"StrokesHeard", "number", "()I"⟩) ∈ lw_all := lw_g (lw_at lw_ms 15 rfl) rfl
theorem qs16 : (Cond.selects "StrokesHeard" ⟨"StrokesHeard", "isName", "(I)Z"⟩ ⟨"StrokesHeard", "isName", "(I)Z"⟩) ∈ lw_all := lw_g (lw_at lw_ms 16 rfl) rfl
theorem qs17 : (Cond.selects "StrokesHeard" ⟨"StrokesHeard", "counts", "(I)I"⟩ ⟨"StrokesHeard", "counts", "(I)I"⟩) ∈ lw_all := lw_g (lw_at lw_ms 17 rfl) rfl
theorem qs18 : (Cond.selects "StrokesHeard" ⟨"StrokesHeard", "comes", "(III)I"⟩ ⟨"StrokesHeard", "comes", "(III)I"⟩) ∈ lw_all := lw_g (lw_at lw_ms 18 rfl) rfl
theorem qs19 : (Cond.selects "StrokesHeard" ⟨"StrokesHeard", "isClock", "(I)Z"⟩ ⟨"StrokesHeard", "isClock", "(I)Z"⟩) ∈ lw_all := lw_g (lw_at lw_ms 19 rfl) rfl
theorem qs20 : (Cond.selects "StrokesHeard" ⟨"StrokesHeard", "timeNow", "()I"⟩ ⟨"StrokesHeard", "timeNow", "()I"⟩) ∈ lw_all := lw_g (lw_at lw_ms 20 rfl) rfl
theorem qs21 : (Cond.selects "StrokesHeard" ⟨"StrokesHeard", "strokesOf", "(LStrokesHeard$Ringer;I)I"⟩ ⟨"StrokesHeard", "strokesOf", "(LStrokesHeard$Ringer;I)I"⟩) ∈ lw_all := lw_g (lw_at lw_ms 21 rfl) rfl
theorem qs22 : (Cond.selects "StrokesHeard" ⟨"StrokesHeard", "againAt", "(LStrokesHeard$Ringer;I)I"⟩ ⟨"StrokesHeard", "againAt", "(LStrokesHeard$Ringer;I)I"⟩) ∈ lw_all := lw_g (lw_at lw_ms 22 rfl) rfl
theorem qs23 : (Cond.selects "StrokesHeard" ⟨"StrokesHeard", "reckon", "(LStrokesHeard$Words;)I"⟩ ⟨"StrokesHeard", "reckon", "(LStrokesHeard$Words;)I"⟩) ∈ lw_all := lw_g (lw_at lw_ms 23 rfl) rfl
theorem qs24 : (Cond.selects "StrokesHeard" ⟨"StrokesHeard", "inAll", "(LStrokesHeard$Ringer;)I"⟩ ⟨"StrokesHeard", "inAll", "(LStrokesHeard$Ringer;)I"⟩) ∈ lw_all := lw_g (lw_at lw_ms 24 rfl) rfl
theorem qs25 : (Cond.selects "StrokesHeard" ⟨"StrokesHeard", "totalAt", "(I)I"⟩ ⟨"StrokesHeard", "totalAt", "(I)I"⟩) ∈ lw_all := lw_g (lw_at lw_ms 25 rfl) rfl
theorem qs26 : (Cond.selects "StrokesHeard" ⟨"StrokesHeard", "goesOn", "(I)V"⟩ ⟨"StrokesHeard", "goesOn", "(I)V"⟩) ∈ lw_all := lw_g (lw_at lw_ms 26 rfl) rfl
theorem qs27 : (Cond.selects "StrokesHeard" ⟨"StrokesHeard", "aMinute", "()V"⟩ ⟨"StrokesHeard", "aMinute", "()V"⟩) ∈ lw_all := lw_g (lw_at lw_ms 27 rfl) rfl
theorem qs28 : (Cond.selects "StrokesHeard" ⟨"StrokesHeard", "addsUpAll", "()V"⟩ ⟨"StrokesHeard", "addsUpAll", "()V"⟩) ∈ lw_all := lw_g (lw_at lw_ms 28 rfl) rfl
theorem qs29 : (Cond.selects "StrokesHeard" ⟨"StrokesHeard", "addsUp", "(ILStrokesHeard$Ringer;)V"⟩ ⟨"StrokesHeard", "addsUp", "(ILStrokesHeard$Ringer;)V"⟩) ∈ lw_all := lw_g (lw_at lw_ms 29 rfl) rfl
theorem qs30 : (Cond.selects "StrokesHeard" ⟨"StrokesHeard", "isFit", "(I)Z"⟩ ⟨"StrokesHeard", "isFit", "(I)Z"⟩) ∈ lw_all := lw_g (lw_at lw_ms 30 rfl) rfl
theorem qs31 : (Cond.selects "StrokesHeard" ⟨"StrokesHeard", "isSure", "()Z"⟩ ⟨"StrokesHeard", "isSure", "()Z"⟩) ∈ lw_all := lw_g (lw_at lw_ms 31 rfl) rfl
theorem qs32 : (Cond.selects "StrokesHeard" ⟨"StrokesHeard", "holds", "()I"⟩ ⟨"StrokesHeard", "holds", "()I"⟩) ∈ lw_all := lw_g (lw_at lw_ms 32 rfl) rfl
theorem qs33 : (Cond.selects "StrokesHeard" ⟨"StrokesHeard", "thinks", "()V"⟩ ⟨"StrokesHeard", "thinks", "()V"⟩) ∈ lw_all := lw_g (lw_at lw_ms 33 rfl) rfl
theorem qs34 : (Cond.selects "StrokesHeard" ⟨"StrokesHeard", "putsBack", "()V"⟩ ⟨"StrokesHeard", "putsBack", "()V"⟩) ∈ lw_all := lw_g (lw_at lw_ms 34 rfl) rfl
theorem qs35 : (Cond.selects "StrokesHeard" ⟨"StrokesHeard", "carries", "(LStrokesHeard$Sheet;ILStrokesHeard$Sheet;II)V"⟩ ⟨"StrokesHeard", "carries", "(LStrokesHeard$Sheet;ILStrokesHeard$Sheet;II)V"⟩) ∈ lw_all := lw_g (lw_at lw_ms 35 rfl) rfl
theorem qs36 : (Cond.selects "StrokesHeard" ⟨"StrokesHeard", "own", "(LStrokesHeard$Sheet;)LStrokesHeard$Sheet;"⟩ ⟨"StrokesHeard", "own", "(LStrokesHeard$Sheet;)LStrokesHeard$Sheet;"⟩) ∈ lw_all := lw_g (lw_at lw_ms 36 rfl) rfl
theorem qs37 : (Cond.selects "StrokesHeard" ⟨"StrokesHeard", "rowsOfMinutes", "(I)I"⟩ ⟨"StrokesHeard", "rowsOfMinutes", "(I)I"⟩) ∈ lw_all := lw_g (lw_at lw_ms 37 rfl) rfl
theorem qs38 : (Cond.selects "StrokesHeardModel" ⟨"StrokesHeardModel", "comes", "(III)V"⟩ ⟨"StrokesHeardModel", "comes", "(III)V"⟩) ∈ lw_all := lw_g (lw_at lw_ms 38 rfl) rfl
theorem qs39 : (Cond.selects "StrokesHeardModel" ⟨"StrokesHeardModel", "sets", "(III)V"⟩ ⟨"StrokesHeardModel", "sets", "(III)V"⟩) ∈ lw_all := lw_g (lw_at lw_ms 39 rfl) rfl
theorem qs40 : (Cond.selects "StrokesHeardModel" ⟨"StrokesHeardModel", "isClock", "(I)Z"⟩ ⟨"StrokesHeardModel", "isClock", "(I)Z"⟩) ∈ lw_all := lw_g (lw_at lw_ms 40 rfl) rfl
theorem qs41 : (Cond.selects "StrokesHeardModel" ⟨"StrokesHeardModel", "of", "(II)I"⟩ ⟨"StrokesHeardModel", "of", "(II)I"⟩) ∈ lw_all := lw_g (lw_at lw_ms 41 rfl) rfl
theorem qs42 : (Cond.selects "StrokesHeardModel" ⟨"StrokesHeardModel", "timeNow", "()I"⟩ ⟨"StrokesHeardModel", "timeNow", "()I"⟩) ∈ lw_all := lw_g (lw_at lw_ms 42 rfl) rfl
theorem qs43 : (Cond.selects "StrokesHeardModel" ⟨"StrokesHeardModel", "strikes", "(II)I"⟩ ⟨"StrokesHeardModel", "strikes", "(II)I"⟩) ∈ lw_all := lw_g (lw_at lw_ms 43 rfl) rfl
theorem qs44 : (Cond.selects "StrokesHeardModel" ⟨"StrokesHeardModel", "atHour", "(II)I"⟩ ⟨"StrokesHeardModel", "atHour", "(II)I"⟩) ∈ lw_all := lw_g (lw_at lw_ms 44 rfl) rfl
theorem qs45 : (Cond.selects "StrokesHeardModel" ⟨"StrokesHeardModel", "again", "(II)I"⟩ ⟨"StrokesHeardModel", "again", "(II)I"⟩) ∈ lw_all := lw_g (lw_at lw_ms 45 rfl) rfl
theorem qs46 : (Cond.selects "StrokesHeardModel" ⟨"StrokesHeardModel", "counts", "(I)I"⟩ ⟨"StrokesHeardModel", "counts", "(I)I"⟩) ∈ lw_all := lw_g (lw_at lw_ms 46 rfl) rfl
theorem qs47 : (Cond.selects "StrokesHeardModel" ⟨"StrokesHeardModel", "textAt", "(I)I"⟩ ⟨"StrokesHeardModel", "textAt", "(I)I"⟩) ∈ lw_all := lw_g (lw_at lw_ms 47 rfl) rfl
theorem qs48 : (Cond.selects "StrokesHeardModel" ⟨"StrokesHeardModel", "worked", "(I)I"⟩ ⟨"StrokesHeardModel", "worked", "(I)I"⟩) ∈ lw_all := lw_g (lw_at lw_ms 48 rfl) rfl
theorem qs49 : (Cond.selects "StrokesHeardModel" ⟨"StrokesHeardModel", "worth", "(I)I"⟩ ⟨"StrokesHeardModel", "worth", "(I)I"⟩) ∈ lw_all := lw_g (lw_at lw_ms 49 rfl) rfl
theorem qs50 : (Cond.selects "StrokesHeardModel" ⟨"StrokesHeardModel", "becomes", "(II)I"⟩ ⟨"StrokesHeardModel", "becomes", "(II)I"⟩) ∈ lw_all := lw_g (lw_at lw_ms 50 rfl) rfl
theorem qs51 : (Cond.selects "StrokesHeardModel" ⟨"StrokesHeardModel", "totalAt", "(I)I"⟩ ⟨"StrokesHeardModel", "totalAt", "(I)I"⟩) ∈ lw_all := lw_g (lw_at lw_ms 51 rfl) rfl
theorem qs52 : (Cond.selects "StrokesHeardModel" ⟨"StrokesHeardModel", "drawn", "()I"⟩ ⟨"StrokesHeardModel", "drawn", "()I"⟩) ∈ lw_all := lw_g (lw_at lw_ms 52 rfl) rfl
theorem qs53 : (Cond.selects "StrokesHeardModel" ⟨"StrokesHeardModel", "goesOnMany", "(I)V"⟩ ⟨"StrokesHeardModel", "goesOnMany", "(I)V"⟩) ∈ lw_all := lw_g (lw_at lw_ms 53 rfl) rfl
theorem qs54 : (Cond.selects "StrokesHeardModel" ⟨"StrokesHeardModel", "goesOn", "()V"⟩ ⟨"StrokesHeardModel", "goesOn", "()V"⟩) ∈ lw_all := lw_g (lw_at lw_ms 54 rfl) rfl
theorem qs55 : (Cond.selects "StrokesHeardModel" ⟨"StrokesHeardModel", "findAll", "()V"⟩ ⟨"StrokesHeardModel", "findAll", "()V"⟩) ∈ lw_all := lw_g (lw_at lw_ms 55 rfl) rfl
theorem qs56 : (Cond.selects "StrokesHeardModel" ⟨"StrokesHeardModel", "doesFit", "(I)Z"⟩ ⟨"StrokesHeardModel", "doesFit", "(I)Z"⟩) ∈ lw_all := lw_g (lw_at lw_ms 56 rfl) rfl
theorem qs57 : (Cond.selects "StrokesHeardModel" ⟨"StrokesHeardModel", "manyFit", "()I"⟩ ⟨"StrokesHeardModel", "manyFit", "()I"⟩) ∈ lw_all := lw_g (lw_at lw_ms 57 rfl) rfl
theorem qs58 : (Cond.selects "StrokesHeardModel" ⟨"StrokesHeardModel", "hoursFit", "()I"⟩ ⟨"StrokesHeardModel", "hoursFit", "()I"⟩) ∈ lw_all := lw_g (lw_at lw_ms 58 rfl) rfl
theorem qs59 : (Cond.selects "StrokesHeardModel" ⟨"StrokesHeardModel", "isSure", "()Z"⟩ ⟨"StrokesHeardModel", "isSure", "()Z"⟩) ∈ lw_all := lw_g (lw_at lw_ms 59 rfl) rfl
theorem qs60 : (Cond.selects "StrokesHeardModel" ⟨"StrokesHeardModel", "findMore", "(II)V"⟩ ⟨"StrokesHeardModel", "findMore", "(II)V"⟩) ∈ lw_all := lw_g (lw_at lw_ms 60 rfl) rfl
theorem qs61 : (Cond.selects "StrokesHeardModel" ⟨"StrokesHeardModel", "offBy", "(II)I"⟩ ⟨"StrokesHeardModel", "offBy", "(II)I"⟩) ∈ lw_all := lw_g (lw_at lw_ms 61 rfl) rfl
theorem qs62 : (Cond.selects "StrokesHeardModel" ⟨"StrokesHeardModel", "laysBy", "()V"⟩ ⟨"StrokesHeardModel", "laysBy", "()V"⟩) ∈ lw_all := lw_g (lw_at lw_ms 62 rfl) rfl
theorem qs63 : (Cond.selects "StrokesHeardModel" ⟨"StrokesHeardModel", "laysBack", "()V"⟩ ⟨"StrokesHeardModel", "laysBack", "()V"⟩) ∈ lw_all := lw_g (lw_at lw_ms 63 rfl) rfl
theorem qs64 : (Cond.selects "StrokesHeardModel" ⟨"StrokesHeardModel", "parse", "()I"⟩ ⟨"StrokesHeardModel", "parse", "()I"⟩) ∈ lw_all := lw_g (lw_at lw_ms 64 rfl) rfl
theorem qs65 : (Cond.selects "StrokesHeardModel" ⟨"StrokesHeardModel", "nextToken", "()V"⟩ ⟨"StrokesHeardModel", "nextToken", "()V"⟩) ∈ lw_all := lw_g (lw_at lw_ms 65 rfl) rfl
theorem qs66 : (Cond.selects "StrokesHeardModel" ⟨"StrokesHeardModel", "isLetter", "(I)Z"⟩ ⟨"StrokesHeardModel", "isLetter", "(I)Z"⟩) ∈ lw_all := lw_g (lw_at lw_ms 66 rfl) rfl
theorem qs67 : (Cond.selects "StrokesHeardModel" ⟨"StrokesHeardModel", "isDigit", "(I)Z"⟩ ⟨"StrokesHeardModel", "isDigit", "(I)Z"⟩) ∈ lw_all := lw_g (lw_at lw_ms 67 rfl) rfl
theorem qs68 : (Cond.selects "StrokesHeardModel" ⟨"StrokesHeardModel", "key", "()I"⟩ ⟨"StrokesHeardModel", "key", "()I"⟩) ∈ lw_all := lw_g (lw_at lw_ms 68 rfl) rfl
theorem qs69 : (Cond.selects "StrokesHeardModel" ⟨"StrokesHeardModel", "isLong", "(IIIIII)Z"⟩ ⟨"StrokesHeardModel", "isLong", "(IIIIII)Z"⟩) ∈ lw_all := lw_g (lw_at lw_ms 69 rfl) rfl
theorem qs70 : (Cond.selects "StrokesHeardModel" ⟨"StrokesHeardModel", "isWordAt", "(IIII)Z"⟩ ⟨"StrokesHeardModel", "isWordAt", "(IIII)Z"⟩) ∈ lw_all := lw_g (lw_at lw_ms 70 rfl) rfl
theorem qs71 : (Cond.selects "StrokesHeardModel" ⟨"StrokesHeardModel", "either", "(I)Z"⟩ ⟨"StrokesHeardModel", "either", "(I)Z"⟩) ∈ lw_all := lw_g (lw_at lw_ms 71 rfl) rfl
theorem qs72 : (Cond.selects "StrokesHeardModel" ⟨"StrokesHeardModel", "both", "(I)Z"⟩ ⟨"StrokesHeardModel", "both", "(I)Z"⟩) ∈ lw_all := lw_g (lw_at lw_ms 72 rfl) rfl
theorem qs73 : (Cond.selects "StrokesHeardModel" ⟨"StrokesHeardModel", "test", "(I)Z"⟩ ⟨"StrokesHeardModel", "test", "(I)Z"⟩) ∈ lw_all := lw_g (lw_at lw_ms 73 rfl) rfl
theorem qs74 : (Cond.selects "StrokesHeardModel" ⟨"StrokesHeardModel", "sum", "(I)Z"⟩ ⟨"StrokesHeardModel", "sum", "(I)Z"⟩) ∈ lw_all := lw_g (lw_at lw_ms 74 rfl) rfl
theorem qs75 : (Cond.selects "StrokesHeardModel" ⟨"StrokesHeardModel", "term", "(I)Z"⟩ ⟨"StrokesHeardModel", "term", "(I)Z"⟩) ∈ lw_all := lw_g (lw_at lw_ms 75 rfl) rfl
theorem qs76 : (Cond.selects "StrokesHeardModel" ⟨"StrokesHeardModel", "part0", "(I)Z"⟩ ⟨"StrokesHeardModel", "part0", "(I)Z"⟩) ∈ lw_all := lw_g (lw_at lw_ms 76 rfl) rfl
theorem qs77 : (Cond.selects "StrokesHeardModel" ⟨"StrokesHeardModel", "step", "(II)V"⟩ ⟨"StrokesHeardModel", "step", "(II)V"⟩) ∈ lw_all := lw_g (lw_at lw_ms 77 rfl) rfl
theorem qs78 : (Cond.selects "StrokesHeardModel" ⟨"StrokesHeardModel", "isSign", "(I)Z"⟩ ⟨"StrokesHeardModel", "isSign", "(I)Z"⟩) ∈ lw_all := lw_g (lw_at lw_ms 78 rfl) rfl
theorem qs79 : (Cond.selects "StrokesHeardModel" ⟨"StrokesHeardModel", "isText", "(I)Z"⟩ ⟨"StrokesHeardModel", "isText", "(I)Z"⟩) ∈ lw_all := lw_g (lw_at lw_ms 79 rfl) rfl
theorem qs80 : (Cond.selects "StrokesHeardModel" ⟨"StrokesHeardModel", "setAside", "([I[I)V"⟩ ⟨"StrokesHeardModel", "setAside", "([I[I)V"⟩) ∈ lw_all := lw_g (lw_at lw_ms 80 rfl) rfl
