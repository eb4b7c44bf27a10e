/-! StrokesHeard$State -/
set_option maxRecDepth 100000
def RX1 : String := "StrokesHeard$State"
def TX1 : u_T := fun k => match k with
  | 0 => ("StrokesHeard$State", "z", "I", false)
  | 1 => ("StrokesHeard$State", "many", "I", false)
  | 2 => ("StrokesHeard$State", "clock", "[LStrokesHeard$Ringer;", true)
  | 3 => ("StrokesHeard$State", "bed", "[I", true)
  | 4 => ("StrokesHeard$State", "heard", "I", false)
  | 5 => ("StrokesHeard$State", "missed", "I", false)
  | 6 => ("StrokesHeard$State", "mistaken", "I", false)
  | 7 => ("StrokesHeard$State", "minute", "I", false)
  | 8 => ("StrokesHeard$State", "note", "[I", true)
  | 9 => ("StrokesHeard$State", "notes", "I", false)
  | 10 => ("StrokesHeard$State", "texts", "I", false)
  | _ => ("StrokesHeard$State", "text", "[LStrokesHeard$Text;", true)
def tyX1 : Nat → FieldType := fun k => match k with
  | 0 => .int
  | 1 => .int
  | 2 => .array (.object "StrokesHeard$Ringer")
  | 3 => .array .int
  | 4 => .int
  | 5 => .int
  | 6 => .int
  | 7 => .int
  | 8 => .array .int
  | 9 => .int
  | 10 => .int
  | _ => .array (.object "StrokesHeard$Text")
abbrev wsX10 : List Cond := u_ws RX1 TX1 12
theorem nmX1 : ∀ a, a < 12 → ∀ b, b < 12 → a ≠ b → (TX1 a).2.1 ≠ (TX1 b).2.1 := by decide +kernel
theorem tyX1_ok : ∀ k, k < 12 → parseFieldDescriptor (TX1 k).2.2.1 = some (tyX1 k) := by decide +kernel
abbrev cX1_init : ByteArray := prog_11_method_1_code
def yX1_init : MethodName := ⟨RX1, "<init>", "()V"⟩
def dkwX1_init_2 : List UInt8 := [181, 0, 30, 177]
abbrev dktX1_init_2 : List UInt8 := dkwX1_init_2 ++ []
def dkwX1_init_1 : List UInt8 := [16, 100, 79, 89, 4, 3, 79, 181, 0, 21, 42, 16, 12, 188, 10, 181, 0, 25, 42, 16, 14, 189, 0, 28]
abbrev dktX1_init_1 : List UInt8 := dkwX1_init_1 ++ dktX1_init_2
def dkwX1_init_0 : List UInt8 := [42, 183, 0, 3, 42, 4, 181, 0, 9, 42, 16, 6, 189, 0, 15, 181, 0, 17, 42, 5, 188, 10, 89, 3]
abbrev dktX1_init_0 : List UInt8 := dkwX1_init_0 ++ dktX1_init_1
theorem dksX1_init_0 : cX1_init.data.toList.drop 0 = dktX1_init_0 := by decide +kernel
theorem dksX1_init_1 : cX1_init.data.toList.drop 24 = dktX1_init_1 := dk_seg dksX1_init_0 24 rfl rfl
theorem dksX1_init_2 : cX1_init.data.toList.drop 48 = dktX1_init_2 := dk_seg dksX1_init_1 24 rfl rfl
theorem dX1_init_0 : decode cX1_init 0 = .ok (.aload_n 0, 1) := dk_42 (dk_at dksX1_init_0 0 rfl rfl)
theorem dX1_init_1 : decode cX1_init 1 = .ok (.invokespecial 3, 3) := dk_183 0 3 (dk_at dksX1_init_0 1 rfl rfl)
theorem dX1_init_4 : decode cX1_init 4 = .ok (.aload_n 0, 1) := dk_42 (dk_at dksX1_init_0 4 rfl rfl)
theorem dX1_init_5 : decode cX1_init 5 = .ok (.iconst 1, 1) := dk_4 (dk_at dksX1_init_0 5 rfl rfl)
theorem dX1_init_6 : decode cX1_init 6 = .ok (.putfield 9, 3) := dk_181 0 9 (dk_at dksX1_init_0 6 rfl rfl)
theorem dX1_init_9 : decode cX1_init 9 = .ok (.aload_n 0, 1) := dk_42 (dk_at dksX1_init_0 9 rfl rfl)
theorem dX1_init_10 : decode cX1_init 10 = .ok (.bipush 6, 2) := dk_16 6 (dk_at dksX1_init_0 10 rfl rfl)
theorem dX1_init_12 : decode cX1_init 12 = .ok (.anewarray 15, 3) := dk_189 0 15 (dk_at dksX1_init_0 12 rfl rfl)
theorem dX1_init_15 : decode cX1_init 15 = .ok (.putfield 17, 3) := dk_181 0 17 (dk_at dksX1_init_0 15 rfl rfl)
theorem dX1_init_18 : decode cX1_init 18 = .ok (.aload_n 0, 1) := dk_42 (dk_at dksX1_init_0 18 rfl rfl)
theorem dX1_init_19 : decode cX1_init 19 = .ok (.iconst 2, 1) := dk_5 (dk_at dksX1_init_0 19 rfl rfl)
theorem dX1_init_20 : decode cX1_init 20 = .ok (.newarray .int, 2) := dk_188_10 (dk_at dksX1_init_0 20 rfl rfl)
theorem dX1_init_22 : decode cX1_init 22 = .ok (.dup, 1) := dk_89 (dk_at dksX1_init_0 22 rfl rfl)
theorem dX1_init_23 : decode cX1_init 23 = .ok (.iconst 0, 1) := dk_3 (dk_at dksX1_init_0 23 rfl rfl)
theorem dX1_init_24 : decode cX1_init 24 = .ok (.bipush 100, 2) := dk_16 100 (dk_at dksX1_init_1 0 rfl rfl)
theorem dX1_init_26 : decode cX1_init 26 = .ok (.iastore, 1) := dk_79 (dk_at dksX1_init_1 2 rfl rfl)
theorem dX1_init_27 : decode cX1_init 27 = .ok (.dup, 1) := dk_89 (dk_at dksX1_init_1 3 rfl rfl)
theorem dX1_init_28 : decode cX1_init 28 = .ok (.iconst 1, 1) := dk_4 (dk_at dksX1_init_1 4 rfl rfl)
theorem dX1_init_29 : decode cX1_init 29 = .ok (.iconst 0, 1) := dk_3 (dk_at dksX1_init_1 5 rfl rfl)
theorem dX1_init_30 : decode cX1_init 30 = .ok (.iastore, 1) := dk_79 (dk_at dksX1_init_1 6 rfl rfl)
theorem dX1_init_31 : decode cX1_init 31 = .ok (.putfield 21, 3) := dk_181 0 21 (dk_at dksX1_init_1 7 rfl rfl)
theorem dX1_init_34 : decode cX1_init 34 = .ok (.aload_n 0, 1) := dk_42 (dk_at dksX1_init_1 10 rfl rfl)
theorem dX1_init_35 : decode cX1_init 35 = .ok (.bipush 12, 2) := dk_16 12 (dk_at dksX1_init_1 11 rfl rfl)
theorem dX1_init_37 : decode cX1_init 37 = .ok (.newarray .int, 2) := dk_188_10 (dk_at dksX1_init_1 13 rfl rfl)
theorem dX1_init_39 : decode cX1_init 39 = .ok (.putfield 25, 3) := dk_181 0 25 (dk_at dksX1_init_1 15 rfl rfl)
theorem dX1_init_42 : decode cX1_init 42 = .ok (.aload_n 0, 1) := dk_42 (dk_at dksX1_init_1 18 rfl rfl)
theorem dX1_init_43 : decode cX1_init 43 = .ok (.bipush 14, 2) := dk_16 14 (dk_at dksX1_init_1 19 rfl rfl)
theorem dX1_init_45 : decode cX1_init 45 = .ok (.anewarray 28, 3) := dk_189 0 28 (dk_at dksX1_init_1 21 rfl rfl)
theorem dX1_init_48 : decode cX1_init 48 = .ok (.putfield 30, 3) := dk_181 0 30 (dk_at dksX1_init_2 0 rfl rfl)
theorem dX1_init_51 : decode cX1_init 51 = .ok (.return_, 1) := dk_177 (dk_at dksX1_init_2 3 rfl rfl)
abbrev cX1_draw : ByteArray := prog_11_method_3_code
def yX1_draw : MethodName := ⟨RX1, "draw", "()I"⟩
def dkwX1_draw_0 : List UInt8 := [42, 42, 180, 0, 9, 18, 77, 104, 17, 48, 57, 96, 181, 0, 9, 42, 180, 0, 9, 16, 8, 124, 172]
abbrev dktX1_draw_0 : List UInt8 := dkwX1_draw_0 ++ []
theorem dksX1_draw_0 : cX1_draw.data.toList.drop 0 = dktX1_draw_0 := by decide +kernel
theorem dX1_draw_0 : decode cX1_draw 0 = .ok (.aload_n 0, 1) := dk_42 (dk_at dksX1_draw_0 0 rfl rfl)
theorem dX1_draw_1 : decode cX1_draw 1 = .ok (.aload_n 0, 1) := dk_42 (dk_at dksX1_draw_0 1 rfl rfl)
theorem dX1_draw_2 : decode cX1_draw 2 = .ok (.getfield 9, 3) := dk_180 0 9 (dk_at dksX1_draw_0 2 rfl rfl)
theorem dX1_draw_5 : decode cX1_draw 5 = .ok (.ldc 77, 2) := dk_18 77 (dk_at dksX1_draw_0 5 rfl rfl)
theorem dX1_draw_7 : decode cX1_draw 7 = .ok (.imul, 1) := dk_104 (dk_at dksX1_draw_0 7 rfl rfl)
theorem dX1_draw_8 : decode cX1_draw 8 = .ok (.sipush 12345, 3) := dk_17 48 57 (dk_at dksX1_draw_0 8 rfl rfl)
theorem dX1_draw_11 : decode cX1_draw 11 = .ok (.iadd, 1) := dk_96 (dk_at dksX1_draw_0 11 rfl rfl)
theorem dX1_draw_12 : decode cX1_draw 12 = .ok (.putfield 9, 3) := dk_181 0 9 (dk_at dksX1_draw_0 12 rfl rfl)
theorem dX1_draw_15 : decode cX1_draw 15 = .ok (.aload_n 0, 1) := dk_42 (dk_at dksX1_draw_0 15 rfl rfl)
theorem dX1_draw_16 : decode cX1_draw 16 = .ok (.getfield 9, 3) := dk_180 0 9 (dk_at dksX1_draw_0 16 rfl rfl)
theorem dX1_draw_19 : decode cX1_draw 19 = .ok (.bipush 8, 2) := dk_16 8 (dk_at dksX1_draw_0 19 rfl rfl)
theorem dX1_draw_21 : decode cX1_draw 21 = .ok (.iushr, 1) := dk_124 (dk_at dksX1_draw_0 21 rfl rfl)
theorem dX1_draw_22 : decode cX1_draw 22 = .ok (.ireturn, 1) := dk_172 (dk_at dksX1_draw_0 22 rfl rfl)
abbrev cX1_notes : ByteArray := prog_11_method_4_code
def yX1_notes : MethodName := ⟨RX1, "notes", "(I)V"⟩
def dkwX1_notes_1 : List UInt8 := [16, 12, 42, 180, 0, 65, 4, 96, 184, 0, 78, 181, 0, 65, 177]
abbrev dktX1_notes_1 : List UInt8 := dkwX1_notes_1 ++ []
def dkwX1_notes_0 : List UInt8 := [42, 180, 0, 25, 3, 42, 180, 0, 25, 4, 16, 11, 184, 0, 71, 42, 180, 0, 25, 3, 27, 79, 42]
abbrev dktX1_notes_0 : List UInt8 := dkwX1_notes_0 ++ dktX1_notes_1
theorem dksX1_notes_0 : cX1_notes.data.toList.drop 0 = dktX1_notes_0 := by decide +kernel
theorem dksX1_notes_1 : cX1_notes.data.toList.drop 23 = dktX1_notes_1 := dk_seg dksX1_notes_0 23 rfl rfl
theorem dX1_notes_0 : decode cX1_notes 0 = .ok (.aload_n 0, 1) := dk_42 (dk_at dksX1_notes_0 0 rfl rfl)
theorem dX1_notes_1 : decode cX1_notes 1 = .ok (.getfield 25, 3) := dk_180 0 25 (dk_at dksX1_notes_0 1 rfl rfl)
theorem dX1_notes_4 : decode cX1_notes 4 = .ok (.iconst 0, 1) := dk_3 (dk_at dksX1_notes_0 4 rfl rfl)
theorem dX1_notes_5 : decode cX1_notes 5 = .ok (.aload_n 0, 1) := dk_42 (dk_at dksX1_notes_0 5 rfl rfl)
theorem dX1_notes_6 : decode cX1_notes 6 = .ok (.getfield 25, 3) := dk_180 0 25 (dk_at dksX1_notes_0 6 rfl rfl)
theorem dX1_notes_9 : decode cX1_notes 9 = .ok (.iconst 1, 1) := dk_4 (dk_at dksX1_notes_0 9 rfl rfl)
theorem dX1_notes_10 : decode cX1_notes 10 = .ok (.bipush 11, 2) := dk_16 11 (dk_at dksX1_notes_0 10 rfl rfl)
theorem dX1_notes_12 : decode cX1_notes 12 = .ok (.invokestatic 71, 3) := dk_184 0 71 (dk_at dksX1_notes_0 12 rfl rfl)
theorem dX1_notes_15 : decode cX1_notes 15 = .ok (.aload_n 0, 1) := dk_42 (dk_at dksX1_notes_0 15 rfl rfl)
theorem dX1_notes_16 : decode cX1_notes 16 = .ok (.getfield 25, 3) := dk_180 0 25 (dk_at dksX1_notes_0 16 rfl rfl)
theorem dX1_notes_19 : decode cX1_notes 19 = .ok (.iconst 0, 1) := dk_3 (dk_at dksX1_notes_0 19 rfl rfl)
theorem dX1_notes_20 : decode cX1_notes 20 = .ok (.iload_n 1, 1) := dk_27 (dk_at dksX1_notes_0 20 rfl rfl)
theorem dX1_notes_21 : decode cX1_notes 21 = .ok (.iastore, 1) := dk_79 (dk_at dksX1_notes_0 21 rfl rfl)
theorem dX1_notes_22 : decode cX1_notes 22 = .ok (.aload_n 0, 1) := dk_42 (dk_at dksX1_notes_0 22 rfl rfl)
theorem dX1_notes_23 : decode cX1_notes 23 = .ok (.bipush 12, 2) := dk_16 12 (dk_at dksX1_notes_1 0 rfl rfl)
theorem dX1_notes_25 : decode cX1_notes 25 = .ok (.aload_n 0, 1) := dk_42 (dk_at dksX1_notes_1 2 rfl rfl)
theorem dX1_notes_26 : decode cX1_notes 26 = .ok (.getfield 65, 3) := dk_180 0 65 (dk_at dksX1_notes_1 3 rfl rfl)
theorem dX1_notes_29 : decode cX1_notes 29 = .ok (.iconst 1, 1) := dk_4 (dk_at dksX1_notes_1 6 rfl rfl)
theorem dX1_notes_30 : decode cX1_notes 30 = .ok (.iadd, 1) := dk_96 (dk_at dksX1_notes_1 7 rfl rfl)
theorem dX1_notes_31 : decode cX1_notes 31 = .ok (.invokestatic 78, 3) := dk_184 0 78 (dk_at dksX1_notes_1 8 rfl rfl)
theorem dX1_notes_34 : decode cX1_notes 34 = .ok (.putfield 65, 3) := dk_181 0 65 (dk_at dksX1_notes_1 11 rfl rfl)
theorem dX1_notes_37 : decode cX1_notes 37 = .ok (.return_, 1) := dk_177 (dk_at dksX1_notes_1 14 rfl rfl)
abbrev cX1_copyOf : ByteArray := prog_11_method_2_code
def yX1_copyOf : MethodName := ⟨RX1, "copyOf", "(LStrokesHeard$State;)V"⟩
def dkwX1_copyOf_7 : List UInt8 := [181, 0, 68, 43, 180, 0, 30, 3, 42, 180, 0, 30, 3, 16, 14, 184, 0, 71, 177]
abbrev dktX1_copyOf_7 : List UInt8 := dkwX1_copyOf_7 ++ []
def dkwX1_copyOf_6 : List UInt8 := [180, 0, 25, 42, 180, 0, 25, 184, 0, 49, 42, 43, 180, 0, 65, 181, 0, 65, 42, 43, 180, 0, 68]
abbrev dktX1_copyOf_6 : List UInt8 := dkwX1_copyOf_6 ++ dktX1_copyOf_7
def dkwX1_copyOf_5 : List UInt8 := [180, 0, 56, 181, 0, 56, 42, 43, 180, 0, 59, 181, 0, 59, 42, 43, 180, 0, 62, 181, 0, 62, 43]
abbrev dktX1_copyOf_5 : List UInt8 := dkwX1_copyOf_5 ++ dktX1_copyOf_6
def dkwX1_copyOf_4 : List UInt8 := [167, 255, 185, 43, 180, 0, 21, 42, 180, 0, 21, 184, 0, 49, 42, 43, 180, 0, 53, 181, 0, 53, 42, 43]
abbrev dktX1_copyOf_4 : List UInt8 := dkwX1_copyOf_4 ++ dktX1_copyOf_5
def dkwX1_copyOf_3 : List UInt8 := [182, 0, 41, 83, 42, 180, 0, 17, 28, 50, 43, 180, 0, 17, 28, 50, 182, 0, 45, 132, 2, 1]
abbrev dktX1_copyOf_3 : List UInt8 := dkwX1_copyOf_3 ++ dktX1_copyOf_4
def dkwX1_copyOf_2 : List UInt8 := [180, 0, 17, 28, 50, 182, 0, 37, 159, 0, 18, 42, 180, 0, 17, 28, 43, 180, 0, 17, 28, 50]
abbrev dktX1_copyOf_2 : List UInt8 := dkwX1_copyOf_2 ++ dktX1_copyOf_3
def dkwX1_copyOf_1 : List UInt8 := [162, 0, 69, 42, 180, 0, 17, 28, 50, 198, 0, 24, 42, 180, 0, 17, 28, 50, 182, 0, 37, 43]
abbrev dktX1_copyOf_1 : List UInt8 := dkwX1_copyOf_1 ++ dktX1_copyOf_2
def dkwX1_copyOf_0 : List UInt8 := [42, 43, 180, 0, 9, 181, 0, 9, 42, 43, 180, 0, 34, 181, 0, 34, 3, 61, 28, 42, 180, 0, 34]
abbrev dktX1_copyOf_0 : List UInt8 := dkwX1_copyOf_0 ++ dktX1_copyOf_1
theorem dksX1_copyOf_0 : cX1_copyOf.data.toList.drop 0 = dktX1_copyOf_0 := by decide +kernel
theorem dksX1_copyOf_1 : cX1_copyOf.data.toList.drop 23 = dktX1_copyOf_1 := dk_seg dksX1_copyOf_0 23 rfl rfl
theorem dksX1_copyOf_2 : cX1_copyOf.data.toList.drop 45 = dktX1_copyOf_2 := dk_seg dksX1_copyOf_1 22 rfl rfl
theorem dksX1_copyOf_3 : cX1_copyOf.data.toList.drop 67 = dktX1_copyOf_3 := dk_seg dksX1_copyOf_2 22 rfl rfl
theorem dksX1_copyOf_4 : cX1_copyOf.data.toList.drop 89 = dktX1_copyOf_4 := dk_seg dksX1_copyOf_3 22 rfl rfl
theorem dksX1_copyOf_5 : cX1_copyOf.data.toList.drop 113 = dktX1_copyOf_5 := dk_seg dksX1_copyOf_4 24 rfl rfl
theorem dksX1_copyOf_6 : cX1_copyOf.data.toList.drop 136 = dktX1_copyOf_6 := dk_seg dksX1_copyOf_5 23 rfl rfl
theorem dksX1_copyOf_7 : cX1_copyOf.data.toList.drop 159 = dktX1_copyOf_7 := dk_seg dksX1_copyOf_6 23 rfl rfl
theorem dX1_copyOf_0 : decode cX1_copyOf 0 = .ok (.aload_n 0, 1) := dk_42 (dk_at dksX1_copyOf_0 0 rfl rfl)
theorem dX1_copyOf_1 : decode cX1_copyOf 1 = .ok (.aload_n 1, 1) := dk_43 (dk_at dksX1_copyOf_0 1 rfl rfl)
theorem dX1_copyOf_2 : decode cX1_copyOf 2 = .ok (.getfield 9, 3) := dk_180 0 9 (dk_at dksX1_copyOf_0 2 rfl rfl)
theorem dX1_copyOf_5 : decode cX1_copyOf 5 = .ok (.putfield 9, 3) := dk_181 0 9 (dk_at dksX1_copyOf_0 5 rfl rfl)
theorem dX1_copyOf_8 : decode cX1_copyOf 8 = .ok (.aload_n 0, 1) := dk_42 (dk_at dksX1_copyOf_0 8 rfl rfl)
theorem dX1_copyOf_9 : decode cX1_copyOf 9 = .ok (.aload_n 1, 1) := dk_43 (dk_at dksX1_copyOf_0 9 rfl rfl)
theorem dX1_copyOf_10 : decode cX1_copyOf 10 = .ok (.getfield 34, 3) := dk_180 0 34 (dk_at dksX1_copyOf_0 10 rfl rfl)
theorem dX1_copyOf_13 : decode cX1_copyOf 13 = .ok (.putfield 34, 3) := dk_181 0 34 (dk_at dksX1_copyOf_0 13 rfl rfl)
theorem dX1_copyOf_16 : decode cX1_copyOf 16 = .ok (.iconst 0, 1) := dk_3 (dk_at dksX1_copyOf_0 16 rfl rfl)
theorem dX1_copyOf_17 : decode cX1_copyOf 17 = .ok (.istore_n 2, 1) := dk_61 (dk_at dksX1_copyOf_0 17 rfl rfl)
theorem dX1_copyOf_18 : decode cX1_copyOf 18 = .ok (.iload_n 2, 1) := dk_28 (dk_at dksX1_copyOf_0 18 rfl rfl)
theorem dX1_copyOf_19 : decode cX1_copyOf 19 = .ok (.aload_n 0, 1) := dk_42 (dk_at dksX1_copyOf_0 19 rfl rfl)
theorem dX1_copyOf_20 : decode cX1_copyOf 20 = .ok (.getfield 34, 3) := dk_180 0 34 (dk_at dksX1_copyOf_0 20 rfl rfl)
theorem dX1_copyOf_23 : decode cX1_copyOf 23 = .ok (.if_icmp .ge 69, 3) := dk_162 0 69 (dk_at dksX1_copyOf_1 0 rfl rfl)
theorem dX1_copyOf_26 : decode cX1_copyOf 26 = .ok (.aload_n 0, 1) := dk_42 (dk_at dksX1_copyOf_1 3 rfl rfl)
theorem dX1_copyOf_27 : decode cX1_copyOf 27 = .ok (.getfield 17, 3) := dk_180 0 17 (dk_at dksX1_copyOf_1 4 rfl rfl)
theorem dX1_copyOf_30 : decode cX1_copyOf 30 = .ok (.iload_n 2, 1) := dk_28 (dk_at dksX1_copyOf_1 7 rfl rfl)
theorem dX1_copyOf_31 : decode cX1_copyOf 31 = .ok (.aaload, 1) := dk_50 (dk_at dksX1_copyOf_1 8 rfl rfl)
theorem dX1_copyOf_32 : decode cX1_copyOf 32 = .ok (.ifnull 24, 3) := dk_198 0 24 (dk_at dksX1_copyOf_1 9 rfl rfl)
theorem dX1_copyOf_35 : decode cX1_copyOf 35 = .ok (.aload_n 0, 1) := dk_42 (dk_at dksX1_copyOf_1 12 rfl rfl)
theorem dX1_copyOf_36 : decode cX1_copyOf 36 = .ok (.getfield 17, 3) := dk_180 0 17 (dk_at dksX1_copyOf_1 13 rfl rfl)
theorem dX1_copyOf_39 : decode cX1_copyOf 39 = .ok (.iload_n 2, 1) := dk_28 (dk_at dksX1_copyOf_1 16 rfl rfl)
theorem dX1_copyOf_40 : decode cX1_copyOf 40 = .ok (.aaload, 1) := dk_50 (dk_at dksX1_copyOf_1 17 rfl rfl)
theorem dX1_copyOf_41 : decode cX1_copyOf 41 = .ok (.invokevirtual 37, 3) := dk_182 0 37 (dk_at dksX1_copyOf_1 18 rfl rfl)
theorem dX1_copyOf_44 : decode cX1_copyOf 44 = .ok (.aload_n 1, 1) := dk_43 (dk_at dksX1_copyOf_1 21 rfl rfl)
theorem dX1_copyOf_45 : decode cX1_copyOf 45 = .ok (.getfield 17, 3) := dk_180 0 17 (dk_at dksX1_copyOf_2 0 rfl rfl)
theorem dX1_copyOf_48 : decode cX1_copyOf 48 = .ok (.iload_n 2, 1) := dk_28 (dk_at dksX1_copyOf_2 3 rfl rfl)
theorem dX1_copyOf_49 : decode cX1_copyOf 49 = .ok (.aaload, 1) := dk_50 (dk_at dksX1_copyOf_2 4 rfl rfl)
theorem dX1_copyOf_50 : decode cX1_copyOf 50 = .ok (.invokevirtual 37, 3) := dk_182 0 37 (dk_at dksX1_copyOf_2 5 rfl rfl)
theorem dX1_copyOf_53 : decode cX1_copyOf 53 = .ok (.if_icmp .eq 18, 3) := dk_159 0 18 (dk_at dksX1_copyOf_2 8 rfl rfl)
theorem dX1_copyOf_56 : decode cX1_copyOf 56 = .ok (.aload_n 0, 1) := dk_42 (dk_at dksX1_copyOf_2 11 rfl rfl)
theorem dX1_copyOf_57 : decode cX1_copyOf 57 = .ok (.getfield 17, 3) := dk_180 0 17 (dk_at dksX1_copyOf_2 12 rfl rfl)
theorem dX1_copyOf_60 : decode cX1_copyOf 60 = .ok (.iload_n 2, 1) := dk_28 (dk_at dksX1_copyOf_2 15 rfl rfl)
theorem dX1_copyOf_61 : decode cX1_copyOf 61 = .ok (.aload_n 1, 1) := dk_43 (dk_at dksX1_copyOf_2 16 rfl rfl)
theorem dX1_copyOf_62 : decode cX1_copyOf 62 = .ok (.getfield 17, 3) := dk_180 0 17 (dk_at dksX1_copyOf_2 17 rfl rfl)
theorem dX1_copyOf_65 : decode cX1_copyOf 65 = .ok (.iload_n 2, 1) := dk_28 (dk_at dksX1_copyOf_2 20 rfl rfl)
theorem dX1_copyOf_66 : decode cX1_copyOf 66 = .ok (.aaload, 1) := dk_50 (dk_at dksX1_copyOf_2 21 rfl rfl)
theorem dX1_copyOf_67 : decode cX1_copyOf 67 = .ok (.invokevirtual 41, 3) := dk_182 0 41 (dk_at dksX1_copyOf_3 0 rfl rfl)
theorem dX1_copyOf_70 : decode cX1_copyOf 70 = .ok (.aastore, 1) := dk_83 (dk_at dksX1_copyOf_3 3 rfl rfl)
theorem dX1_copyOf_71 : decode cX1_copyOf 71 = .ok (.aload_n 0, 1) := dk_42 (dk_at dksX1_copyOf_3 4 rfl rfl)
theorem dX1_copyOf_72 : decode cX1_copyOf 72 = .ok (.getfield 17, 3) := dk_180 0 17 (dk_at dksX1_copyOf_3 5 rfl rfl)
theorem dX1_copyOf_75 : decode cX1_copyOf 75 = .ok (.iload_n 2, 1) := dk_28 (dk_at dksX1_copyOf_3 8 rfl rfl)
theorem dX1_copyOf_76 : decode cX1_copyOf 76 = .ok (.aaload, 1) := dk_50 (dk_at dksX1_copyOf_3 9 rfl rfl)
theorem dX1_copyOf_77 : decode cX1_copyOf 77 = .ok (.aload_n 1, 1) := dk_43 (dk_at dksX1_copyOf_3 10 rfl rfl)
theorem dX1_copyOf_78 : decode cX1_copyOf 78 = .ok (.getfield 17, 3) := dk_180 0 17 (dk_at dksX1_copyOf_3 11 rfl rfl)
theorem dX1_copyOf_81 : decode cX1_copyOf 81 = .ok (.iload_n 2, 1) := dk_28 (dk_at dksX1_copyOf_3 14 rfl rfl)
theorem dX1_copyOf_82 : decode cX1_copyOf 82 = .ok (.aaload, 1) := dk_50 (dk_at dksX1_copyOf_3 15 rfl rfl)
theorem dX1_copyOf_83 : decode cX1_copyOf 83 = .ok (.invokevirtual 45, 3) := dk_182 0 45 (dk_at dksX1_copyOf_3 16 rfl rfl)
theorem dX1_copyOf_86 : decode cX1_copyOf 86 = .ok (.iinc 2 1, 3) := dk_132 2 1 (dk_at dksX1_copyOf_3 19 rfl rfl)
theorem dX1_copyOf_89 : decode cX1_copyOf 89 = .ok (.goto (-71), 3) := dk_167 255 185 (dk_at dksX1_copyOf_4 0 rfl rfl)
theorem dX1_copyOf_92 : decode cX1_copyOf 92 = .ok (.aload_n 1, 1) := dk_43 (dk_at dksX1_copyOf_4 3 rfl rfl)
theorem dX1_copyOf_93 : decode cX1_copyOf 93 = .ok (.getfield 21, 3) := dk_180 0 21 (dk_at dksX1_copyOf_4 4 rfl rfl)
theorem dX1_copyOf_96 : decode cX1_copyOf 96 = .ok (.aload_n 0, 1) := dk_42 (dk_at dksX1_copyOf_4 7 rfl rfl)
theorem dX1_copyOf_97 : decode cX1_copyOf 97 = .ok (.getfield 21, 3) := dk_180 0 21 (dk_at dksX1_copyOf_4 8 rfl rfl)
theorem dX1_copyOf_100 : decode cX1_copyOf 100 = .ok (.invokestatic 49, 3) := dk_184 0 49 (dk_at dksX1_copyOf_4 11 rfl rfl)
theorem dX1_copyOf_103 : decode cX1_copyOf 103 = .ok (.aload_n 0, 1) := dk_42 (dk_at dksX1_copyOf_4 14 rfl rfl)
theorem dX1_copyOf_104 : decode cX1_copyOf 104 = .ok (.aload_n 1, 1) := dk_43 (dk_at dksX1_copyOf_4 15 rfl rfl)
theorem dX1_copyOf_105 : decode cX1_copyOf 105 = .ok (.getfield 53, 3) := dk_180 0 53 (dk_at dksX1_copyOf_4 16 rfl rfl)
theorem dX1_copyOf_108 : decode cX1_copyOf 108 = .ok (.putfield 53, 3) := dk_181 0 53 (dk_at dksX1_copyOf_4 19 rfl rfl)
theorem dX1_copyOf_111 : decode cX1_copyOf 111 = .ok (.aload_n 0, 1) := dk_42 (dk_at dksX1_copyOf_4 22 rfl rfl)
theorem dX1_copyOf_112 : decode cX1_copyOf 112 = .ok (.aload_n 1, 1) := dk_43 (dk_at dksX1_copyOf_4 23 rfl rfl)
theorem dX1_copyOf_113 : decode cX1_copyOf 113 = .ok (.getfield 56, 3) := dk_180 0 56 (dk_at dksX1_copyOf_5 0 rfl rfl)
theorem dX1_copyOf_116 : decode cX1_copyOf 116 = .ok (.putfield 56, 3) := dk_181 0 56 (dk_at dksX1_copyOf_5 3 rfl rfl)
theorem dX1_copyOf_119 : decode cX1_copyOf 119 = .ok (.aload_n 0, 1) := dk_42 (dk_at dksX1_copyOf_5 6 rfl rfl)
theorem dX1_copyOf_120 : decode cX1_copyOf 120 = .ok (.aload_n 1, 1) := dk_43 (dk_at dksX1_copyOf_5 7 rfl rfl)
theorem dX1_copyOf_121 : decode cX1_copyOf 121 = .ok (.getfield 59, 3) := dk_180 0 59 (dk_at dksX1_copyOf_5 8 rfl rfl)
theorem dX1_copyOf_124 : decode cX1_copyOf 124 = .ok (.putfield 59, 3) := dk_181 0 59 (dk_at dksX1_copyOf_5 11 rfl rfl)
theorem dX1_copyOf_127 : decode cX1_copyOf 127 = .ok (.aload_n 0, 1) := dk_42 (dk_at dksX1_copyOf_5 14 rfl rfl)
theorem dX1_copyOf_128 : decode cX1_copyOf 128 = .ok (.aload_n 1, 1) := dk_43 (dk_at dksX1_copyOf_5 15 rfl rfl)
theorem dX1_copyOf_129 : decode cX1_copyOf 129 = .ok (.getfield 62, 3) := dk_180 0 62 (dk_at dksX1_copyOf_5 16 rfl rfl)
theorem dX1_copyOf_132 : decode cX1_copyOf 132 = .ok (.putfield 62, 3) := dk_181 0 62 (dk_at dksX1_copyOf_5 19 rfl rfl)
theorem dX1_copyOf_135 : decode cX1_copyOf 135 = .ok (.aload_n 1, 1) := dk_43 (dk_at dksX1_copyOf_5 22 rfl rfl)
theorem dX1_copyOf_136 : decode cX1_copyOf 136 = .ok (.getfield 25, 3) := dk_180 0 25 (dk_at dksX1_copyOf_6 0 rfl rfl)
theorem dX1_copyOf_139 : decode cX1_copyOf 139 = .ok (.aload_n 0, 1) := dk_42 (dk_at dksX1_copyOf_6 3 rfl rfl)
theorem dX1_copyOf_140 : decode cX1_copyOf 140 = .ok (.getfield 25, 3) := dk_180 0 25 (dk_at dksX1_copyOf_6 4 rfl rfl)
theorem dX1_copyOf_143 : decode cX1_copyOf 143 = .ok (.invokestatic 49, 3) := dk_184 0 49 (dk_at dksX1_copyOf_6 7 rfl rfl)
theorem dX1_copyOf_146 : decode cX1_copyOf 146 = .ok (.aload_n 0, 1) := dk_42 (dk_at dksX1_copyOf_6 10 rfl rfl)
theorem dX1_copyOf_147 : decode cX1_copyOf 147 = .ok (.aload_n 1, 1) := dk_43 (dk_at dksX1_copyOf_6 11 rfl rfl)
theorem dX1_copyOf_148 : decode cX1_copyOf 148 = .ok (.getfield 65, 3) := dk_180 0 65 (dk_at dksX1_copyOf_6 12 rfl rfl)
theorem dX1_copyOf_151 : decode cX1_copyOf 151 = .ok (.putfield 65, 3) := dk_181 0 65 (dk_at dksX1_copyOf_6 15 rfl rfl)
theorem dX1_copyOf_154 : decode cX1_copyOf 154 = .ok (.aload_n 0, 1) := dk_42 (dk_at dksX1_copyOf_6 18 rfl rfl)
theorem dX1_copyOf_155 : decode cX1_copyOf 155 = .ok (.aload_n 1, 1) := dk_43 (dk_at dksX1_copyOf_6 19 rfl rfl)
theorem dX1_copyOf_156 : decode cX1_copyOf 156 = .ok (.getfield 68, 3) := dk_180 0 68 (dk_at dksX1_copyOf_6 20 rfl rfl)
theorem dX1_copyOf_159 : decode cX1_copyOf 159 = .ok (.putfield 68, 3) := dk_181 0 68 (dk_at dksX1_copyOf_7 0 rfl rfl)
theorem dX1_copyOf_162 : decode cX1_copyOf 162 = .ok (.aload_n 1, 1) := dk_43 (dk_at dksX1_copyOf_7 3 rfl rfl)
theorem dX1_copyOf_163 : decode cX1_copyOf 163 = .ok (.getfield 30, 3) := dk_180 0 30 (dk_at dksX1_copyOf_7 4 rfl rfl)
theorem dX1_copyOf_166 : decode cX1_copyOf 166 = .ok (.iconst 0, 1) := dk_3 (dk_at dksX1_copyOf_7 7 rfl rfl)
theorem dX1_copyOf_167 : decode cX1_copyOf 167 = .ok (.aload_n 0, 1) := dk_42 (dk_at dksX1_copyOf_7 8 rfl rfl)
theorem dX1_copyOf_168 : decode cX1_copyOf 168 = .ok (.getfield 30, 3) := dk_180 0 30 (dk_at dksX1_copyOf_7 9 rfl rfl)
theorem dX1_copyOf_171 : decode cX1_copyOf 171 = .ok (.iconst 0, 1) := dk_3 (dk_at dksX1_copyOf_7 12 rfl rfl)
theorem dX1_copyOf_172 : decode cX1_copyOf 172 = .ok (.bipush 14, 2) := dk_16 14 (dk_at dksX1_copyOf_7 13 rfl rfl)
theorem dX1_copyOf_174 : decode cX1_copyOf 174 = .ok (.invokestatic 71, 3) := dk_184 0 71 (dk_at dksX1_copyOf_7 15 rfl rfl)
theorem dX1_copyOf_177 : decode cX1_copyOf 177 = .ok (.return_, 1) := dk_177 (dk_at dksX1_copyOf_7 18 rfl rfl)
theorem q83 : (Jvm.Cond.initialized "StrokesHeard$State") ∈ lw_all := lw_g (lw_at lw_m1 2 rfl) rfl
theorem q118 : (Jvm.Cond.instantiable "StrokesHeard$State" (12 : Nat)) ∈ lw_all := lw_g (lw_at lw_m1 37 rfl) rfl
theorem q120 : (Jvm.Cond.instanceMethod ({ cls := "StrokesHeard$State", name := "<init>", desc := "()V" } : Jvm.MethodName)) ∈ lw_all := lw_g (lw_at lw_m1 39 rfl) rfl
theorem q121 : (Jvm.Cond.code ({ cls := "StrokesHeard$State", name := "<init>", desc := "()V" } : Jvm.MethodName) prog_11_method_1_code (1 : Nat) (Option.none : Option Jvm.ClassFile.FieldType)) ∈ lw_all := lw_g (lw_at lw_m1 40 rfl) rfl
theorem q122 : (Jvm.Cond.methodLink "StrokesHeard$State" (3 : Nat) ({ cls := "java/lang/Object", name := "<init>", desc := "()V" } : Jvm.MethodName)) ∈ lw_all := lw_g (lw_at lw_m1 41 rfl) rfl
theorem q123 : (Jvm.Cond.classLink "StrokesHeard$State" (15 : Nat) "StrokesHeard$Ringer") ∈ lw_all := lw_g (lw_at lw_m1 42 rfl) rfl
theorem q125 : (Jvm.Cond.classLink "StrokesHeard$State" (28 : Nat) "StrokesHeard$Text") ∈ lw_all := lw_g (lw_at lw_m1 44 rfl) rfl
theorem q127 : (Jvm.Cond.fieldLink "StrokesHeard$State" (9 : Nat) "StrokesHeard$State" "z" "I") ∈ lw_all := lw_g (lw_at lw_m1 46 rfl) rfl
theorem q129 : (Jvm.Cond.fieldLink "StrokesHeard$State" (34 : Nat) "StrokesHeard$State" "many" "I") ∈ lw_all := lw_g (lw_at lw_m1 48 rfl) rfl
theorem q131 : (Jvm.Cond.fieldLink "StrokesHeard$State" (17 : Nat) "StrokesHeard$State" "clock" "[LStrokesHeard$Ringer;") ∈ lw_all := lw_g (lw_at lw_m1 50 rfl) rfl
theorem q133 : (Jvm.Cond.fieldLink "StrokesHeard$State" (21 : Nat) "StrokesHeard$State" "bed" "[I") ∈ lw_all := lw_g (lw_at lw_m1 52 rfl) rfl
theorem q135 : (Jvm.Cond.fieldLink "StrokesHeard$State" (53 : Nat) "StrokesHeard$State" "heard" "I") ∈ lw_all := lw_g (lw_at lw_m1 54 rfl) rfl
theorem q137 : (Jvm.Cond.fieldLink "StrokesHeard$State" (56 : Nat) "StrokesHeard$State" "missed" "I") ∈ lw_all := lw_g (lw_at lw_m1 56 rfl) rfl
theorem q139 : (Jvm.Cond.fieldLink "StrokesHeard$State" (59 : Nat) "StrokesHeard$State" "mistaken" "I") ∈ lw_all := lw_g (lw_at lw_m1 58 rfl) rfl
theorem q141 : (Jvm.Cond.fieldLink "StrokesHeard$State" (62 : Nat) "StrokesHeard$State" "minute" "I") ∈ lw_all := lw_g (lw_at lw_m1 60 rfl) rfl
theorem q143 : (Jvm.Cond.fieldLink "StrokesHeard$State" (25 : Nat) "StrokesHeard$State" "note" "[I") ∈ lw_all := lw_g (lw_at lw_m1 62 rfl) rfl
theorem q145 : (Jvm.Cond.fieldLink "StrokesHeard$State" (65 : Nat) "StrokesHeard$State" "notes" "I") ∈ lw_all := lw_g (lw_at lw_m1 64 rfl) rfl
theorem q147 : (Jvm.Cond.fieldLink "StrokesHeard$State" (68 : Nat) "StrokesHeard$State" "texts" "I") ∈ lw_all := lw_g (lw_at lw_m1 66 rfl) rfl
theorem q149 : (Jvm.Cond.fieldLink "StrokesHeard$State" (30 : Nat) "StrokesHeard$State" "text" "[LStrokesHeard$Text;") ∈ lw_all := lw_g (lw_at lw_m1 68 rfl) rfl
theorem q151 : (Jvm.Cond.lays "StrokesHeard$State" "StrokesHeard$State" "z" "I") ∈ lw_all := lw_g (lw_at lw_m1 70 rfl) rfl
theorem q152 : (Jvm.Cond.soleField "StrokesHeard$State" "z") ∈ lw_all := lw_g (lw_at lw_m1 71 rfl) rfl
theorem q153 : (Jvm.Cond.lays "StrokesHeard$State" "StrokesHeard$State" "many" "I") ∈ lw_all := lw_g (lw_at lw_m1 72 rfl) rfl
theorem q154 : (Jvm.Cond.soleField "StrokesHeard$State" "many") ∈ lw_all := lw_g (lw_at lw_m1 73 rfl) rfl
theorem q155 : (Jvm.Cond.laysFinal "StrokesHeard$State" "StrokesHeard$State" "clock" "[LStrokesHeard$Ringer;") ∈ lw_all := lw_g (lw_at lw_m1 74 rfl) rfl
theorem q156 : (Jvm.Cond.soleField "StrokesHeard$State" "clock") ∈ lw_all := lw_g (lw_at lw_m1 75 rfl) rfl
theorem q157 : (Jvm.Cond.laysFinal "StrokesHeard$State" "StrokesHeard$State" "bed" "[I") ∈ lw_all := lw_g (lw_at lw_m1 76 rfl) rfl
theorem q158 : (Jvm.Cond.soleField "StrokesHeard$State" "bed") ∈ lw_all := lw_g (lw_at lw_m1 77 rfl) rfl
theorem q159 : (Jvm.Cond.lays "StrokesHeard$State" "StrokesHeard$State" "heard" "I") ∈ lw_all := lw_g (lw_at lw_m1 78 rfl) rfl
theorem q160 : (Jvm.Cond.soleField "StrokesHeard$State" "heard") ∈ lw_all := lw_g (lw_at lw_m1 79 rfl) rfl
theorem q161 : (Jvm.Cond.lays "StrokesHeard$State" "StrokesHeard$State" "missed" "I") ∈ lw_all := lw_g (lw_at lw_m1 80 rfl) rfl
theorem q162 : (Jvm.Cond.soleField "StrokesHeard$State" "missed") ∈ lw_all := lw_g (lw_at lw_m1 81 rfl) rfl
theorem q163 : (Jvm.Cond.lays "StrokesHeard$State" "StrokesHeard$State" "mistaken" "I") ∈ lw_all := lw_g (lw_at lw_m1 82 rfl) rfl
theorem q164 : (Jvm.Cond.soleField "StrokesHeard$State" "mistaken") ∈ lw_all := lw_g (lw_at lw_m1 83 rfl) rfl
theorem q165 : (Jvm.Cond.lays "StrokesHeard$State" "StrokesHeard$State" "minute" "I") ∈ lw_all := lw_g (lw_at lw_m1 84 rfl) rfl
theorem q166 : (Jvm.Cond.soleField "StrokesHeard$State" "minute") ∈ lw_all := lw_g (lw_at lw_m1 85 rfl) rfl
theorem q167 : (Jvm.Cond.laysFinal "StrokesHeard$State" "StrokesHeard$State" "note" "[I") ∈ lw_all := lw_g (lw_at lw_m1 86 rfl) rfl
theorem q168 : (Jvm.Cond.soleField "StrokesHeard$State" "note") ∈ lw_all := lw_g (lw_at lw_m1 87 rfl) rfl
theorem q169 : (Jvm.Cond.lays "StrokesHeard$State" "StrokesHeard$State" "notes" "I") ∈ lw_all := lw_g (lw_at lw_m1 88 rfl) rfl
theorem q170 : (Jvm.Cond.soleField "StrokesHeard$State" "notes") ∈ lw_all := lw_g (lw_at lw_m1 89 rfl) rfl
theorem q171 : (Jvm.Cond.lays "StrokesHeard$State" "StrokesHeard$State" "texts" "I") ∈ lw_all := lw_g (lw_at lw_m1 90 rfl) rfl
theorem q172 : (Jvm.Cond.soleField "StrokesHeard$State" "texts") ∈ lw_all := lw_g (lw_at lw_m1 91 rfl) rfl
theorem q173 : (Jvm.Cond.laysFinal "StrokesHeard$State" "StrokesHeard$State" "text" "[LStrokesHeard$Text;") ∈ lw_all := lw_g (lw_at lw_m1 92 rfl) rfl
theorem q174 : (Jvm.Cond.soleField "StrokesHeard$State" "text") ∈ lw_all := lw_g (lw_at lw_m1 93 rfl) rfl
theorem q175 : (Jvm.Cond.superclass "StrokesHeard$State" "java/lang/Object") ∈ lw_all := lw_g (lw_at lw_m1 94 rfl) rfl
theorem q828 : (Jvm.Cond.instanceMethod ({ cls := "StrokesHeard$State", name := "draw", desc := "()I" } : Jvm.MethodName)) ∈ lw_all := lw_g (lw_at lw_m4 27 rfl) rfl
theorem q829 : (Jvm.Cond.selects "StrokesHeard$State" ({ cls := "StrokesHeard$State", name := "draw", desc := "()I" } : Jvm.MethodName) ({ cls := "StrokesHeard$State", name := "draw", desc := "()I" } : Jvm.MethodName)) ∈ lw_all := lw_g (lw_at lw_m4 28 rfl) rfl
theorem q830 : (Jvm.Cond.code ({ cls := "StrokesHeard$State", name := "draw", desc := "()I" } : Jvm.MethodName) prog_11_method_3_code (1 : Nat) (Option.some Jvm.ClassFile.FieldType.int)) ∈ lw_all := lw_g (lw_at lw_m4 29 rfl) rfl
theorem q831 : (Jvm.Cond.constant "StrokesHeard$State" (77 : Nat) (1103515245 : Int32)) ∈ lw_all := lw_g (lw_at lw_m4 30 rfl) rfl
theorem q849 : (Jvm.Cond.instanceMethod ({ cls := "StrokesHeard$State", name := "notes", desc := "(I)V" } : Jvm.MethodName)) ∈ lw_all := lw_g (lw_at lw_m4 48 rfl) rfl
theorem q850 : (Jvm.Cond.selects "StrokesHeard$State" ({ cls := "StrokesHeard$State", name := "notes", desc := "(I)V" } : Jvm.MethodName) ({ cls := "StrokesHeard$State", name := "notes", desc := "(I)V" } : Jvm.MethodName)) ∈ lw_all := lw_g (lw_at lw_m4 49 rfl) rfl
theorem q851 : (Jvm.Cond.code ({ cls := "StrokesHeard$State", name := "notes", desc := "(I)V" } : Jvm.MethodName) prog_11_method_4_code (2 : Nat) (Option.none : Option Jvm.ClassFile.FieldType)) ∈ lw_all := lw_g (lw_at lw_m4 50 rfl) rfl
theorem q852 : (Jvm.Cond.methodLink "StrokesHeard$State" (71 : Nat) ({ cls := "java/lang/System", name := "arraycopy", desc := "(Ljava/lang/Object;ILjava/lang/Object;II)V" } : Jvm.MethodName)) ∈ lw_all := lw_g (lw_at lw_m4 51 rfl) rfl
theorem q855 : (Jvm.Cond.methodLink "StrokesHeard$State" (78 : Nat) ({ cls := "java/lang/Math", name := "min", desc := "(II)I" } : Jvm.MethodName)) ∈ lw_all := lw_g (lw_at lw_m4 54 rfl) rfl
theorem q928 : (Jvm.Cond.instanceMethod ({ cls := "StrokesHeard$State", name := "copyOf", desc := "(LStrokesHeard$State;)V" } : Jvm.MethodName)) ∈ lw_all := lw_g (lw_at lw_m4 127 rfl) rfl
theorem q929 : (Jvm.Cond.selects "StrokesHeard$State" ({ cls := "StrokesHeard$State", name := "copyOf", desc := "(LStrokesHeard$State;)V" } : Jvm.MethodName) ({ cls := "StrokesHeard$State", name := "copyOf", desc := "(LStrokesHeard$State;)V" } : Jvm.MethodName)) ∈ lw_all := lw_g (lw_at lw_m4 128 rfl) rfl
theorem q930 : (Jvm.Cond.code ({ cls := "StrokesHeard$State", name := "copyOf", desc := "(LStrokesHeard$State;)V" } : Jvm.MethodName) prog_11_method_2_code (3 : Nat) (Option.none : Option Jvm.ClassFile.FieldType)) ∈ lw_all := lw_g (lw_at lw_m4 129 rfl) rfl
theorem q931 : (Jvm.Cond.methodLink "StrokesHeard$State" (37 : Nat) ({ cls := "StrokesHeard$Ringer", name := "kind", desc := "()I" } : Jvm.MethodName)) ∈ lw_all := lw_g (lw_at lw_m4 130 rfl) rfl
theorem q932 : (Jvm.Cond.methodLink "StrokesHeard$State" (41 : Nat) ({ cls := "StrokesHeard$Ringer", name := "another", desc := "()LStrokesHeard$Ringer;" } : Jvm.MethodName)) ∈ lw_all := lw_g (lw_at lw_m4 131 rfl) rfl
theorem q964 : (Jvm.Cond.methodLink "StrokesHeard$State" (45 : Nat) ({ cls := "StrokesHeard$Ringer", name := "takes", desc := "(LStrokesHeard$Ringer;)V" } : Jvm.MethodName)) ∈ lw_all := lw_g (lw_at lw_m4 163 rfl) rfl
theorem q965 : (Jvm.Cond.methodLinkNest "StrokesHeard$State" (49 : Nat) ({ cls := "StrokesHeard", name := "copyRow", desc := "([I[I)V" } : Jvm.MethodName) "StrokesHeard") ∈ lw_tbl := lw_at lw_m4 164 rfl
theorem in_X1 : ∀ w ∈ wsX10, w ∈ lw_all := lw_in wsX10 [151, 153, 155, 157, 159, 161, 163, 165, 167, 169, 171, 173] (by decide +kernel) (by decide +kernel)

/-! StrokesHeard$Fault -/
set_option maxRecDepth 100000
def RX2 : String := "StrokesHeard$Fault"
def TX2 : u_T := fun k => match k with
  | 0 => ("java/lang/Throwable", "cause", "Ljava/lang/Throwable;", false)
  | 1 => ("java/lang/Throwable", "stackTrace", "[Ljava/lang/StackTraceElement;", false)
  | 2 => ("java/lang/Throwable", "suppressedExceptions", "Ljava/util/List;", false)
  | 3 => ("java/lang/Throwable", "detailMessage", "Ljava/lang/String;", false)
  | 4 => ("java/lang/Throwable", "backtrace", "Ljava/lang/Object;", false)
  | 5 => ("java/lang/Throwable", "depth", "I", false)
  | _ => ("StrokesHeard$Fault", "place", "I", false)
def tyX2 : Nat → FieldType := fun k => match k with
  | 0 => .object "java/lang/Throwable"
  | 1 => .array (.object "java/lang/StackTraceElement")
  | 2 => .object "java/util/List"
  | 3 => .object "java/lang/String"
  | 4 => .object "java/lang/Object"
  | 5 => .int
  | _ => .int
abbrev wsX20 : List Cond := u_ws RX2 TX2 7
theorem nmX2 : ∀ a, a < 7 → ∀ b, b < 7 → a ≠ b → (TX2 a).2.1 ≠ (TX2 b).2.1 := by decide +kernel
theorem tyX2_ok : ∀ k, k < 7 → parseFieldDescriptor (TX2 k).2.2.1 = some (tyX2 k) := by decide +kernel
abbrev cX2_init : ByteArray := prog_4_method_1_code
def yX2_init : MethodName := ⟨RX2, "<init>", "()V"⟩
theorem dX2_init_0 : decode cX2_init 0 = .ok (.aload_n 0, 1) := by decide +kernel
theorem dX2_init_1 : decode cX2_init 1 = .ok (.invokespecial 1, 3) := by decide +kernel
theorem dX2_init_4 : decode cX2_init 4 = .ok (.return_, 1) := by decide +kernel
theorem q87 : (Jvm.Cond.initialized "StrokesHeard$Fault") ∈ lw_all := lw_g (lw_at lw_m1 6 rfl) rfl
theorem q178 : (Jvm.Cond.instantiable "StrokesHeard$Fault" (7 : Nat)) ∈ lw_all := lw_g (lw_at lw_m1 97 rfl) rfl
theorem q179 : (Jvm.Cond.castable "StrokesHeard$Fault" "StrokesHeard$Fault") ∈ lw_tbl := lw_at lw_m1 98 rfl
theorem q186 : (Jvm.Cond.selects "StrokesHeard$Fault" ({ cls := "java/lang/Throwable", name := "fillInStackTrace", desc := "(I)Ljava/lang/Throwable;" } : Jvm.MethodName) ({ cls := "java/lang/Throwable", name := "fillInStackTrace", desc := "(I)Ljava/lang/Throwable;" } : Jvm.MethodName)) ∈ lw_all := lw_g (lw_at lw_m1 105 rfl) rfl
theorem q187 : (Jvm.Cond.selects "StrokesHeard$Fault" ({ cls := "java/lang/Throwable", name := "fillInStackTrace", desc := "()Ljava/lang/Throwable;" } : Jvm.MethodName) ({ cls := "java/lang/Throwable", name := "fillInStackTrace", desc := "()Ljava/lang/Throwable;" } : Jvm.MethodName)) ∈ lw_all := lw_g (lw_at lw_m1 106 rfl) rfl
theorem q188 : (Jvm.Cond.lays "StrokesHeard$Fault" "java/lang/Throwable" "cause" "Ljava/lang/Throwable;") ∈ lw_all := lw_g (lw_at lw_m1 107 rfl) rfl
theorem q190 : (Jvm.Cond.lays "StrokesHeard$Fault" "java/lang/Throwable" "stackTrace" "[Ljava/lang/StackTraceElement;") ∈ lw_all := lw_g (lw_at lw_m1 109 rfl) rfl
theorem q192 : (Jvm.Cond.lays "StrokesHeard$Fault" "java/lang/Throwable" "suppressedExceptions" "Ljava/util/List;") ∈ lw_all := lw_g (lw_at lw_m1 111 rfl) rfl
theorem q194 : (Jvm.Cond.lays "StrokesHeard$Fault" "java/lang/Throwable" "detailMessage" "Ljava/lang/String;") ∈ lw_all := lw_g (lw_at lw_m1 113 rfl) rfl
theorem q196 : (Jvm.Cond.lays "StrokesHeard$Fault" "java/lang/Throwable" "backtrace" "Ljava/lang/Object;") ∈ lw_all := lw_g (lw_at lw_m1 115 rfl) rfl
theorem q219 : (Jvm.Cond.instanceMethod ({ cls := "StrokesHeard$Fault", name := "<init>", desc := "()V" } : Jvm.MethodName)) ∈ lw_all := lw_g (lw_at lw_m1 138 rfl) rfl
theorem q220 : (Jvm.Cond.code ({ cls := "StrokesHeard$Fault", name := "<init>", desc := "()V" } : Jvm.MethodName) prog_4_method_1_code (1 : Nat) (Option.none : Option Jvm.ClassFile.FieldType)) ∈ lw_all := lw_g (lw_at lw_m1 139 rfl) rfl
theorem q221 : (Jvm.Cond.methodLink "StrokesHeard$Fault" (1 : Nat) ({ cls := "java/lang/RuntimeException", name := "<init>", desc := "()V" } : Jvm.MethodName)) ∈ lw_all := lw_g (lw_at lw_m1 140 rfl) rfl
theorem q234 : (Jvm.Cond.lays "StrokesHeard$Fault" "StrokesHeard$Fault" "place" "I") ∈ lw_all := lw_g (lw_at lw_m1 153 rfl) rfl
theorem q235 : (Jvm.Cond.soleField "StrokesHeard$Fault" "place") ∈ lw_all := lw_g (lw_at lw_m1 154 rfl) rfl
theorem q240 : (Jvm.Cond.lays "StrokesHeard$Fault" "java/lang/Throwable" "depth" "I") ∈ lw_all := lw_g (lw_at lw_m1 159 rfl) rfl
theorem q243 : (Jvm.Cond.superclass "StrokesHeard$Fault" "java/lang/RuntimeException") ∈ lw_all := lw_g (lw_at lw_m1 162 rfl) rfl
theorem in_X2 : ∀ w ∈ wsX20, w ∈ lw_all := lw_in wsX20 [188, 190, 192, 194, 196, 240, 234] (by decide +kernel) (by decide +kernel)

/-! StrokesHeard$Sheet -/
set_option maxRecDepth 100000
def RX3 : String := "StrokesHeard$Sheet"
def TX3 : u_T := fun k => match k with
  | _ => ("StrokesHeard$Sheet", "row", "Ljava/lang/Object;", false)
def tyX3 : Nat → FieldType := fun k => match k with
  | _ => .object "java/lang/Object"
abbrev wsX30 : List Cond := u_ws RX3 TX3 1
theorem nmX3 : ∀ a, a < 1 → ∀ b, b < 1 → a ≠ b → (TX3 a).2.1 ≠ (TX3 b).2.1 := by decide +kernel
theorem tyX3_ok : ∀ k, k < 1 → parseFieldDescriptor (TX3 k).2.2.1 = some (tyX3 k) := by decide +kernel
abbrev cX3_init : ByteArray := prog_8_method_1_code
def yX3_init : MethodName := ⟨RX3, "<init>", "()V"⟩
theorem dX3_init_0 : decode cX3_init 0 = .ok (.aload_n 0, 1) := by decide +kernel
theorem dX3_init_1 : decode cX3_init 1 = .ok (.invokespecial 1, 3) := by decide +kernel
theorem dX3_init_4 : decode cX3_init 4 = .ok (.return_, 1) := by decide +kernel
abbrev cX3_isThere : ByteArray := prog_8_method_2_code
def yX3_isThere : MethodName := ⟨RX3, "isThere", "()Z"⟩
def dkwX3_isThere_0 : List UInt8 := [42, 180, 0, 7, 198, 0, 7, 4, 167, 0, 4, 3, 172]
abbrev dktX3_isThere_0 : List UInt8 := dkwX3_isThere_0 ++ []
theorem dksX3_isThere_0 : cX3_isThere.data.toList.drop 0 = dktX3_isThere_0 := by decide +kernel
theorem dX3_isThere_0 : decode cX3_isThere 0 = .ok (.aload_n 0, 1) := dk_42 (dk_at dksX3_isThere_0 0 rfl rfl)
theorem dX3_isThere_1 : decode cX3_isThere 1 = .ok (.getfield 7, 3) := dk_180 0 7 (dk_at dksX3_isThere_0 1 rfl rfl)
theorem dX3_isThere_4 : decode cX3_isThere 4 = .ok (.ifnull 7, 3) := dk_198 0 7 (dk_at dksX3_isThere_0 4 rfl rfl)
theorem dX3_isThere_7 : decode cX3_isThere 7 = .ok (.iconst 1, 1) := dk_4 (dk_at dksX3_isThere_0 7 rfl rfl)
theorem dX3_isThere_8 : decode cX3_isThere 8 = .ok (.goto 4, 3) := dk_167 0 4 (dk_at dksX3_isThere_0 8 rfl rfl)
theorem dX3_isThere_11 : decode cX3_isThere 11 = .ok (.iconst 0, 1) := dk_3 (dk_at dksX3_isThere_0 11 rfl rfl)
theorem dX3_isThere_12 : decode cX3_isThere 12 = .ok (.ireturn, 1) := dk_172 (dk_at dksX3_isThere_0 12 rfl rfl)
abbrev cX3_size : ByteArray := prog_8_method_4_code
def yX3_size : MethodName := ⟨RX3, "size", "()I"⟩
def dkwX3_size_1 : List UInt8 := [192, 0, 19, 190, 172]
abbrev dktX3_size_1 : List UInt8 := dkwX3_size_1 ++ []
def dkwX3_size_0 : List UInt8 := [42, 182, 0, 15, 153, 0, 14, 42, 180, 0, 7, 192, 0, 13, 190, 167, 0, 11, 42, 180, 0, 7]
abbrev dktX3_size_0 : List UInt8 := dkwX3_size_0 ++ dktX3_size_1
theorem dksX3_size_0 : cX3_size.data.toList.drop 0 = dktX3_size_0 := by decide +kernel
theorem dksX3_size_1 : cX3_size.data.toList.drop 22 = dktX3_size_1 := dk_seg dksX3_size_0 22 rfl rfl
theorem dX3_size_0 : decode cX3_size 0 = .ok (.aload_n 0, 1) := dk_42 (dk_at dksX3_size_0 0 rfl rfl)
theorem dX3_size_1 : decode cX3_size 1 = .ok (.invokevirtual 15, 3) := dk_182 0 15 (dk_at dksX3_size_0 1 rfl rfl)
theorem dX3_size_4 : decode cX3_size 4 = .ok (.ifCond .eq 14, 3) := dk_153 0 14 (dk_at dksX3_size_0 4 rfl rfl)
theorem dX3_size_7 : decode cX3_size 7 = .ok (.aload_n 0, 1) := dk_42 (dk_at dksX3_size_0 7 rfl rfl)
theorem dX3_size_8 : decode cX3_size 8 = .ok (.getfield 7, 3) := dk_180 0 7 (dk_at dksX3_size_0 8 rfl rfl)
theorem dX3_size_11 : decode cX3_size 11 = .ok (.checkcast 13, 3) := dk_192 0 13 (dk_at dksX3_size_0 11 rfl rfl)
theorem dX3_size_14 : decode cX3_size 14 = .ok (.arraylength, 1) := dk_190 (dk_at dksX3_size_0 14 rfl rfl)
theorem dX3_size_15 : decode cX3_size 15 = .ok (.goto 11, 3) := dk_167 0 11 (dk_at dksX3_size_0 15 rfl rfl)
theorem dX3_size_18 : decode cX3_size 18 = .ok (.aload_n 0, 1) := dk_42 (dk_at dksX3_size_0 18 rfl rfl)
theorem dX3_size_19 : decode cX3_size 19 = .ok (.getfield 7, 3) := dk_180 0 7 (dk_at dksX3_size_0 19 rfl rfl)
theorem dX3_size_22 : decode cX3_size 22 = .ok (.checkcast 19, 3) := dk_192 0 19 (dk_at dksX3_size_1 0 rfl rfl)
theorem dX3_size_25 : decode cX3_size 25 = .ok (.arraylength, 1) := dk_190 (dk_at dksX3_size_1 3 rfl rfl)
theorem dX3_size_26 : decode cX3_size 26 = .ok (.ireturn, 1) := dk_172 (dk_at dksX3_size_1 4 rfl rfl)
abbrev cX3_isFloats : ByteArray := prog_8_method_3_code
def yX3_isFloats : MethodName := ⟨RX3, "isFloats", "()Z"⟩
def dkwX3_isFloats_0 : List UInt8 := [42, 180, 0, 7, 193, 0, 13, 172]
abbrev dktX3_isFloats_0 : List UInt8 := dkwX3_isFloats_0 ++ []
theorem dksX3_isFloats_0 : cX3_isFloats.data.toList.drop 0 = dktX3_isFloats_0 := by decide +kernel
theorem dX3_isFloats_0 : decode cX3_isFloats 0 = .ok (.aload_n 0, 1) := dk_42 (dk_at dksX3_isFloats_0 0 rfl rfl)
theorem dX3_isFloats_1 : decode cX3_isFloats 1 = .ok (.getfield 7, 3) := dk_180 0 7 (dk_at dksX3_isFloats_0 1 rfl rfl)
theorem dX3_isFloats_4 : decode cX3_isFloats 4 = .ok (.instanceof 13, 3) := dk_193 0 13 (dk_at dksX3_isFloats_0 4 rfl rfl)
theorem dX3_isFloats_7 : decode cX3_isFloats 7 = .ok (.ireturn, 1) := dk_172 (dk_at dksX3_isFloats_0 7 rfl rfl)
abbrev cX3_put : ByteArray := prog_8_method_7_code
def yX3_put : MethodName := ⟨RX3, "put", "(II)V"⟩
def dkwX3_put_1 : List UInt8 := [180, 0, 7, 192, 0, 19, 27, 28, 147, 86, 177]
abbrev dktX3_put_1 : List UInt8 := dkwX3_put_1 ++ []
def dkwX3_put_0 : List UInt8 := [42, 182, 0, 15, 153, 0, 17, 42, 180, 0, 7, 192, 0, 13, 27, 28, 134, 81, 167, 0, 14, 42]
abbrev dktX3_put_0 : List UInt8 := dkwX3_put_0 ++ dktX3_put_1
theorem dksX3_put_0 : cX3_put.data.toList.drop 0 = dktX3_put_0 := by decide +kernel
theorem dksX3_put_1 : cX3_put.data.toList.drop 22 = dktX3_put_1 := dk_seg dksX3_put_0 22 rfl rfl
theorem dX3_put_0 : decode cX3_put 0 = .ok (.aload_n 0, 1) := dk_42 (dk_at dksX3_put_0 0 rfl rfl)
theorem dX3_put_1 : decode cX3_put 1 = .ok (.invokevirtual 15, 3) := dk_182 0 15 (dk_at dksX3_put_0 1 rfl rfl)
theorem dX3_put_4 : decode cX3_put 4 = .ok (.ifCond .eq 17, 3) := dk_153 0 17 (dk_at dksX3_put_0 4 rfl rfl)
theorem dX3_put_7 : decode cX3_put 7 = .ok (.aload_n 0, 1) := dk_42 (dk_at dksX3_put_0 7 rfl rfl)
theorem dX3_put_8 : decode cX3_put 8 = .ok (.getfield 7, 3) := dk_180 0 7 (dk_at dksX3_put_0 8 rfl rfl)
theorem dX3_put_11 : decode cX3_put 11 = .ok (.checkcast 13, 3) := dk_192 0 13 (dk_at dksX3_put_0 11 rfl rfl)
theorem dX3_put_14 : decode cX3_put 14 = .ok (.iload_n 1, 1) := dk_27 (dk_at dksX3_put_0 14 rfl rfl)
theorem dX3_put_15 : decode cX3_put 15 = .ok (.iload_n 2, 1) := dk_28 (dk_at dksX3_put_0 15 rfl rfl)
theorem dX3_put_16 : decode cX3_put 16 = .ok (.i2f, 1) := dk_134 (dk_at dksX3_put_0 16 rfl rfl)
theorem dX3_put_17 : decode cX3_put 17 = .ok (.fastore, 1) := dk_81 (dk_at dksX3_put_0 17 rfl rfl)
theorem dX3_put_18 : decode cX3_put 18 = .ok (.goto 14, 3) := dk_167 0 14 (dk_at dksX3_put_0 18 rfl rfl)
theorem dX3_put_21 : decode cX3_put 21 = .ok (.aload_n 0, 1) := dk_42 (dk_at dksX3_put_0 21 rfl rfl)
theorem dX3_put_22 : decode cX3_put 22 = .ok (.getfield 7, 3) := dk_180 0 7 (dk_at dksX3_put_1 0 rfl rfl)
theorem dX3_put_25 : decode cX3_put 25 = .ok (.checkcast 19, 3) := dk_192 0 19 (dk_at dksX3_put_1 3 rfl rfl)
theorem dX3_put_28 : decode cX3_put 28 = .ok (.iload_n 1, 1) := dk_27 (dk_at dksX3_put_1 6 rfl rfl)
theorem dX3_put_29 : decode cX3_put 29 = .ok (.iload_n 2, 1) := dk_28 (dk_at dksX3_put_1 7 rfl rfl)
theorem dX3_put_30 : decode cX3_put 30 = .ok (.i2s, 1) := dk_147 (dk_at dksX3_put_1 8 rfl rfl)
theorem dX3_put_31 : decode cX3_put 31 = .ok (.sastore, 1) := dk_86 (dk_at dksX3_put_1 9 rfl rfl)
theorem dX3_put_32 : decode cX3_put 32 = .ok (.return_, 1) := dk_177 (dk_at dksX3_put_1 10 rfl rfl)
abbrev cX3_isNumber : ByteArray := prog_8_method_5_code
def yX3_isNumber : MethodName := ⟨RX3, "isNumber", "(I)Z"⟩
def dkwX3_isNumber_1 : List UInt8 := [48, 149, 154, 0, 7, 4, 167, 0, 4, 3, 172]
abbrev dktX3_isNumber_1 : List UInt8 := dkwX3_isNumber_1 ++ []
def dkwX3_isNumber_0 : List UInt8 := [42, 182, 0, 15, 153, 0, 25, 42, 180, 0, 7, 192, 0, 13, 27, 48, 42, 180, 0, 7, 192, 0, 13, 27]
abbrev dktX3_isNumber_0 : List UInt8 := dkwX3_isNumber_0 ++ dktX3_isNumber_1
theorem dksX3_isNumber_0 : cX3_isNumber.data.toList.drop 0 = dktX3_isNumber_0 := by decide +kernel
theorem dksX3_isNumber_1 : cX3_isNumber.data.toList.drop 24 = dktX3_isNumber_1 := dk_seg dksX3_isNumber_0 24 rfl rfl
theorem dX3_isNumber_0 : decode cX3_isNumber 0 = .ok (.aload_n 0, 1) := dk_42 (dk_at dksX3_isNumber_0 0 rfl rfl)
theorem dX3_isNumber_1 : decode cX3_isNumber 1 = .ok (.invokevirtual 15, 3) := dk_182 0 15 (dk_at dksX3_isNumber_0 1 rfl rfl)
theorem dX3_isNumber_4 : decode cX3_isNumber 4 = .ok (.ifCond .eq 25, 3) := dk_153 0 25 (dk_at dksX3_isNumber_0 4 rfl rfl)
theorem dX3_isNumber_7 : decode cX3_isNumber 7 = .ok (.aload_n 0, 1) := dk_42 (dk_at dksX3_isNumber_0 7 rfl rfl)
theorem dX3_isNumber_8 : decode cX3_isNumber 8 = .ok (.getfield 7, 3) := dk_180 0 7 (dk_at dksX3_isNumber_0 8 rfl rfl)
theorem dX3_isNumber_11 : decode cX3_isNumber 11 = .ok (.checkcast 13, 3) := dk_192 0 13 (dk_at dksX3_isNumber_0 11 rfl rfl)
theorem dX3_isNumber_14 : decode cX3_isNumber 14 = .ok (.iload_n 1, 1) := dk_27 (dk_at dksX3_isNumber_0 14 rfl rfl)
theorem dX3_isNumber_15 : decode cX3_isNumber 15 = .ok (.faload, 1) := dk_48 (dk_at dksX3_isNumber_0 15 rfl rfl)
theorem dX3_isNumber_16 : decode cX3_isNumber 16 = .ok (.aload_n 0, 1) := dk_42 (dk_at dksX3_isNumber_0 16 rfl rfl)
theorem dX3_isNumber_17 : decode cX3_isNumber 17 = .ok (.getfield 7, 3) := dk_180 0 7 (dk_at dksX3_isNumber_0 17 rfl rfl)
theorem dX3_isNumber_20 : decode cX3_isNumber 20 = .ok (.checkcast 13, 3) := dk_192 0 13 (dk_at dksX3_isNumber_0 20 rfl rfl)
theorem dX3_isNumber_23 : decode cX3_isNumber 23 = .ok (.iload_n 1, 1) := dk_27 (dk_at dksX3_isNumber_0 23 rfl rfl)
theorem dX3_isNumber_24 : decode cX3_isNumber 24 = .ok (.faload, 1) := dk_48 (dk_at dksX3_isNumber_1 0 rfl rfl)
theorem dX3_isNumber_25 : decode cX3_isNumber 25 = .ok (.fcmp .l, 1) := dk_149 (dk_at dksX3_isNumber_1 1 rfl rfl)
theorem dX3_isNumber_26 : decode cX3_isNumber 26 = .ok (.ifCond .ne 7, 3) := dk_154 0 7 (dk_at dksX3_isNumber_1 2 rfl rfl)
theorem dX3_isNumber_29 : decode cX3_isNumber 29 = .ok (.iconst 1, 1) := dk_4 (dk_at dksX3_isNumber_1 5 rfl rfl)
theorem dX3_isNumber_30 : decode cX3_isNumber 30 = .ok (.goto 4, 3) := dk_167 0 4 (dk_at dksX3_isNumber_1 6 rfl rfl)
theorem dX3_isNumber_33 : decode cX3_isNumber 33 = .ok (.iconst 0, 1) := dk_3 (dk_at dksX3_isNumber_1 9 rfl rfl)
theorem dX3_isNumber_34 : decode cX3_isNumber 34 = .ok (.ireturn, 1) := dk_172 (dk_at dksX3_isNumber_1 10 rfl rfl)
abbrev cX3_at : ByteArray := prog_8_method_6_code
def yX3_at : MethodName := ⟨RX3, "at", "(I)I"⟩
def dkwX3_at_1 : List UInt8 := [192, 0, 19, 27, 53, 172]
abbrev dktX3_at_1 : List UInt8 := dkwX3_at_1 ++ []
def dkwX3_at_0 : List UInt8 := [42, 182, 0, 15, 153, 0, 16, 42, 180, 0, 7, 192, 0, 13, 27, 48, 139, 167, 0, 12, 42, 180, 0, 7]
abbrev dktX3_at_0 : List UInt8 := dkwX3_at_0 ++ dktX3_at_1
theorem dksX3_at_0 : cX3_at.data.toList.drop 0 = dktX3_at_0 := by decide +kernel
theorem dksX3_at_1 : cX3_at.data.toList.drop 24 = dktX3_at_1 := dk_seg dksX3_at_0 24 rfl rfl
theorem dX3_at_0 : decode cX3_at 0 = .ok (.aload_n 0, 1) := dk_42 (dk_at dksX3_at_0 0 rfl rfl)
theorem dX3_at_1 : decode cX3_at 1 = .ok (.invokevirtual 15, 3) := dk_182 0 15 (dk_at dksX3_at_0 1 rfl rfl)
theorem dX3_at_4 : decode cX3_at 4 = .ok (.ifCond .eq 16, 3) := dk_153 0 16 (dk_at dksX3_at_0 4 rfl rfl)
theorem dX3_at_7 : decode cX3_at 7 = .ok (.aload_n 0, 1) := dk_42 (dk_at dksX3_at_0 7 rfl rfl)
theorem dX3_at_8 : decode cX3_at 8 = .ok (.getfield 7, 3) := dk_180 0 7 (dk_at dksX3_at_0 8 rfl rfl)
theorem dX3_at_11 : decode cX3_at 11 = .ok (.checkcast 13, 3) := dk_192 0 13 (dk_at dksX3_at_0 11 rfl rfl)
theorem dX3_at_14 : decode cX3_at 14 = .ok (.iload_n 1, 1) := dk_27 (dk_at dksX3_at_0 14 rfl rfl)
theorem dX3_at_15 : decode cX3_at 15 = .ok (.faload, 1) := dk_48 (dk_at dksX3_at_0 15 rfl rfl)
theorem dX3_at_16 : decode cX3_at 16 = .ok (.f2i, 1) := dk_139 (dk_at dksX3_at_0 16 rfl rfl)
theorem dX3_at_17 : decode cX3_at 17 = .ok (.goto 12, 3) := dk_167 0 12 (dk_at dksX3_at_0 17 rfl rfl)
theorem dX3_at_20 : decode cX3_at 20 = .ok (.aload_n 0, 1) := dk_42 (dk_at dksX3_at_0 20 rfl rfl)
theorem dX3_at_21 : decode cX3_at 21 = .ok (.getfield 7, 3) := dk_180 0 7 (dk_at dksX3_at_0 21 rfl rfl)
theorem dX3_at_24 : decode cX3_at 24 = .ok (.checkcast 19, 3) := dk_192 0 19 (dk_at dksX3_at_1 0 rfl rfl)
theorem dX3_at_27 : decode cX3_at 27 = .ok (.iload_n 1, 1) := dk_27 (dk_at dksX3_at_1 3 rfl rfl)
theorem dX3_at_28 : decode cX3_at 28 = .ok (.saload, 1) := dk_53 (dk_at dksX3_at_1 4 rfl rfl)
theorem dX3_at_29 : decode cX3_at 29 = .ok (.ireturn, 1) := dk_172 (dk_at dksX3_at_1 5 rfl rfl)
theorem q88 : (Jvm.Cond.initialized "StrokesHeard$Sheet") ∈ lw_all := lw_g (lw_at lw_m1 7 rfl) rfl
theorem q247 : (Jvm.Cond.instantiable "StrokesHeard$Sheet" (1 : Nat)) ∈ lw_all := lw_g (lw_at lw_m1 166 rfl) rfl
theorem q249 : (Jvm.Cond.instanceMethod ({ cls := "StrokesHeard$Sheet", name := "<init>", desc := "()V" } : Jvm.MethodName)) ∈ lw_all := lw_g (lw_at lw_m1 168 rfl) rfl
theorem q250 : (Jvm.Cond.code ({ cls := "StrokesHeard$Sheet", name := "<init>", desc := "()V" } : Jvm.MethodName) prog_8_method_1_code (1 : Nat) (Option.none : Option Jvm.ClassFile.FieldType)) ∈ lw_all := lw_g (lw_at lw_m1 169 rfl) rfl
theorem q251 : (Jvm.Cond.methodLink "StrokesHeard$Sheet" (1 : Nat) ({ cls := "java/lang/Object", name := "<init>", desc := "()V" } : Jvm.MethodName)) ∈ lw_all := lw_g (lw_at lw_m1 170 rfl) rfl
theorem q252 : (Jvm.Cond.fieldLink "StrokesHeard$Sheet" (7 : Nat) "StrokesHeard$Sheet" "row" "Ljava/lang/Object;") ∈ lw_all := lw_g (lw_at lw_m1 171 rfl) rfl
theorem q254 : (Jvm.Cond.lays "StrokesHeard$Sheet" "StrokesHeard$Sheet" "row" "Ljava/lang/Object;") ∈ lw_all := lw_g (lw_at lw_m1 173 rfl) rfl
theorem q255 : (Jvm.Cond.soleField "StrokesHeard$Sheet" "row") ∈ lw_all := lw_g (lw_at lw_m1 174 rfl) rfl
theorem q256 : (Jvm.Cond.superclass "StrokesHeard$Sheet" "java/lang/Object") ∈ lw_all := lw_g (lw_at lw_m1 175 rfl) rfl
theorem q1016 : (Jvm.Cond.instanceMethod ({ cls := "StrokesHeard$Sheet", name := "isThere", desc := "()Z" } : Jvm.MethodName)) ∈ lw_all := lw_g (lw_at lw_m4 215 rfl) rfl
theorem q1017 : (Jvm.Cond.selects "StrokesHeard$Sheet" ({ cls := "StrokesHeard$Sheet", name := "isThere", desc := "()Z" } : Jvm.MethodName) ({ cls := "StrokesHeard$Sheet", name := "isThere", desc := "()Z" } : Jvm.MethodName)) ∈ lw_all := lw_g (lw_at lw_m4 216 rfl) rfl
theorem q1018 : (Jvm.Cond.code ({ cls := "StrokesHeard$Sheet", name := "isThere", desc := "()Z" } : Jvm.MethodName) prog_8_method_2_code (1 : Nat) (Option.some Jvm.ClassFile.FieldType.boolean)) ∈ lw_all := lw_g (lw_at lw_m4 217 rfl) rfl
theorem q1021 : (Jvm.Cond.instanceMethod ({ cls := "StrokesHeard$Sheet", name := "size", desc := "()I" } : Jvm.MethodName)) ∈ lw_all := lw_g (lw_at lw_m4 220 rfl) rfl
theorem q1022 : (Jvm.Cond.selects "StrokesHeard$Sheet" ({ cls := "StrokesHeard$Sheet", name := "size", desc := "()I" } : Jvm.MethodName) ({ cls := "StrokesHeard$Sheet", name := "size", desc := "()I" } : Jvm.MethodName)) ∈ lw_all := lw_g (lw_at lw_m4 221 rfl) rfl
theorem q1023 : (Jvm.Cond.code ({ cls := "StrokesHeard$Sheet", name := "size", desc := "()I" } : Jvm.MethodName) prog_8_method_4_code (1 : Nat) (Option.some Jvm.ClassFile.FieldType.int)) ∈ lw_all := lw_g (lw_at lw_m4 222 rfl) rfl
theorem q1024 : (Jvm.Cond.methodLink "StrokesHeard$Sheet" (15 : Nat) ({ cls := "StrokesHeard$Sheet", name := "isFloats", desc := "()Z" } : Jvm.MethodName)) ∈ lw_all := lw_g (lw_at lw_m4 223 rfl) rfl
theorem q1025 : (Jvm.Cond.instanceMethod ({ cls := "StrokesHeard$Sheet", name := "isFloats", desc := "()Z" } : Jvm.MethodName)) ∈ lw_all := lw_g (lw_at lw_m4 224 rfl) rfl
theorem q1026 : (Jvm.Cond.selects "StrokesHeard$Sheet" ({ cls := "StrokesHeard$Sheet", name := "isFloats", desc := "()Z" } : Jvm.MethodName) ({ cls := "StrokesHeard$Sheet", name := "isFloats", desc := "()Z" } : Jvm.MethodName)) ∈ lw_all := lw_g (lw_at lw_m4 225 rfl) rfl
theorem q1027 : (Jvm.Cond.code ({ cls := "StrokesHeard$Sheet", name := "isFloats", desc := "()Z" } : Jvm.MethodName) prog_8_method_3_code (1 : Nat) (Option.some Jvm.ClassFile.FieldType.boolean)) ∈ lw_all := lw_g (lw_at lw_m4 226 rfl) rfl
theorem q1028 : (Jvm.Cond.classLink "StrokesHeard$Sheet" (13 : Nat) "[F") ∈ lw_all := lw_g (lw_at lw_m4 227 rfl) rfl
theorem q1029 : (Jvm.Cond.classLink "StrokesHeard$Sheet" (19 : Nat) "[S") ∈ lw_all := lw_g (lw_at lw_m4 228 rfl) rfl
theorem q1038 : (Jvm.Cond.instanceMethod ({ cls := "StrokesHeard$Sheet", name := "put", desc := "(II)V" } : Jvm.MethodName)) ∈ lw_all := lw_g (lw_at lw_m4 237 rfl) rfl
theorem q1039 : (Jvm.Cond.selects "StrokesHeard$Sheet" ({ cls := "StrokesHeard$Sheet", name := "put", desc := "(II)V" } : Jvm.MethodName) ({ cls := "StrokesHeard$Sheet", name := "put", desc := "(II)V" } : Jvm.MethodName)) ∈ lw_all := lw_g (lw_at lw_m4 238 rfl) rfl
theorem q1040 : (Jvm.Cond.code ({ cls := "StrokesHeard$Sheet", name := "put", desc := "(II)V" } : Jvm.MethodName) prog_8_method_7_code (3 : Nat) (Option.none : Option Jvm.ClassFile.FieldType)) ∈ lw_all := lw_g (lw_at lw_m4 239 rfl) rfl
theorem q1047 : (Jvm.Cond.instanceMethod ({ cls := "StrokesHeard$Sheet", name := "isNumber", desc := "(I)Z" } : Jvm.MethodName)) ∈ lw_all := lw_g (lw_at lw_m5 6 rfl) rfl
theorem q1048 : (Jvm.Cond.selects "StrokesHeard$Sheet" ({ cls := "StrokesHeard$Sheet", name := "isNumber", desc := "(I)Z" } : Jvm.MethodName) ({ cls := "StrokesHeard$Sheet", name := "isNumber", desc := "(I)Z" } : Jvm.MethodName)) ∈ lw_all := lw_g (lw_at lw_m5 7 rfl) rfl
theorem q1049 : (Jvm.Cond.code ({ cls := "StrokesHeard$Sheet", name := "isNumber", desc := "(I)Z" } : Jvm.MethodName) prog_8_method_5_code (2 : Nat) (Option.some Jvm.ClassFile.FieldType.boolean)) ∈ lw_all := lw_g (lw_at lw_m5 8 rfl) rfl
theorem q1051 : (Jvm.Cond.instanceMethod ({ cls := "StrokesHeard$Sheet", name := "at", desc := "(I)I" } : Jvm.MethodName)) ∈ lw_all := lw_g (lw_at lw_m5 10 rfl) rfl
theorem q1052 : (Jvm.Cond.selects "StrokesHeard$Sheet" ({ cls := "StrokesHeard$Sheet", name := "at", desc := "(I)I" } : Jvm.MethodName) ({ cls := "StrokesHeard$Sheet", name := "at", desc := "(I)I" } : Jvm.MethodName)) ∈ lw_all := lw_g (lw_at lw_m5 11 rfl) rfl
theorem q1053 : (Jvm.Cond.code ({ cls := "StrokesHeard$Sheet", name := "at", desc := "(I)I" } : Jvm.MethodName) prog_8_method_6_code (2 : Nat) (Option.some Jvm.ClassFile.FieldType.int)) ∈ lw_all := lw_g (lw_at lw_m5 12 rfl) rfl
theorem in_X3 : ∀ w ∈ wsX30, w ∈ lw_all := lw_in wsX30 [254] (by decide +kernel) (by decide +kernel)

/-! StrokesHeard$Slot -/
set_option maxRecDepth 100000
def RX4 : String := "StrokesHeard$Slot"
def TX4 : u_T := fun k => match k with
  | _ => ("StrokesHeard$Slot", "held", "Ljava/lang/Object;", false)
def tyX4 : Nat → FieldType := fun k => match k with
  | _ => .object "java/lang/Object"
abbrev wsX40 : List Cond := u_ws RX4 TX4 1
theorem nmX4 : ∀ a, a < 1 → ∀ b, b < 1 → a ≠ b → (TX4 a).2.1 ≠ (TX4 b).2.1 := by decide +kernel
theorem tyX4_ok : ∀ k, k < 1 → parseFieldDescriptor (TX4 k).2.2.1 = some (tyX4 k) := by decide +kernel
abbrev cX4_init : ByteArray := prog_10_method_1_code
def yX4_init : MethodName := ⟨RX4, "<init>", "()V"⟩
theorem dX4_init_0 : decode cX4_init 0 = .ok (.aload_n 0, 1) := by decide +kernel
theorem dX4_init_1 : decode cX4_init 1 = .ok (.invokespecial 1, 3) := by decide +kernel
theorem dX4_init_4 : decode cX4_init 4 = .ok (.return_, 1) := by decide +kernel
abbrev cX4_thing : ByteArray := prog_10_method_2_code
def yX4_thing : MethodName := ⟨RX4, "thing", "()I"⟩
def dkwX4_thing_1 : List UInt8 := [167, 0, 18, 42, 180, 0, 7, 193, 0, 15, 153, 0, 7, 5, 167, 0, 4, 6, 172]
abbrev dktX4_thing_1 : List UInt8 := dkwX4_thing_1 ++ []
def dkwX4_thing_0 : List UInt8 := [42, 180, 0, 7, 199, 0, 7, 3, 167, 0, 32, 42, 180, 0, 7, 193, 0, 13, 153, 0, 7, 4]
abbrev dktX4_thing_0 : List UInt8 := dkwX4_thing_0 ++ dktX4_thing_1
theorem dksX4_thing_0 : cX4_thing.data.toList.drop 0 = dktX4_thing_0 := by decide +kernel
theorem dksX4_thing_1 : cX4_thing.data.toList.drop 22 = dktX4_thing_1 := dk_seg dksX4_thing_0 22 rfl rfl
theorem dX4_thing_0 : decode cX4_thing 0 = .ok (.aload_n 0, 1) := dk_42 (dk_at dksX4_thing_0 0 rfl rfl)
theorem dX4_thing_1 : decode cX4_thing 1 = .ok (.getfield 7, 3) := dk_180 0 7 (dk_at dksX4_thing_0 1 rfl rfl)
theorem dX4_thing_4 : decode cX4_thing 4 = .ok (.ifnonnull 7, 3) := dk_199 0 7 (dk_at dksX4_thing_0 4 rfl rfl)
theorem dX4_thing_7 : decode cX4_thing 7 = .ok (.iconst 0, 1) := dk_3 (dk_at dksX4_thing_0 7 rfl rfl)
theorem dX4_thing_8 : decode cX4_thing 8 = .ok (.goto 32, 3) := dk_167 0 32 (dk_at dksX4_thing_0 8 rfl rfl)
theorem dX4_thing_11 : decode cX4_thing 11 = .ok (.aload_n 0, 1) := dk_42 (dk_at dksX4_thing_0 11 rfl rfl)
theorem dX4_thing_12 : decode cX4_thing 12 = .ok (.getfield 7, 3) := dk_180 0 7 (dk_at dksX4_thing_0 12 rfl rfl)
theorem dX4_thing_15 : decode cX4_thing 15 = .ok (.instanceof 13, 3) := dk_193 0 13 (dk_at dksX4_thing_0 15 rfl rfl)
theorem dX4_thing_18 : decode cX4_thing 18 = .ok (.ifCond .eq 7, 3) := dk_153 0 7 (dk_at dksX4_thing_0 18 rfl rfl)
theorem dX4_thing_21 : decode cX4_thing 21 = .ok (.iconst 1, 1) := dk_4 (dk_at dksX4_thing_0 21 rfl rfl)
theorem dX4_thing_22 : decode cX4_thing 22 = .ok (.goto 18, 3) := dk_167 0 18 (dk_at dksX4_thing_1 0 rfl rfl)
theorem dX4_thing_25 : decode cX4_thing 25 = .ok (.aload_n 0, 1) := dk_42 (dk_at dksX4_thing_1 3 rfl rfl)
theorem dX4_thing_26 : decode cX4_thing 26 = .ok (.getfield 7, 3) := dk_180 0 7 (dk_at dksX4_thing_1 4 rfl rfl)
theorem dX4_thing_29 : decode cX4_thing 29 = .ok (.instanceof 15, 3) := dk_193 0 15 (dk_at dksX4_thing_1 7 rfl rfl)
theorem dX4_thing_32 : decode cX4_thing 32 = .ok (.ifCond .eq 7, 3) := dk_153 0 7 (dk_at dksX4_thing_1 10 rfl rfl)
theorem dX4_thing_35 : decode cX4_thing 35 = .ok (.iconst 2, 1) := dk_5 (dk_at dksX4_thing_1 13 rfl rfl)
theorem dX4_thing_36 : decode cX4_thing 36 = .ok (.goto 4, 3) := dk_167 0 4 (dk_at dksX4_thing_1 14 rfl rfl)
theorem dX4_thing_39 : decode cX4_thing 39 = .ok (.iconst 3, 1) := dk_6 (dk_at dksX4_thing_1 17 rfl rfl)
theorem dX4_thing_40 : decode cX4_thing 40 = .ok (.ireturn, 1) := dk_172 (dk_at dksX4_thing_1 18 rfl rfl)
theorem q89 : (Jvm.Cond.initialized "StrokesHeard$Slot") ∈ lw_all := lw_g (lw_at lw_m1 8 rfl) rfl
theorem q259 : (Jvm.Cond.instantiable "StrokesHeard$Slot" (1 : Nat)) ∈ lw_all := lw_g (lw_at lw_m1 178 rfl) rfl
theorem q261 : (Jvm.Cond.instanceMethod ({ cls := "StrokesHeard$Slot", name := "<init>", desc := "()V" } : Jvm.MethodName)) ∈ lw_all := lw_g (lw_at lw_m1 180 rfl) rfl
theorem q262 : (Jvm.Cond.code ({ cls := "StrokesHeard$Slot", name := "<init>", desc := "()V" } : Jvm.MethodName) prog_10_method_1_code (1 : Nat) (Option.none : Option Jvm.ClassFile.FieldType)) ∈ lw_all := lw_g (lw_at lw_m1 181 rfl) rfl
theorem q263 : (Jvm.Cond.methodLink "StrokesHeard$Slot" (1 : Nat) ({ cls := "java/lang/Object", name := "<init>", desc := "()V" } : Jvm.MethodName)) ∈ lw_all := lw_g (lw_at lw_m1 182 rfl) rfl
theorem q264 : (Jvm.Cond.fieldLink "StrokesHeard$Slot" (7 : Nat) "StrokesHeard$Slot" "held" "Ljava/lang/Object;") ∈ lw_all := lw_g (lw_at lw_m1 183 rfl) rfl
theorem q266 : (Jvm.Cond.lays "StrokesHeard$Slot" "StrokesHeard$Slot" "held" "Ljava/lang/Object;") ∈ lw_all := lw_g (lw_at lw_m1 185 rfl) rfl
theorem q267 : (Jvm.Cond.soleField "StrokesHeard$Slot" "held") ∈ lw_all := lw_g (lw_at lw_m1 186 rfl) rfl
theorem q268 : (Jvm.Cond.superclass "StrokesHeard$Slot" "java/lang/Object") ∈ lw_all := lw_g (lw_at lw_m1 187 rfl) rfl
theorem q1086 : (Jvm.Cond.instanceMethod ({ cls := "StrokesHeard$Slot", name := "thing", desc := "()I" } : Jvm.MethodName)) ∈ lw_all := lw_g (lw_at lw_m5 45 rfl) rfl
theorem q1087 : (Jvm.Cond.selects "StrokesHeard$Slot" ({ cls := "StrokesHeard$Slot", name := "thing", desc := "()I" } : Jvm.MethodName) ({ cls := "StrokesHeard$Slot", name := "thing", desc := "()I" } : Jvm.MethodName)) ∈ lw_all := lw_g (lw_at lw_m5 46 rfl) rfl
theorem q1088 : (Jvm.Cond.code ({ cls := "StrokesHeard$Slot", name := "thing", desc := "()I" } : Jvm.MethodName) prog_10_method_2_code (1 : Nat) (Option.some Jvm.ClassFile.FieldType.int)) ∈ lw_all := lw_g (lw_at lw_m5 47 rfl) rfl
theorem q1089 : (Jvm.Cond.classLink "StrokesHeard$Slot" (13 : Nat) "StrokesHeard$Ringer") ∈ lw_all := lw_g (lw_at lw_m5 48 rfl) rfl
theorem q1090 : (Jvm.Cond.classLink "StrokesHeard$Slot" (15 : Nat) "StrokesHeard$Sheet") ∈ lw_all := lw_g (lw_at lw_m5 49 rfl) rfl
theorem in_X4 : ∀ w ∈ wsX40, w ∈ lw_all := lw_in wsX40 [266] (by decide +kernel) (by decide +kernel)

/-! StrokesHeard$Ringer -/
set_option maxRecDepth 100000
def RX6 : String := "StrokesHeard$Ringer"
def TX6 : u_T := fun k => match k with
  | 0 => ("StrokesHeard$Ringer", "off", "I", false)
  | _ => ("StrokesHeard$Ringer", "tone", "I", false)
def tyX6 : Nat → FieldType := fun k => match k with
  | 0 => .int
  | _ => .int
abbrev wsX60 : List Cond := u_ws RX6 TX6 2
theorem nmX6 : ∀ a, a < 2 → ∀ b, b < 2 → a ≠ b → (TX6 a).2.1 ≠ (TX6 b).2.1 := by decide +kernel
theorem tyX6_ok : ∀ k, k < 2 → parseFieldDescriptor (TX6 k).2.2.1 = some (tyX6 k) := by decide +kernel
abbrev cX6_init : ByteArray := prog_7_method_1_code
def yX6_init : MethodName := ⟨RX6, "<init>", "()V"⟩
theorem dX6_init_0 : decode cX6_init 0 = .ok (.aload_n 0, 1) := by decide +kernel
theorem dX6_init_1 : decode cX6_init 1 = .ok (.invokespecial 3, 3) := by decide +kernel
theorem dX6_init_4 : decode cX6_init 4 = .ok (.return_, 1) := by decide +kernel
abbrev cX6_kind : ByteArray := prog_7_method_2_code
def yX6_kind : MethodName := ⟨RX6, "kind", "()I"⟩
theorem dX6_kind_0 : decode cX6_kind 0 = .ok (.iconst 0, 1) := by decide +kernel
theorem dX6_kind_1 : decode cX6_kind 1 = .ok (.ireturn, 1) := by decide +kernel
abbrev cX6_strokes : ByteArray := prog_7_method_3_code
def yX6_strokes : MethodName := ⟨RX6, "strokes", "(II)I"⟩
def dkwX6_strokes_1 : List UInt8 := [21, 4, 154, 0, 11, 42, 29, 182, 0, 9, 167, 0, 11, 42, 21, 4, 29, 28, 182, 0, 15, 172]
abbrev dktX6_strokes_1 : List UInt8 := dkwX6_strokes_1 ++ []
def dkwX6_strokes_0 : List UInt8 := [27, 16, 60, 108, 154, 0, 8, 16, 12, 167, 0, 7, 27, 16, 60, 108, 62, 27, 16, 60, 112, 54, 4]
abbrev dktX6_strokes_0 : List UInt8 := dkwX6_strokes_0 ++ dktX6_strokes_1
theorem dksX6_strokes_0 : cX6_strokes.data.toList.drop 0 = dktX6_strokes_0 := by decide +kernel
theorem dksX6_strokes_1 : cX6_strokes.data.toList.drop 23 = dktX6_strokes_1 := dk_seg dksX6_strokes_0 23 rfl rfl
theorem dX6_strokes_0 : decode cX6_strokes 0 = .ok (.iload_n 1, 1) := dk_27 (dk_at dksX6_strokes_0 0 rfl rfl)
theorem dX6_strokes_1 : decode cX6_strokes 1 = .ok (.bipush 60, 2) := dk_16 60 (dk_at dksX6_strokes_0 1 rfl rfl)
theorem dX6_strokes_3 : decode cX6_strokes 3 = .ok (.idiv, 1) := dk_108 (dk_at dksX6_strokes_0 3 rfl rfl)
theorem dX6_strokes_4 : decode cX6_strokes 4 = .ok (.ifCond .ne 8, 3) := dk_154 0 8 (dk_at dksX6_strokes_0 4 rfl rfl)
theorem dX6_strokes_7 : decode cX6_strokes 7 = .ok (.bipush 12, 2) := dk_16 12 (dk_at dksX6_strokes_0 7 rfl rfl)
theorem dX6_strokes_9 : decode cX6_strokes 9 = .ok (.goto 7, 3) := dk_167 0 7 (dk_at dksX6_strokes_0 9 rfl rfl)
theorem dX6_strokes_12 : decode cX6_strokes 12 = .ok (.iload_n 1, 1) := dk_27 (dk_at dksX6_strokes_0 12 rfl rfl)
theorem dX6_strokes_13 : decode cX6_strokes 13 = .ok (.bipush 60, 2) := dk_16 60 (dk_at dksX6_strokes_0 13 rfl rfl)
theorem dX6_strokes_15 : decode cX6_strokes 15 = .ok (.idiv, 1) := dk_108 (dk_at dksX6_strokes_0 15 rfl rfl)
theorem dX6_strokes_16 : decode cX6_strokes 16 = .ok (.istore_n 3, 1) := dk_62 (dk_at dksX6_strokes_0 16 rfl rfl)
theorem dX6_strokes_17 : decode cX6_strokes 17 = .ok (.iload_n 1, 1) := dk_27 (dk_at dksX6_strokes_0 17 rfl rfl)
theorem dX6_strokes_18 : decode cX6_strokes 18 = .ok (.bipush 60, 2) := dk_16 60 (dk_at dksX6_strokes_0 18 rfl rfl)
theorem dX6_strokes_20 : decode cX6_strokes 20 = .ok (.irem, 1) := dk_112 (dk_at dksX6_strokes_0 20 rfl rfl)
theorem dX6_strokes_21 : decode cX6_strokes 21 = .ok (.istore 4, 2) := dk_54 4 (dk_at dksX6_strokes_0 21 rfl rfl)
theorem dX6_strokes_23 : decode cX6_strokes 23 = .ok (.iload 4, 2) := dk_21 4 (dk_at dksX6_strokes_1 0 rfl rfl)
theorem dX6_strokes_25 : decode cX6_strokes 25 = .ok (.ifCond .ne 11, 3) := dk_154 0 11 (dk_at dksX6_strokes_1 2 rfl rfl)
theorem dX6_strokes_28 : decode cX6_strokes 28 = .ok (.aload_n 0, 1) := dk_42 (dk_at dksX6_strokes_1 5 rfl rfl)
theorem dX6_strokes_29 : decode cX6_strokes 29 = .ok (.iload_n 3, 1) := dk_29 (dk_at dksX6_strokes_1 6 rfl rfl)
theorem dX6_strokes_30 : decode cX6_strokes 30 = .ok (.invokevirtual 9, 3) := dk_182 0 9 (dk_at dksX6_strokes_1 7 rfl rfl)
theorem dX6_strokes_33 : decode cX6_strokes 33 = .ok (.goto 11, 3) := dk_167 0 11 (dk_at dksX6_strokes_1 10 rfl rfl)
theorem dX6_strokes_36 : decode cX6_strokes 36 = .ok (.aload_n 0, 1) := dk_42 (dk_at dksX6_strokes_1 13 rfl rfl)
theorem dX6_strokes_37 : decode cX6_strokes 37 = .ok (.iload 4, 2) := dk_21 4 (dk_at dksX6_strokes_1 14 rfl rfl)
theorem dX6_strokes_39 : decode cX6_strokes 39 = .ok (.iload_n 3, 1) := dk_29 (dk_at dksX6_strokes_1 16 rfl rfl)
theorem dX6_strokes_40 : decode cX6_strokes 40 = .ok (.iload_n 2, 1) := dk_28 (dk_at dksX6_strokes_1 17 rfl rfl)
theorem dX6_strokes_41 : decode cX6_strokes 41 = .ok (.invokevirtual 15, 3) := dk_182 0 15 (dk_at dksX6_strokes_1 18 rfl rfl)
theorem dX6_strokes_44 : decode cX6_strokes 44 = .ok (.ireturn, 1) := dk_172 (dk_at dksX6_strokes_1 21 rfl rfl)
abbrev cX6_worth : ByteArray := prog_7_method_4_code
def yX6_worth : MethodName := ⟨RX6, "worth", "()I"⟩
theorem dX6_worth_0 : decode cX6_worth 0 = .ok (.aload_n 0, 1) := by decide +kernel
theorem dX6_worth_1 : decode cX6_worth 1 = .ok (.getfield 19, 3) := by decide +kernel
theorem dX6_worth_4 : decode cX6_worth 4 = .ok (.ireturn, 1) := by decide +kernel
abbrev cX6_takes : ByteArray := prog_7_method_6_code
def yX6_takes : MethodName := ⟨RX6, "takes", "(LStrokesHeard$Ringer;)V"⟩
def dkwX6_takes_0 : List UInt8 := [42, 43, 180, 0, 19, 181, 0, 19, 42, 43, 180, 0, 24, 181, 0, 24, 177]
abbrev dktX6_takes_0 : List UInt8 := dkwX6_takes_0 ++ []
theorem dksX6_takes_0 : cX6_takes.data.toList.drop 0 = dktX6_takes_0 := by decide +kernel
theorem dX6_takes_0 : decode cX6_takes 0 = .ok (.aload_n 0, 1) := dk_42 (dk_at dksX6_takes_0 0 rfl rfl)
theorem dX6_takes_1 : decode cX6_takes 1 = .ok (.aload_n 1, 1) := dk_43 (dk_at dksX6_takes_0 1 rfl rfl)
theorem dX6_takes_2 : decode cX6_takes 2 = .ok (.getfield 19, 3) := dk_180 0 19 (dk_at dksX6_takes_0 2 rfl rfl)
theorem dX6_takes_5 : decode cX6_takes 5 = .ok (.putfield 19, 3) := dk_181 0 19 (dk_at dksX6_takes_0 5 rfl rfl)
theorem dX6_takes_8 : decode cX6_takes 8 = .ok (.aload_n 0, 1) := dk_42 (dk_at dksX6_takes_0 8 rfl rfl)
theorem dX6_takes_9 : decode cX6_takes 9 = .ok (.aload_n 1, 1) := dk_43 (dk_at dksX6_takes_0 9 rfl rfl)
theorem dX6_takes_10 : decode cX6_takes 10 = .ok (.getfield 24, 3) := dk_180 0 24 (dk_at dksX6_takes_0 10 rfl rfl)
theorem dX6_takes_13 : decode cX6_takes 13 = .ok (.putfield 24, 3) := dk_181 0 24 (dk_at dksX6_takes_0 13 rfl rfl)
theorem dX6_takes_16 : decode cX6_takes 16 = .ok (.return_, 1) := dk_177 (dk_at dksX6_takes_0 16 rfl rfl)
abbrev cX6_another : ByteArray := prog_7_method_5_code
def yX6_another : MethodName := ⟨RX6, "another", "()LStrokesHeard$Ringer;"⟩
def dkwX6_another_0 : List UInt8 := [187, 0, 10, 89, 183, 0, 23, 176]
abbrev dktX6_another_0 : List UInt8 := dkwX6_another_0 ++ []
theorem dksX6_another_0 : cX6_another.data.toList.drop 0 = dktX6_another_0 := by decide +kernel
theorem dX6_another_0 : decode cX6_another 0 = .ok (.new 10, 3) := dk_187 0 10 (dk_at dksX6_another_0 0 rfl rfl)
theorem dX6_another_3 : decode cX6_another 3 = .ok (.dup, 1) := dk_89 (dk_at dksX6_another_0 3 rfl rfl)
theorem dX6_another_4 : decode cX6_another 4 = .ok (.invokespecial 23, 3) := dk_183 0 23 (dk_at dksX6_another_0 4 rfl rfl)
theorem dX6_another_7 : decode cX6_another 7 = .ok (.areturn, 1) := dk_176 (dk_at dksX6_another_0 7 rfl rfl)
abbrev cX6_copy : ByteArray := prog_7_method_7_code
def yX6_copy : MethodName := ⟨RX6, "copy", "()LStrokesHeard$Ringer;"⟩
def dkwX6_copy_0 : List UInt8 := [42, 182, 0, 27, 76, 43, 42, 182, 0, 31, 43, 176]
abbrev dktX6_copy_0 : List UInt8 := dkwX6_copy_0 ++ []
theorem dksX6_copy_0 : cX6_copy.data.toList.drop 0 = dktX6_copy_0 := by decide +kernel
theorem dX6_copy_0 : decode cX6_copy 0 = .ok (.aload_n 0, 1) := dk_42 (dk_at dksX6_copy_0 0 rfl rfl)
theorem dX6_copy_1 : decode cX6_copy 1 = .ok (.invokevirtual 27, 3) := dk_182 0 27 (dk_at dksX6_copy_0 1 rfl rfl)
theorem dX6_copy_4 : decode cX6_copy 4 = .ok (.astore_n 1, 1) := dk_76 (dk_at dksX6_copy_0 4 rfl rfl)
theorem dX6_copy_5 : decode cX6_copy 5 = .ok (.aload_n 1, 1) := dk_43 (dk_at dksX6_copy_0 5 rfl rfl)
theorem dX6_copy_6 : decode cX6_copy 6 = .ok (.aload_n 0, 1) := dk_42 (dk_at dksX6_copy_0 6 rfl rfl)
theorem dX6_copy_7 : decode cX6_copy 7 = .ok (.invokevirtual 31, 3) := dk_182 0 31 (dk_at dksX6_copy_0 7 rfl rfl)
theorem dX6_copy_10 : decode cX6_copy 10 = .ok (.aload_n 1, 1) := dk_43 (dk_at dksX6_copy_0 10 rfl rfl)
theorem dX6_copy_11 : decode cX6_copy 11 = .ok (.areturn, 1) := dk_176 (dk_at dksX6_copy_0 11 rfl rfl)
theorem q91 : (Jvm.Cond.initialized "StrokesHeard$Ringer") ∈ lw_all := lw_g (lw_at lw_m1 10 rfl) rfl
theorem q568 : (Jvm.Cond.instanceMethod ({ cls := "StrokesHeard$Ringer", name := "<init>", desc := "()V" } : Jvm.MethodName)) ∈ lw_all := lw_g (lw_at lw_m3 7 rfl) rfl
theorem q569 : (Jvm.Cond.code ({ cls := "StrokesHeard$Ringer", name := "<init>", desc := "()V" } : Jvm.MethodName) prog_7_method_1_code (1 : Nat) (Option.none : Option Jvm.ClassFile.FieldType)) ∈ lw_all := lw_g (lw_at lw_m3 8 rfl) rfl
theorem q570 : (Jvm.Cond.methodLink "StrokesHeard$Ringer" (3 : Nat) ({ cls := "java/lang/Object", name := "<init>", desc := "()V" } : Jvm.MethodName)) ∈ lw_all := lw_g (lw_at lw_m3 9 rfl) rfl
theorem q571 : (Jvm.Cond.fieldLink "StrokesHeard$Ringer" (19 : Nat) "StrokesHeard$Ringer" "off" "I") ∈ lw_all := lw_g (lw_at lw_m3 10 rfl) rfl
theorem q573 : (Jvm.Cond.fieldLink "StrokesHeard$Ringer" (24 : Nat) "StrokesHeard$Ringer" "tone" "I") ∈ lw_all := lw_g (lw_at lw_m3 12 rfl) rfl
theorem q576 : (Jvm.Cond.soleField "StrokesHeard$Ringer" "off") ∈ lw_all := lw_g (lw_at lw_m3 15 rfl) rfl
theorem q578 : (Jvm.Cond.soleField "StrokesHeard$Ringer" "tone") ∈ lw_all := lw_g (lw_at lw_m3 17 rfl) rfl
theorem q617 : (Jvm.Cond.instantiable "StrokesHeard$Ringer" (2 : Nat)) ∈ lw_all := lw_g (lw_at lw_m3 56 rfl) rfl
theorem q619 : (Jvm.Cond.lays "StrokesHeard$Ringer" "StrokesHeard$Ringer" "off" "I") ∈ lw_all := lw_g (lw_at lw_m3 58 rfl) rfl
theorem q620 : (Jvm.Cond.lays "StrokesHeard$Ringer" "StrokesHeard$Ringer" "tone" "I") ∈ lw_all := lw_g (lw_at lw_m3 59 rfl) rfl
theorem q621 : (Jvm.Cond.superclass "StrokesHeard$Ringer" "java/lang/Object") ∈ lw_all := lw_g (lw_at lw_m3 60 rfl) rfl
theorem q631 : (Jvm.Cond.instanceMethod ({ cls := "StrokesHeard$Ringer", name := "kind", desc := "()I" } : Jvm.MethodName)) ∈ lw_all := lw_g (lw_at lw_m3 70 rfl) rfl
theorem q632 : (Jvm.Cond.selects "StrokesHeard$Ringer" ({ cls := "StrokesHeard$Ringer", name := "kind", desc := "()I" } : Jvm.MethodName) ({ cls := "StrokesHeard$Ringer", name := "kind", desc := "()I" } : Jvm.MethodName)) ∈ lw_all := lw_g (lw_at lw_m3 71 rfl) rfl
theorem q633 : (Jvm.Cond.sameMethod "StrokesHeard$Ringer" "StrokesHeard$Ringer" "kind" "()I") ∈ lw_all := lw_g (lw_at lw_m3 72 rfl) rfl
theorem q651 : (Jvm.Cond.code ({ cls := "StrokesHeard$Ringer", name := "kind", desc := "()I" } : Jvm.MethodName) prog_7_method_2_code (1 : Nat) (Option.some Jvm.ClassFile.FieldType.int)) ∈ lw_all := lw_g (lw_at lw_m3 90 rfl) rfl
theorem q684 : (Jvm.Cond.instanceMethod ({ cls := "StrokesHeard$Ringer", name := "strokes", desc := "(II)I" } : Jvm.MethodName)) ∈ lw_all := lw_g (lw_at lw_m3 123 rfl) rfl
theorem q685 : (Jvm.Cond.selects "StrokesHeard$Ringer" ({ cls := "StrokesHeard$Ringer", name := "strokes", desc := "(II)I" } : Jvm.MethodName) ({ cls := "StrokesHeard$Ringer", name := "strokes", desc := "(II)I" } : Jvm.MethodName)) ∈ lw_all := lw_g (lw_at lw_m3 124 rfl) rfl
theorem q686 : (Jvm.Cond.sameMethod "StrokesHeard$Ringer" "StrokesHeard$Ringer" "strokes" "(II)I") ∈ lw_all := lw_g (lw_at lw_m3 125 rfl) rfl
theorem q692 : (Jvm.Cond.code ({ cls := "StrokesHeard$Ringer", name := "strokes", desc := "(II)I" } : Jvm.MethodName) prog_7_method_3_code (5 : Nat) (Option.some Jvm.ClassFile.FieldType.int)) ∈ lw_all := lw_g (lw_at lw_m3 131 rfl) rfl
theorem q696 : (Jvm.Cond.unhidden "StrokesHeard$Ringer" "atHour" "(I)I") ∈ lw_tbl := lw_at lw_m3 135 rfl
theorem q716 : (Jvm.Cond.unhidden "StrokesHeard$Ringer" "at" "(III)I") ∈ lw_tbl := lw_at lw_m3 155 rfl
theorem q728 : (Jvm.Cond.instanceMethod ({ cls := "StrokesHeard$Ringer", name := "worth", desc := "()I" } : Jvm.MethodName)) ∈ lw_all := lw_g (lw_at lw_m3 167 rfl) rfl
theorem q729 : (Jvm.Cond.selects "StrokesHeard$Ringer" ({ cls := "StrokesHeard$Ringer", name := "worth", desc := "()I" } : Jvm.MethodName) ({ cls := "StrokesHeard$Ringer", name := "worth", desc := "()I" } : Jvm.MethodName)) ∈ lw_all := lw_g (lw_at lw_m3 168 rfl) rfl
theorem q730 : (Jvm.Cond.sameMethod "StrokesHeard$Ringer" "StrokesHeard$Ringer" "worth" "()I") ∈ lw_all := lw_g (lw_at lw_m3 169 rfl) rfl
theorem q750 : (Jvm.Cond.code ({ cls := "StrokesHeard$Ringer", name := "worth", desc := "()I" } : Jvm.MethodName) prog_7_method_4_code (1 : Nat) (Option.some Jvm.ClassFile.FieldType.int)) ∈ lw_all := lw_g (lw_at lw_m3 189 rfl) rfl
theorem q791 : (Jvm.Cond.instanceMethod ({ cls := "StrokesHeard$Ringer", name := "takes", desc := "(LStrokesHeard$Ringer;)V" } : Jvm.MethodName)) ∈ lw_all := lw_g (lw_at lw_m3 230 rfl) rfl
theorem q792 : (Jvm.Cond.selects "StrokesHeard$Ringer" ({ cls := "StrokesHeard$Ringer", name := "takes", desc := "(LStrokesHeard$Ringer;)V" } : Jvm.MethodName) ({ cls := "StrokesHeard$Ringer", name := "takes", desc := "(LStrokesHeard$Ringer;)V" } : Jvm.MethodName)) ∈ lw_all := lw_g (lw_at lw_m3 231 rfl) rfl
theorem q793 : (Jvm.Cond.sameMethod "StrokesHeard$Ringer" "StrokesHeard$Ringer" "takes" "(LStrokesHeard$Ringer;)V") ∈ lw_all := lw_g (lw_at lw_m3 232 rfl) rfl
theorem q799 : (Jvm.Cond.code ({ cls := "StrokesHeard$Ringer", name := "takes", desc := "(LStrokesHeard$Ringer;)V" } : Jvm.MethodName) prog_7_method_6_code (2 : Nat) (Option.none : Option Jvm.ClassFile.FieldType)) ∈ lw_all := lw_g (lw_at lw_m3 238 rfl) rfl
theorem q933 : (Jvm.Cond.instanceMethod ({ cls := "StrokesHeard$Ringer", name := "another", desc := "()LStrokesHeard$Ringer;" } : Jvm.MethodName)) ∈ lw_all := lw_g (lw_at lw_m4 132 rfl) rfl
theorem q934 : (Jvm.Cond.selects "StrokesHeard$Ringer" ({ cls := "StrokesHeard$Ringer", name := "another", desc := "()LStrokesHeard$Ringer;" } : Jvm.MethodName) ({ cls := "StrokesHeard$Ringer", name := "another", desc := "()LStrokesHeard$Ringer;" } : Jvm.MethodName)) ∈ lw_all := lw_g (lw_at lw_m4 133 rfl) rfl
theorem q935 : (Jvm.Cond.sameMethod "StrokesHeard$Ringer" "StrokesHeard$Ringer" "another" "()LStrokesHeard$Ringer;") ∈ lw_all := lw_g (lw_at lw_m4 134 rfl) rfl
theorem q961 : (Jvm.Cond.code ({ cls := "StrokesHeard$Ringer", name := "another", desc := "()LStrokesHeard$Ringer;" } : Jvm.MethodName) prog_7_method_5_code (1 : Nat) (Option.some (Jvm.ClassFile.FieldType.object "StrokesHeard$Ringer"))) ∈ lw_all := lw_g (lw_at lw_m4 160 rfl) rfl
theorem q962 : (Jvm.Cond.classLink "StrokesHeard$Ringer" (10 : Nat) "StrokesHeard$Ringer") ∈ lw_all := lw_g (lw_at lw_m4 161 rfl) rfl
theorem q963 : (Jvm.Cond.methodLink "StrokesHeard$Ringer" (23 : Nat) ({ cls := "StrokesHeard$Ringer", name := "<init>", desc := "()V" } : Jvm.MethodName)) ∈ lw_all := lw_g (lw_at lw_m4 162 rfl) rfl
theorem q1092 : (Jvm.Cond.instanceMethod ({ cls := "StrokesHeard$Ringer", name := "copy", desc := "()LStrokesHeard$Ringer;" } : Jvm.MethodName)) ∈ lw_all := lw_g (lw_at lw_m5 51 rfl) rfl
theorem q1093 : (Jvm.Cond.selects "StrokesHeard$Ringer" ({ cls := "StrokesHeard$Ringer", name := "copy", desc := "()LStrokesHeard$Ringer;" } : Jvm.MethodName) ({ cls := "StrokesHeard$Ringer", name := "copy", desc := "()LStrokesHeard$Ringer;" } : Jvm.MethodName)) ∈ lw_all := lw_g (lw_at lw_m5 52 rfl) rfl
theorem q1094 : (Jvm.Cond.sameMethod "StrokesHeard$Ringer" "StrokesHeard$Ringer" "copy" "()LStrokesHeard$Ringer;") ∈ lw_all := lw_g (lw_at lw_m5 53 rfl) rfl
theorem q1100 : (Jvm.Cond.code ({ cls := "StrokesHeard$Ringer", name := "copy", desc := "()LStrokesHeard$Ringer;" } : Jvm.MethodName) prog_7_method_7_code (2 : Nat) (Option.some (Jvm.ClassFile.FieldType.object "StrokesHeard$Ringer"))) ∈ lw_all := lw_g (lw_at lw_m5 59 rfl) rfl
theorem q1101 : (Jvm.Cond.methodLink "StrokesHeard$Ringer" (27 : Nat) ({ cls := "StrokesHeard$Ringer", name := "another", desc := "()LStrokesHeard$Ringer;" } : Jvm.MethodName)) ∈ lw_all := lw_g (lw_at lw_m5 60 rfl) rfl
theorem q1102 : (Jvm.Cond.methodLink "StrokesHeard$Ringer" (31 : Nat) ({ cls := "StrokesHeard$Ringer", name := "takes", desc := "(LStrokesHeard$Ringer;)V" } : Jvm.MethodName)) ∈ lw_all := lw_g (lw_at lw_m5 61 rfl) rfl
theorem q1134 : (Jvm.Cond.castable "StrokesHeard$Ringer" "StrokesHeard$Chimes") ∈ lw_tbl := lw_at lw_m5 93 rfl
theorem q1135 : (Jvm.Cond.selects "StrokesHeard$Ringer" ({ cls := "StrokesHeard$Chimes", name := "worth", desc := "()I" } : Jvm.MethodName) ({ cls := "StrokesHeard$Ringer", name := "worth", desc := "()I" } : Jvm.MethodName)) ∈ lw_all := lw_g (lw_at lw_m5 94 rfl) rfl
theorem q1136 : (Jvm.Cond.unhidden "StrokesHeard$Ringer" "worth" "()I") ∈ lw_tbl := lw_at lw_m5 95 rfl
theorem q1137 : (Jvm.Cond.publicMethod ({ cls := "StrokesHeard$Ringer", name := "worth", desc := "()I" } : Jvm.MethodName)) ∈ lw_tbl := lw_at lw_m5 96 rfl
theorem in_X6 : ∀ w ∈ wsX60, w ∈ lw_all := lw_in wsX60 [619, 620] (by decide +kernel) (by decide +kernel)

/-! StrokesHeard$Quarters -/
set_option maxRecDepth 100000
def RX7 : String := "StrokesHeard$Quarters"
def TX7 : u_T := fun k => match k with
  | 0 => ("StrokesHeard$Ringer", "off", "I", false)
  | _ => ("StrokesHeard$Ringer", "tone", "I", false)
def tyX7 : Nat → FieldType := fun k => match k with
  | 0 => .int
  | _ => .int
abbrev wsX70 : List Cond := u_ws RX7 TX7 2
theorem nmX7 : ∀ a, a < 2 → ∀ b, b < 2 → a ≠ b → (TX7 a).2.1 ≠ (TX7 b).2.1 := by decide +kernel
theorem tyX7_ok : ∀ k, k < 2 → parseFieldDescriptor (TX7 k).2.2.1 = some (tyX7 k) := by decide +kernel
abbrev cX7_init : ByteArray := prog_6_method_1_code
def yX7_init : MethodName := ⟨RX7, "<init>", "()V"⟩
theorem dX7_init_0 : decode cX7_init 0 = .ok (.aload_n 0, 1) := by decide +kernel
theorem dX7_init_1 : decode cX7_init 1 = .ok (.invokespecial 3, 3) := by decide +kernel
theorem dX7_init_4 : decode cX7_init 4 = .ok (.return_, 1) := by decide +kernel
abbrev cX7_kind : ByteArray := prog_6_method_2_code
def yX7_kind : MethodName := ⟨RX7, "kind", "()I"⟩
theorem dX7_kind_0 : decode cX7_kind 0 = .ok (.iconst 1, 1) := by decide +kernel
theorem dX7_kind_1 : decode cX7_kind 1 = .ok (.ireturn, 1) := by decide +kernel
abbrev cX7_at : ByteArray := prog_6_method_3_code
def yX7_at : MethodName := ⟨RX7, "at", "(III)I"⟩
def dkwX7_at_0 : List UInt8 := [27, 16, 15, 112, 154, 0, 10, 27, 16, 15, 108, 167, 0, 10, 42, 27, 28, 29, 183, 0, 9, 172]
abbrev dktX7_at_0 : List UInt8 := dkwX7_at_0 ++ []
theorem dksX7_at_0 : cX7_at.data.toList.drop 0 = dktX7_at_0 := by decide +kernel
theorem dX7_at_0 : decode cX7_at 0 = .ok (.iload_n 1, 1) := dk_27 (dk_at dksX7_at_0 0 rfl rfl)
theorem dX7_at_1 : decode cX7_at 1 = .ok (.bipush 15, 2) := dk_16 15 (dk_at dksX7_at_0 1 rfl rfl)
theorem dX7_at_3 : decode cX7_at 3 = .ok (.irem, 1) := dk_112 (dk_at dksX7_at_0 3 rfl rfl)
theorem dX7_at_4 : decode cX7_at 4 = .ok (.ifCond .ne 10, 3) := dk_154 0 10 (dk_at dksX7_at_0 4 rfl rfl)
theorem dX7_at_7 : decode cX7_at 7 = .ok (.iload_n 1, 1) := dk_27 (dk_at dksX7_at_0 7 rfl rfl)
theorem dX7_at_8 : decode cX7_at 8 = .ok (.bipush 15, 2) := dk_16 15 (dk_at dksX7_at_0 8 rfl rfl)
theorem dX7_at_10 : decode cX7_at 10 = .ok (.idiv, 1) := dk_108 (dk_at dksX7_at_0 10 rfl rfl)
theorem dX7_at_11 : decode cX7_at 11 = .ok (.goto 10, 3) := dk_167 0 10 (dk_at dksX7_at_0 11 rfl rfl)
theorem dX7_at_14 : decode cX7_at 14 = .ok (.aload_n 0, 1) := dk_42 (dk_at dksX7_at_0 14 rfl rfl)
theorem dX7_at_15 : decode cX7_at 15 = .ok (.iload_n 1, 1) := dk_27 (dk_at dksX7_at_0 15 rfl rfl)
theorem dX7_at_16 : decode cX7_at 16 = .ok (.iload_n 2, 1) := dk_28 (dk_at dksX7_at_0 16 rfl rfl)
theorem dX7_at_17 : decode cX7_at 17 = .ok (.iload_n 3, 1) := dk_29 (dk_at dksX7_at_0 17 rfl rfl)
theorem dX7_at_18 : decode cX7_at 18 = .ok (.invokespecial 9, 3) := dk_183 0 9 (dk_at dksX7_at_0 18 rfl rfl)
theorem dX7_at_21 : decode cX7_at 21 = .ok (.ireturn, 1) := dk_172 (dk_at dksX7_at_0 21 rfl rfl)
abbrev cX7_worth : ByteArray := prog_6_method_4_code
def yX7_worth : MethodName := ⟨RX7, "worth", "()I"⟩
def dkwX7_worth_0 : List UInt8 := [42, 183, 0, 13, 7, 96, 172]
abbrev dktX7_worth_0 : List UInt8 := dkwX7_worth_0 ++ []
theorem dksX7_worth_0 : cX7_worth.data.toList.drop 0 = dktX7_worth_0 := by decide +kernel
theorem dX7_worth_0 : decode cX7_worth 0 = .ok (.aload_n 0, 1) := dk_42 (dk_at dksX7_worth_0 0 rfl rfl)
theorem dX7_worth_1 : decode cX7_worth 1 = .ok (.invokespecial 13, 3) := dk_183 0 13 (dk_at dksX7_worth_0 1 rfl rfl)
theorem dX7_worth_4 : decode cX7_worth 4 = .ok (.iconst 4, 1) := dk_7 (dk_at dksX7_worth_0 4 rfl rfl)
theorem dX7_worth_5 : decode cX7_worth 5 = .ok (.iadd, 1) := dk_96 (dk_at dksX7_worth_0 5 rfl rfl)
theorem dX7_worth_6 : decode cX7_worth 6 = .ok (.ireturn, 1) := dk_172 (dk_at dksX7_worth_0 6 rfl rfl)
abbrev cX7_another : ByteArray := prog_6_method_5_code
def yX7_another : MethodName := ⟨RX7, "another", "()LStrokesHeard$Ringer;"⟩
def dkwX7_another_0 : List UInt8 := [187, 0, 17, 89, 183, 0, 19, 176]
abbrev dktX7_another_0 : List UInt8 := dkwX7_another_0 ++ []
theorem dksX7_another_0 : cX7_another.data.toList.drop 0 = dktX7_another_0 := by decide +kernel
theorem dX7_another_0 : decode cX7_another 0 = .ok (.new 17, 3) := dk_187 0 17 (dk_at dksX7_another_0 0 rfl rfl)
theorem dX7_another_3 : decode cX7_another 3 = .ok (.dup, 1) := dk_89 (dk_at dksX7_another_0 3 rfl rfl)
theorem dX7_another_4 : decode cX7_another 4 = .ok (.invokespecial 19, 3) := dk_183 0 19 (dk_at dksX7_another_0 4 rfl rfl)
theorem dX7_another_7 : decode cX7_another 7 = .ok (.areturn, 1) := dk_176 (dk_at dksX7_another_0 7 rfl rfl)
theorem q92 : (Jvm.Cond.initialized "StrokesHeard$Quarters") ∈ lw_all := lw_g (lw_at lw_m1 11 rfl) rfl
theorem q563 : (Jvm.Cond.instantiable "StrokesHeard$Quarters" (2 : Nat)) ∈ lw_all := lw_g (lw_at lw_m3 2 rfl) rfl
theorem q565 : (Jvm.Cond.instanceMethod ({ cls := "StrokesHeard$Quarters", name := "<init>", desc := "()V" } : Jvm.MethodName)) ∈ lw_all := lw_g (lw_at lw_m3 4 rfl) rfl
theorem q566 : (Jvm.Cond.code ({ cls := "StrokesHeard$Quarters", name := "<init>", desc := "()V" } : Jvm.MethodName) prog_6_method_1_code (1 : Nat) (Option.none : Option Jvm.ClassFile.FieldType)) ∈ lw_all := lw_g (lw_at lw_m3 5 rfl) rfl
theorem q567 : (Jvm.Cond.methodLinkNest "StrokesHeard$Quarters" (3 : Nat) ({ cls := "StrokesHeard$Ringer", name := "<init>", desc := "()V" } : Jvm.MethodName) "StrokesHeard") ∈ lw_tbl := lw_at lw_m3 6 rfl
theorem q575 : (Jvm.Cond.lays "StrokesHeard$Quarters" "StrokesHeard$Ringer" "off" "I") ∈ lw_all := lw_g (lw_at lw_m3 14 rfl) rfl
theorem q577 : (Jvm.Cond.lays "StrokesHeard$Quarters" "StrokesHeard$Ringer" "tone" "I") ∈ lw_all := lw_g (lw_at lw_m3 16 rfl) rfl
theorem q579 : (Jvm.Cond.superclass "StrokesHeard$Quarters" "StrokesHeard$Ringer") ∈ lw_all := lw_g (lw_at lw_m3 18 rfl) rfl
theorem q637 : (Jvm.Cond.selects "StrokesHeard$Quarters" ({ cls := "StrokesHeard$Ringer", name := "kind", desc := "()I" } : Jvm.MethodName) ({ cls := "StrokesHeard$Quarters", name := "kind", desc := "()I" } : Jvm.MethodName)) ∈ lw_all := lw_g (lw_at lw_m3 76 rfl) rfl
theorem q638 : (Jvm.Cond.instanceMethod ({ cls := "StrokesHeard$Quarters", name := "kind", desc := "()I" } : Jvm.MethodName)) ∈ lw_all := lw_g (lw_at lw_m3 77 rfl) rfl
theorem q639 : (Jvm.Cond.code ({ cls := "StrokesHeard$Quarters", name := "kind", desc := "()I" } : Jvm.MethodName) prog_6_method_2_code (1 : Nat) (Option.some Jvm.ClassFile.FieldType.int)) ∈ lw_all := lw_g (lw_at lw_m3 78 rfl) rfl
theorem q688 : (Jvm.Cond.selects "StrokesHeard$Quarters" ({ cls := "StrokesHeard$Ringer", name := "strokes", desc := "(II)I" } : Jvm.MethodName) ({ cls := "StrokesHeard$Ringer", name := "strokes", desc := "(II)I" } : Jvm.MethodName)) ∈ lw_all := lw_g (lw_at lw_m3 127 rfl) rfl
theorem q695 : (Jvm.Cond.unhidden "StrokesHeard$Quarters" "atHour" "(I)I") ∈ lw_tbl := lw_at lw_m3 134 rfl
theorem q713 : (Jvm.Cond.selects "StrokesHeard$Quarters" ({ cls := "StrokesHeard$Chimes", name := "at", desc := "(III)I" } : Jvm.MethodName) ({ cls := "StrokesHeard$Quarters", name := "at", desc := "(III)I" } : Jvm.MethodName)) ∈ lw_all := lw_g (lw_at lw_m3 152 rfl) rfl
theorem q714 : (Jvm.Cond.instanceMethod ({ cls := "StrokesHeard$Quarters", name := "at", desc := "(III)I" } : Jvm.MethodName)) ∈ lw_all := lw_g (lw_at lw_m3 153 rfl) rfl
theorem q715 : (Jvm.Cond.code ({ cls := "StrokesHeard$Quarters", name := "at", desc := "(III)I" } : Jvm.MethodName) prog_6_method_3_code (4 : Nat) (Option.some Jvm.ClassFile.FieldType.int)) ∈ lw_all := lw_g (lw_at lw_m3 154 rfl) rfl
theorem q734 : (Jvm.Cond.selects "StrokesHeard$Quarters" ({ cls := "StrokesHeard$Ringer", name := "worth", desc := "()I" } : Jvm.MethodName) ({ cls := "StrokesHeard$Quarters", name := "worth", desc := "()I" } : Jvm.MethodName)) ∈ lw_all := lw_g (lw_at lw_m3 173 rfl) rfl
theorem q735 : (Jvm.Cond.instanceMethod ({ cls := "StrokesHeard$Quarters", name := "worth", desc := "()I" } : Jvm.MethodName)) ∈ lw_all := lw_g (lw_at lw_m3 174 rfl) rfl
theorem q736 : (Jvm.Cond.code ({ cls := "StrokesHeard$Quarters", name := "worth", desc := "()I" } : Jvm.MethodName) prog_6_method_4_code (1 : Nat) (Option.some Jvm.ClassFile.FieldType.int)) ∈ lw_all := lw_g (lw_at lw_m3 175 rfl) rfl
theorem q737 : (Jvm.Cond.methodLink "StrokesHeard$Quarters" (13 : Nat) ({ cls := "StrokesHeard$Ringer", name := "worth", desc := "()I" } : Jvm.MethodName)) ∈ lw_all := lw_g (lw_at lw_m3 176 rfl) rfl
theorem q795 : (Jvm.Cond.selects "StrokesHeard$Quarters" ({ cls := "StrokesHeard$Ringer", name := "takes", desc := "(LStrokesHeard$Ringer;)V" } : Jvm.MethodName) ({ cls := "StrokesHeard$Ringer", name := "takes", desc := "(LStrokesHeard$Ringer;)V" } : Jvm.MethodName)) ∈ lw_all := lw_g (lw_at lw_m3 234 rfl) rfl
theorem q941 : (Jvm.Cond.selects "StrokesHeard$Quarters" ({ cls := "StrokesHeard$Ringer", name := "another", desc := "()LStrokesHeard$Ringer;" } : Jvm.MethodName) ({ cls := "StrokesHeard$Quarters", name := "another", desc := "()LStrokesHeard$Ringer;" } : Jvm.MethodName)) ∈ lw_all := lw_g (lw_at lw_m4 140 rfl) rfl
theorem q942 : (Jvm.Cond.instanceMethod ({ cls := "StrokesHeard$Quarters", name := "another", desc := "()LStrokesHeard$Ringer;" } : Jvm.MethodName)) ∈ lw_all := lw_g (lw_at lw_m4 141 rfl) rfl
theorem q943 : (Jvm.Cond.code ({ cls := "StrokesHeard$Quarters", name := "another", desc := "()LStrokesHeard$Ringer;" } : Jvm.MethodName) prog_6_method_5_code (1 : Nat) (Option.some (Jvm.ClassFile.FieldType.object "StrokesHeard$Ringer"))) ∈ lw_all := lw_g (lw_at lw_m4 142 rfl) rfl
theorem q944 : (Jvm.Cond.classLink "StrokesHeard$Quarters" (17 : Nat) "StrokesHeard$Quarters") ∈ lw_all := lw_g (lw_at lw_m4 143 rfl) rfl
theorem q945 : (Jvm.Cond.methodLink "StrokesHeard$Quarters" (19 : Nat) ({ cls := "StrokesHeard$Quarters", name := "<init>", desc := "()V" } : Jvm.MethodName)) ∈ lw_all := lw_g (lw_at lw_m4 144 rfl) rfl
theorem q1096 : (Jvm.Cond.selects "StrokesHeard$Quarters" ({ cls := "StrokesHeard$Ringer", name := "copy", desc := "()LStrokesHeard$Ringer;" } : Jvm.MethodName) ({ cls := "StrokesHeard$Ringer", name := "copy", desc := "()LStrokesHeard$Ringer;" } : Jvm.MethodName)) ∈ lw_all := lw_g (lw_at lw_m5 55 rfl) rfl
theorem q1130 : (Jvm.Cond.castable "StrokesHeard$Quarters" "StrokesHeard$Chimes") ∈ lw_tbl := lw_at lw_m5 89 rfl
theorem q1131 : (Jvm.Cond.selects "StrokesHeard$Quarters" ({ cls := "StrokesHeard$Chimes", name := "worth", desc := "()I" } : Jvm.MethodName) ({ cls := "StrokesHeard$Quarters", name := "worth", desc := "()I" } : Jvm.MethodName)) ∈ lw_all := lw_g (lw_at lw_m5 90 rfl) rfl
theorem q1132 : (Jvm.Cond.unhidden "StrokesHeard$Quarters" "worth" "()I") ∈ lw_tbl := lw_at lw_m5 91 rfl
theorem q1133 : (Jvm.Cond.publicMethod ({ cls := "StrokesHeard$Quarters", name := "worth", desc := "()I" } : Jvm.MethodName)) ∈ lw_tbl := lw_at lw_m5 92 rfl
theorem q1693 : (Jvm.Cond.sameMethod "StrokesHeard$Quarters" "StrokesHeard$Quarters" "kind" "()I") ∈ lw_all := lw_g (lw_at lw_m7 172 rfl) rfl
theorem q1695 : (Jvm.Cond.sameMethod "StrokesHeard$Quarters" "StrokesHeard$Quarters" "worth" "()I") ∈ lw_all := lw_g (lw_at lw_m7 174 rfl) rfl
theorem q1699 : (Jvm.Cond.castable "StrokesHeard$Quarters" "StrokesHeard$Ringer") ∈ lw_tbl := lw_at lw_m7 178 rfl
theorem in_X7 : ∀ w ∈ wsX70, w ∈ lw_all := lw_in wsX70 [575, 577] (by decide +kernel) (by decide +kernel)

/-! StrokesHeard$Twice -/
set_option maxRecDepth 100000
def RX8 : String := "StrokesHeard$Twice"
def TX8 : u_T := fun k => match k with
  | 0 => ("StrokesHeard$Ringer", "off", "I", false)
  | _ => ("StrokesHeard$Ringer", "tone", "I", false)
def tyX8 : Nat → FieldType := fun k => match k with
  | 0 => .int
  | _ => .int
abbrev wsX80 : List Cond := u_ws RX8 TX8 2
theorem nmX8 : ∀ a, a < 2 → ∀ b, b < 2 → a ≠ b → (TX8 a).2.1 ≠ (TX8 b).2.1 := by decide +kernel
theorem tyX8_ok : ∀ k, k < 2 → parseFieldDescriptor (TX8 k).2.2.1 = some (tyX8 k) := by decide +kernel
abbrev cX8_init : ByteArray := prog_15_method_1_code
def yX8_init : MethodName := ⟨RX8, "<init>", "()V"⟩
theorem dX8_init_0 : decode cX8_init 0 = .ok (.aload_n 0, 1) := by decide +kernel
theorem dX8_init_1 : decode cX8_init 1 = .ok (.invokespecial 3, 3) := by decide +kernel
theorem dX8_init_4 : decode cX8_init 4 = .ok (.return_, 1) := by decide +kernel
abbrev cX8_kind : ByteArray := prog_15_method_2_code
def yX8_kind : MethodName := ⟨RX8, "kind", "()I"⟩
theorem dX8_kind_0 : decode cX8_kind 0 = .ok (.iconst 2, 1) := by decide +kernel
theorem dX8_kind_1 : decode cX8_kind 1 = .ok (.ireturn, 1) := by decide +kernel
abbrev cX8_at : ByteArray := prog_15_method_3_code
def yX8_at : MethodName := ⟨RX8, "at", "(III)I"⟩
def dkwX8_at_0 : List UInt8 := [27, 29, 160, 0, 11, 42, 28, 182, 0, 9, 167, 0, 10, 42, 27, 28, 29, 183, 0, 15, 172]
abbrev dktX8_at_0 : List UInt8 := dkwX8_at_0 ++ []
theorem dksX8_at_0 : cX8_at.data.toList.drop 0 = dktX8_at_0 := by decide +kernel
theorem dX8_at_0 : decode cX8_at 0 = .ok (.iload_n 1, 1) := dk_27 (dk_at dksX8_at_0 0 rfl rfl)
theorem dX8_at_1 : decode cX8_at 1 = .ok (.iload_n 3, 1) := dk_29 (dk_at dksX8_at_0 1 rfl rfl)
theorem dX8_at_2 : decode cX8_at 2 = .ok (.if_icmp .ne 11, 3) := dk_160 0 11 (dk_at dksX8_at_0 2 rfl rfl)
theorem dX8_at_5 : decode cX8_at 5 = .ok (.aload_n 0, 1) := dk_42 (dk_at dksX8_at_0 5 rfl rfl)
theorem dX8_at_6 : decode cX8_at 6 = .ok (.iload_n 2, 1) := dk_28 (dk_at dksX8_at_0 6 rfl rfl)
theorem dX8_at_7 : decode cX8_at 7 = .ok (.invokevirtual 9, 3) := dk_182 0 9 (dk_at dksX8_at_0 7 rfl rfl)
theorem dX8_at_10 : decode cX8_at 10 = .ok (.goto 10, 3) := dk_167 0 10 (dk_at dksX8_at_0 10 rfl rfl)
theorem dX8_at_13 : decode cX8_at 13 = .ok (.aload_n 0, 1) := dk_42 (dk_at dksX8_at_0 13 rfl rfl)
theorem dX8_at_14 : decode cX8_at 14 = .ok (.iload_n 1, 1) := dk_27 (dk_at dksX8_at_0 14 rfl rfl)
theorem dX8_at_15 : decode cX8_at 15 = .ok (.iload_n 2, 1) := dk_28 (dk_at dksX8_at_0 15 rfl rfl)
theorem dX8_at_16 : decode cX8_at 16 = .ok (.iload_n 3, 1) := dk_29 (dk_at dksX8_at_0 16 rfl rfl)
theorem dX8_at_17 : decode cX8_at 17 = .ok (.invokespecial 15, 3) := dk_183 0 15 (dk_at dksX8_at_0 17 rfl rfl)
theorem dX8_at_20 : decode cX8_at 20 = .ok (.ireturn, 1) := dk_172 (dk_at dksX8_at_0 20 rfl rfl)
abbrev cX8_worth : ByteArray := prog_15_method_4_code
def yX8_worth : MethodName := ⟨RX8, "worth", "()I"⟩
def dkwX8_worth_0 : List UInt8 := [16, 60, 42, 183, 0, 19, 100, 172]
abbrev dktX8_worth_0 : List UInt8 := dkwX8_worth_0 ++ []
theorem dksX8_worth_0 : cX8_worth.data.toList.drop 0 = dktX8_worth_0 := by decide +kernel
theorem dX8_worth_0 : decode cX8_worth 0 = .ok (.bipush 60, 2) := dk_16 60 (dk_at dksX8_worth_0 0 rfl rfl)
theorem dX8_worth_2 : decode cX8_worth 2 = .ok (.aload_n 0, 1) := dk_42 (dk_at dksX8_worth_0 2 rfl rfl)
theorem dX8_worth_3 : decode cX8_worth 3 = .ok (.invokespecial 19, 3) := dk_183 0 19 (dk_at dksX8_worth_0 3 rfl rfl)
theorem dX8_worth_6 : decode cX8_worth 6 = .ok (.isub, 1) := dk_100 (dk_at dksX8_worth_0 6 rfl rfl)
theorem dX8_worth_7 : decode cX8_worth 7 = .ok (.ireturn, 1) := dk_172 (dk_at dksX8_worth_0 7 rfl rfl)
abbrev cX8_another : ByteArray := prog_15_method_5_code
def yX8_another : MethodName := ⟨RX8, "another", "()LStrokesHeard$Ringer;"⟩
def dkwX8_another_0 : List UInt8 := [187, 0, 10, 89, 183, 0, 23, 176]
abbrev dktX8_another_0 : List UInt8 := dkwX8_another_0 ++ []
theorem dksX8_another_0 : cX8_another.data.toList.drop 0 = dktX8_another_0 := by decide +kernel
theorem dX8_another_0 : decode cX8_another 0 = .ok (.new 10, 3) := dk_187 0 10 (dk_at dksX8_another_0 0 rfl rfl)
theorem dX8_another_3 : decode cX8_another 3 = .ok (.dup, 1) := dk_89 (dk_at dksX8_another_0 3 rfl rfl)
theorem dX8_another_4 : decode cX8_another 4 = .ok (.invokespecial 23, 3) := dk_183 0 23 (dk_at dksX8_another_0 4 rfl rfl)
theorem dX8_another_7 : decode cX8_another 7 = .ok (.areturn, 1) := dk_176 (dk_at dksX8_another_0 7 rfl rfl)
theorem q93 : (Jvm.Cond.initialized "StrokesHeard$Twice") ∈ lw_all := lw_g (lw_at lw_m1 12 rfl) rfl
theorem q581 : (Jvm.Cond.instantiable "StrokesHeard$Twice" (2 : Nat)) ∈ lw_all := lw_g (lw_at lw_m3 20 rfl) rfl
theorem q583 : (Jvm.Cond.instanceMethod ({ cls := "StrokesHeard$Twice", name := "<init>", desc := "()V" } : Jvm.MethodName)) ∈ lw_all := lw_g (lw_at lw_m3 22 rfl) rfl
theorem q584 : (Jvm.Cond.code ({ cls := "StrokesHeard$Twice", name := "<init>", desc := "()V" } : Jvm.MethodName) prog_15_method_1_code (1 : Nat) (Option.none : Option Jvm.ClassFile.FieldType)) ∈ lw_all := lw_g (lw_at lw_m3 23 rfl) rfl
theorem q585 : (Jvm.Cond.methodLinkNest "StrokesHeard$Twice" (3 : Nat) ({ cls := "StrokesHeard$Ringer", name := "<init>", desc := "()V" } : Jvm.MethodName) "StrokesHeard") ∈ lw_tbl := lw_at lw_m3 24 rfl
theorem q586 : (Jvm.Cond.lays "StrokesHeard$Twice" "StrokesHeard$Ringer" "off" "I") ∈ lw_all := lw_g (lw_at lw_m3 25 rfl) rfl
theorem q587 : (Jvm.Cond.lays "StrokesHeard$Twice" "StrokesHeard$Ringer" "tone" "I") ∈ lw_all := lw_g (lw_at lw_m3 26 rfl) rfl
theorem q588 : (Jvm.Cond.superclass "StrokesHeard$Twice" "StrokesHeard$Ringer") ∈ lw_all := lw_g (lw_at lw_m3 27 rfl) rfl
theorem q644 : (Jvm.Cond.instanceMethod ({ cls := "StrokesHeard$Twice", name := "kind", desc := "()I" } : Jvm.MethodName)) ∈ lw_all := lw_g (lw_at lw_m3 83 rfl) rfl
theorem q645 : (Jvm.Cond.code ({ cls := "StrokesHeard$Twice", name := "kind", desc := "()I" } : Jvm.MethodName) prog_15_method_2_code (1 : Nat) (Option.some Jvm.ClassFile.FieldType.int)) ∈ lw_all := lw_g (lw_at lw_m3 84 rfl) rfl
theorem q650 : (Jvm.Cond.selects "StrokesHeard$Twice" ({ cls := "StrokesHeard$Ringer", name := "kind", desc := "()I" } : Jvm.MethodName) ({ cls := "StrokesHeard$Twice", name := "kind", desc := "()I" } : Jvm.MethodName)) ∈ lw_all := lw_g (lw_at lw_m3 89 rfl) rfl
theorem q691 : (Jvm.Cond.selects "StrokesHeard$Twice" ({ cls := "StrokesHeard$Ringer", name := "strokes", desc := "(II)I" } : Jvm.MethodName) ({ cls := "StrokesHeard$Ringer", name := "strokes", desc := "(II)I" } : Jvm.MethodName)) ∈ lw_all := lw_g (lw_at lw_m3 130 rfl) rfl
theorem q705 : (Jvm.Cond.unhidden "StrokesHeard$Twice" "atHour" "(I)I") ∈ lw_tbl := lw_at lw_m3 144 rfl
theorem q718 : (Jvm.Cond.instanceMethod ({ cls := "StrokesHeard$Twice", name := "at", desc := "(III)I" } : Jvm.MethodName)) ∈ lw_all := lw_g (lw_at lw_m3 157 rfl) rfl
theorem q719 : (Jvm.Cond.code ({ cls := "StrokesHeard$Twice", name := "at", desc := "(III)I" } : Jvm.MethodName) prog_15_method_3_code (4 : Nat) (Option.some Jvm.ClassFile.FieldType.int)) ∈ lw_all := lw_g (lw_at lw_m3 158 rfl) rfl
theorem q721 : (Jvm.Cond.selects "StrokesHeard$Twice" ({ cls := "StrokesHeard$Chimes", name := "at", desc := "(III)I" } : Jvm.MethodName) ({ cls := "StrokesHeard$Twice", name := "at", desc := "(III)I" } : Jvm.MethodName)) ∈ lw_all := lw_g (lw_at lw_m3 160 rfl) rfl
theorem q742 : (Jvm.Cond.instanceMethod ({ cls := "StrokesHeard$Twice", name := "worth", desc := "()I" } : Jvm.MethodName)) ∈ lw_all := lw_g (lw_at lw_m3 181 rfl) rfl
theorem q743 : (Jvm.Cond.code ({ cls := "StrokesHeard$Twice", name := "worth", desc := "()I" } : Jvm.MethodName) prog_15_method_4_code (1 : Nat) (Option.some Jvm.ClassFile.FieldType.int)) ∈ lw_all := lw_g (lw_at lw_m3 182 rfl) rfl
theorem q744 : (Jvm.Cond.methodLink "StrokesHeard$Twice" (19 : Nat) ({ cls := "StrokesHeard$Ringer", name := "worth", desc := "()I" } : Jvm.MethodName)) ∈ lw_all := lw_g (lw_at lw_m3 183 rfl) rfl
theorem q749 : (Jvm.Cond.selects "StrokesHeard$Twice" ({ cls := "StrokesHeard$Ringer", name := "worth", desc := "()I" } : Jvm.MethodName) ({ cls := "StrokesHeard$Twice", name := "worth", desc := "()I" } : Jvm.MethodName)) ∈ lw_all := lw_g (lw_at lw_m3 188 rfl) rfl
theorem q798 : (Jvm.Cond.selects "StrokesHeard$Twice" ({ cls := "StrokesHeard$Ringer", name := "takes", desc := "(LStrokesHeard$Ringer;)V" } : Jvm.MethodName) ({ cls := "StrokesHeard$Ringer", name := "takes", desc := "(LStrokesHeard$Ringer;)V" } : Jvm.MethodName)) ∈ lw_all := lw_g (lw_at lw_m3 237 rfl) rfl
theorem q956 : (Jvm.Cond.selects "StrokesHeard$Twice" ({ cls := "StrokesHeard$Ringer", name := "another", desc := "()LStrokesHeard$Ringer;" } : Jvm.MethodName) ({ cls := "StrokesHeard$Twice", name := "another", desc := "()LStrokesHeard$Ringer;" } : Jvm.MethodName)) ∈ lw_all := lw_g (lw_at lw_m4 155 rfl) rfl
theorem q957 : (Jvm.Cond.instanceMethod ({ cls := "StrokesHeard$Twice", name := "another", desc := "()LStrokesHeard$Ringer;" } : Jvm.MethodName)) ∈ lw_all := lw_g (lw_at lw_m4 156 rfl) rfl
theorem q958 : (Jvm.Cond.code ({ cls := "StrokesHeard$Twice", name := "another", desc := "()LStrokesHeard$Ringer;" } : Jvm.MethodName) prog_15_method_5_code (1 : Nat) (Option.some (Jvm.ClassFile.FieldType.object "StrokesHeard$Ringer"))) ∈ lw_all := lw_g (lw_at lw_m4 157 rfl) rfl
theorem q959 : (Jvm.Cond.classLink "StrokesHeard$Twice" (10 : Nat) "StrokesHeard$Twice") ∈ lw_all := lw_g (lw_at lw_m4 158 rfl) rfl
theorem q960 : (Jvm.Cond.methodLink "StrokesHeard$Twice" (23 : Nat) ({ cls := "StrokesHeard$Twice", name := "<init>", desc := "()V" } : Jvm.MethodName)) ∈ lw_all := lw_g (lw_at lw_m4 159 rfl) rfl
theorem q1099 : (Jvm.Cond.selects "StrokesHeard$Twice" ({ cls := "StrokesHeard$Ringer", name := "copy", desc := "()LStrokesHeard$Ringer;" } : Jvm.MethodName) ({ cls := "StrokesHeard$Ringer", name := "copy", desc := "()LStrokesHeard$Ringer;" } : Jvm.MethodName)) ∈ lw_all := lw_g (lw_at lw_m5 58 rfl) rfl
theorem q1146 : (Jvm.Cond.castable "StrokesHeard$Twice" "StrokesHeard$Chimes") ∈ lw_tbl := lw_at lw_m5 105 rfl
theorem q1147 : (Jvm.Cond.selects "StrokesHeard$Twice" ({ cls := "StrokesHeard$Chimes", name := "worth", desc := "()I" } : Jvm.MethodName) ({ cls := "StrokesHeard$Twice", name := "worth", desc := "()I" } : Jvm.MethodName)) ∈ lw_all := lw_g (lw_at lw_m5 106 rfl) rfl
theorem q1148 : (Jvm.Cond.unhidden "StrokesHeard$Twice" "worth" "()I") ∈ lw_tbl := lw_at lw_m5 107 rfl
theorem q1149 : (Jvm.Cond.publicMethod ({ cls := "StrokesHeard$Twice", name := "worth", desc := "()I" } : Jvm.MethodName)) ∈ lw_tbl := lw_at lw_m5 108 rfl
theorem q1692 : (Jvm.Cond.sameMethod "StrokesHeard$Twice" "StrokesHeard$Twice" "kind" "()I") ∈ lw_all := lw_g (lw_at lw_m7 171 rfl) rfl
theorem q1694 : (Jvm.Cond.sameMethod "StrokesHeard$Twice" "StrokesHeard$Twice" "worth" "()I") ∈ lw_all := lw_g (lw_at lw_m7 173 rfl) rfl
theorem q1702 : (Jvm.Cond.castable "StrokesHeard$Twice" "StrokesHeard$Ringer") ∈ lw_tbl := lw_at lw_m7 181 rfl
theorem in_X8 : ∀ w ∈ wsX80, w ∈ lw_all := lw_in wsX80 [586, 587] (by decide +kernel) (by decide +kernel)

/-! StrokesHeard$Tune -/
set_option maxRecDepth 100000
def RX9 : String := "StrokesHeard$Tune"
def TX9 : u_T := fun k => match k with
  | 0 => ("StrokesHeard$Ringer", "off", "I", false)
  | _ => ("StrokesHeard$Ringer", "tone", "I", false)
def tyX9 : Nat → FieldType := fun k => match k with
  | 0 => .int
  | _ => .int
abbrev wsX90 : List Cond := u_ws RX9 TX9 2
theorem nmX9 : ∀ a, a < 2 → ∀ b, b < 2 → a ≠ b → (TX9 a).2.1 ≠ (TX9 b).2.1 := by decide +kernel
theorem tyX9_ok : ∀ k, k < 2 → parseFieldDescriptor (TX9 k).2.2.1 = some (tyX9 k) := by decide +kernel
abbrev cX9_init : ByteArray := prog_14_method_1_code
def yX9_init : MethodName := ⟨RX9, "<init>", "()V"⟩
theorem dX9_init_0 : decode cX9_init 0 = .ok (.aload_n 0, 1) := by decide +kernel
theorem dX9_init_1 : decode cX9_init 1 = .ok (.invokespecial 1, 3) := by decide +kernel
theorem dX9_init_4 : decode cX9_init 4 = .ok (.return_, 1) := by decide +kernel
abbrev cX9_kind : ByteArray := prog_14_method_2_code
def yX9_kind : MethodName := ⟨RX9, "kind", "()I"⟩
def dkwX9_kind_0 : List UInt8 := [42, 183, 0, 7, 5, 96, 172]
abbrev dktX9_kind_0 : List UInt8 := dkwX9_kind_0 ++ []
theorem dksX9_kind_0 : cX9_kind.data.toList.drop 0 = dktX9_kind_0 := by decide +kernel
theorem dX9_kind_0 : decode cX9_kind 0 = .ok (.aload_n 0, 1) := dk_42 (dk_at dksX9_kind_0 0 rfl rfl)
theorem dX9_kind_1 : decode cX9_kind 1 = .ok (.invokespecial 7, 3) := dk_183 0 7 (dk_at dksX9_kind_0 1 rfl rfl)
theorem dX9_kind_4 : decode cX9_kind 4 = .ok (.iconst 2, 1) := dk_5 (dk_at dksX9_kind_0 4 rfl rfl)
theorem dX9_kind_5 : decode cX9_kind 5 = .ok (.iadd, 1) := dk_96 (dk_at dksX9_kind_0 5 rfl rfl)
theorem dX9_kind_6 : decode cX9_kind 6 = .ok (.ireturn, 1) := dk_172 (dk_at dksX9_kind_0 6 rfl rfl)
abbrev cX9_atHour : ByteArray := prog_14_method_3_code
def yX9_atHour : MethodName := ⟨RX9, "atHour", "(I)I"⟩
def dkwX9_atHour_0 : List UInt8 := [42, 27, 183, 0, 11, 7, 96, 172]
abbrev dktX9_atHour_0 : List UInt8 := dkwX9_atHour_0 ++ []
theorem dksX9_atHour_0 : cX9_atHour.data.toList.drop 0 = dktX9_atHour_0 := by decide +kernel
theorem dX9_atHour_0 : decode cX9_atHour 0 = .ok (.aload_n 0, 1) := dk_42 (dk_at dksX9_atHour_0 0 rfl rfl)
theorem dX9_atHour_1 : decode cX9_atHour 1 = .ok (.iload_n 1, 1) := dk_27 (dk_at dksX9_atHour_0 1 rfl rfl)
theorem dX9_atHour_2 : decode cX9_atHour 2 = .ok (.invokespecial 11, 3) := dk_183 0 11 (dk_at dksX9_atHour_0 2 rfl rfl)
theorem dX9_atHour_5 : decode cX9_atHour 5 = .ok (.iconst 4, 1) := dk_7 (dk_at dksX9_atHour_0 5 rfl rfl)
theorem dX9_atHour_6 : decode cX9_atHour 6 = .ok (.iadd, 1) := dk_96 (dk_at dksX9_atHour_0 6 rfl rfl)
theorem dX9_atHour_7 : decode cX9_atHour 7 = .ok (.ireturn, 1) := dk_172 (dk_at dksX9_atHour_0 7 rfl rfl)
abbrev cX9_worth : ByteArray := prog_14_method_4_code
def yX9_worth : MethodName := ⟨RX9, "worth", "()I"⟩
def dkwX9_worth_0 : List UInt8 := [5, 42, 183, 0, 15, 104, 172]
abbrev dktX9_worth_0 : List UInt8 := dkwX9_worth_0 ++ []
theorem dksX9_worth_0 : cX9_worth.data.toList.drop 0 = dktX9_worth_0 := by decide +kernel
theorem dX9_worth_0 : decode cX9_worth 0 = .ok (.iconst 2, 1) := dk_5 (dk_at dksX9_worth_0 0 rfl rfl)
theorem dX9_worth_1 : decode cX9_worth 1 = .ok (.aload_n 0, 1) := dk_42 (dk_at dksX9_worth_0 1 rfl rfl)
theorem dX9_worth_2 : decode cX9_worth 2 = .ok (.invokespecial 15, 3) := dk_183 0 15 (dk_at dksX9_worth_0 2 rfl rfl)
theorem dX9_worth_5 : decode cX9_worth 5 = .ok (.imul, 1) := dk_104 (dk_at dksX9_worth_0 5 rfl rfl)
theorem dX9_worth_6 : decode cX9_worth 6 = .ok (.ireturn, 1) := dk_172 (dk_at dksX9_worth_0 6 rfl rfl)
abbrev cX9_another : ByteArray := prog_14_method_5_code
def yX9_another : MethodName := ⟨RX9, "another", "()LStrokesHeard$Ringer;"⟩
def dkwX9_another_0 : List UInt8 := [187, 0, 18, 89, 183, 0, 20, 176]
abbrev dktX9_another_0 : List UInt8 := dkwX9_another_0 ++ []
theorem dksX9_another_0 : cX9_another.data.toList.drop 0 = dktX9_another_0 := by decide +kernel
theorem dX9_another_0 : decode cX9_another 0 = .ok (.new 18, 3) := dk_187 0 18 (dk_at dksX9_another_0 0 rfl rfl)
theorem dX9_another_3 : decode cX9_another 3 = .ok (.dup, 1) := dk_89 (dk_at dksX9_another_0 3 rfl rfl)
theorem dX9_another_4 : decode cX9_another 4 = .ok (.invokespecial 20, 3) := dk_183 0 20 (dk_at dksX9_another_0 4 rfl rfl)
theorem dX9_another_7 : decode cX9_another 7 = .ok (.areturn, 1) := dk_176 (dk_at dksX9_another_0 7 rfl rfl)
theorem q94 : (Jvm.Cond.initialized "StrokesHeard$Tune") ∈ lw_all := lw_g (lw_at lw_m1 13 rfl) rfl
theorem q590 : (Jvm.Cond.instantiable "StrokesHeard$Tune" (2 : Nat)) ∈ lw_all := lw_g (lw_at lw_m3 29 rfl) rfl
theorem q592 : (Jvm.Cond.instanceMethod ({ cls := "StrokesHeard$Tune", name := "<init>", desc := "()V" } : Jvm.MethodName)) ∈ lw_all := lw_g (lw_at lw_m3 31 rfl) rfl
theorem q593 : (Jvm.Cond.code ({ cls := "StrokesHeard$Tune", name := "<init>", desc := "()V" } : Jvm.MethodName) prog_14_method_1_code (1 : Nat) (Option.none : Option Jvm.ClassFile.FieldType)) ∈ lw_all := lw_g (lw_at lw_m3 32 rfl) rfl
theorem q594 : (Jvm.Cond.methodLinkNest "StrokesHeard$Tune" (1 : Nat) ({ cls := "StrokesHeard$Quarters", name := "<init>", desc := "()V" } : Jvm.MethodName) "StrokesHeard") ∈ lw_tbl := lw_at lw_m3 33 rfl
theorem q595 : (Jvm.Cond.lays "StrokesHeard$Tune" "StrokesHeard$Ringer" "off" "I") ∈ lw_all := lw_g (lw_at lw_m3 34 rfl) rfl
theorem q596 : (Jvm.Cond.lays "StrokesHeard$Tune" "StrokesHeard$Ringer" "tone" "I") ∈ lw_all := lw_g (lw_at lw_m3 35 rfl) rfl
theorem q597 : (Jvm.Cond.superclass "StrokesHeard$Tune" "StrokesHeard$Quarters") ∈ lw_all := lw_g (lw_at lw_m3 36 rfl) rfl
theorem q646 : (Jvm.Cond.selects "StrokesHeard$Tune" ({ cls := "StrokesHeard$Ringer", name := "kind", desc := "()I" } : Jvm.MethodName) ({ cls := "StrokesHeard$Tune", name := "kind", desc := "()I" } : Jvm.MethodName)) ∈ lw_all := lw_g (lw_at lw_m3 85 rfl) rfl
theorem q647 : (Jvm.Cond.instanceMethod ({ cls := "StrokesHeard$Tune", name := "kind", desc := "()I" } : Jvm.MethodName)) ∈ lw_all := lw_g (lw_at lw_m3 86 rfl) rfl
theorem q648 : (Jvm.Cond.code ({ cls := "StrokesHeard$Tune", name := "kind", desc := "()I" } : Jvm.MethodName) prog_14_method_2_code (1 : Nat) (Option.some Jvm.ClassFile.FieldType.int)) ∈ lw_all := lw_g (lw_at lw_m3 87 rfl) rfl
theorem q649 : (Jvm.Cond.methodLink "StrokesHeard$Tune" (7 : Nat) ({ cls := "StrokesHeard$Quarters", name := "kind", desc := "()I" } : Jvm.MethodName)) ∈ lw_all := lw_g (lw_at lw_m3 88 rfl) rfl
theorem q690 : (Jvm.Cond.selects "StrokesHeard$Tune" ({ cls := "StrokesHeard$Ringer", name := "strokes", desc := "(II)I" } : Jvm.MethodName) ({ cls := "StrokesHeard$Ringer", name := "strokes", desc := "(II)I" } : Jvm.MethodName)) ∈ lw_all := lw_g (lw_at lw_m3 129 rfl) rfl
theorem q702 : (Jvm.Cond.selects "StrokesHeard$Tune" ({ cls := "StrokesHeard$Strikes", name := "atHour", desc := "(I)I" } : Jvm.MethodName) ({ cls := "StrokesHeard$Tune", name := "atHour", desc := "(I)I" } : Jvm.MethodName)) ∈ lw_all := lw_g (lw_at lw_m3 141 rfl) rfl
theorem q703 : (Jvm.Cond.instanceMethod ({ cls := "StrokesHeard$Tune", name := "atHour", desc := "(I)I" } : Jvm.MethodName)) ∈ lw_all := lw_g (lw_at lw_m3 142 rfl) rfl
theorem q704 : (Jvm.Cond.code ({ cls := "StrokesHeard$Tune", name := "atHour", desc := "(I)I" } : Jvm.MethodName) prog_14_method_3_code (2 : Nat) (Option.some Jvm.ClassFile.FieldType.int)) ∈ lw_all := lw_g (lw_at lw_m3 143 rfl) rfl
theorem q720 : (Jvm.Cond.selects "StrokesHeard$Tune" ({ cls := "StrokesHeard$Chimes", name := "at", desc := "(III)I" } : Jvm.MethodName) ({ cls := "StrokesHeard$Quarters", name := "at", desc := "(III)I" } : Jvm.MethodName)) ∈ lw_all := lw_g (lw_at lw_m3 159 rfl) rfl
theorem q745 : (Jvm.Cond.selects "StrokesHeard$Tune" ({ cls := "StrokesHeard$Ringer", name := "worth", desc := "()I" } : Jvm.MethodName) ({ cls := "StrokesHeard$Tune", name := "worth", desc := "()I" } : Jvm.MethodName)) ∈ lw_all := lw_g (lw_at lw_m3 184 rfl) rfl
theorem q746 : (Jvm.Cond.instanceMethod ({ cls := "StrokesHeard$Tune", name := "worth", desc := "()I" } : Jvm.MethodName)) ∈ lw_all := lw_g (lw_at lw_m3 185 rfl) rfl
theorem q747 : (Jvm.Cond.code ({ cls := "StrokesHeard$Tune", name := "worth", desc := "()I" } : Jvm.MethodName) prog_14_method_4_code (1 : Nat) (Option.some Jvm.ClassFile.FieldType.int)) ∈ lw_all := lw_g (lw_at lw_m3 186 rfl) rfl
theorem q748 : (Jvm.Cond.methodLink "StrokesHeard$Tune" (15 : Nat) ({ cls := "StrokesHeard$Quarters", name := "worth", desc := "()I" } : Jvm.MethodName)) ∈ lw_all := lw_g (lw_at lw_m3 187 rfl) rfl
theorem q797 : (Jvm.Cond.selects "StrokesHeard$Tune" ({ cls := "StrokesHeard$Ringer", name := "takes", desc := "(LStrokesHeard$Ringer;)V" } : Jvm.MethodName) ({ cls := "StrokesHeard$Ringer", name := "takes", desc := "(LStrokesHeard$Ringer;)V" } : Jvm.MethodName)) ∈ lw_all := lw_g (lw_at lw_m3 236 rfl) rfl
theorem q951 : (Jvm.Cond.selects "StrokesHeard$Tune" ({ cls := "StrokesHeard$Ringer", name := "another", desc := "()LStrokesHeard$Ringer;" } : Jvm.MethodName) ({ cls := "StrokesHeard$Tune", name := "another", desc := "()LStrokesHeard$Ringer;" } : Jvm.MethodName)) ∈ lw_all := lw_g (lw_at lw_m4 150 rfl) rfl
theorem q952 : (Jvm.Cond.instanceMethod ({ cls := "StrokesHeard$Tune", name := "another", desc := "()LStrokesHeard$Ringer;" } : Jvm.MethodName)) ∈ lw_all := lw_g (lw_at lw_m4 151 rfl) rfl
theorem q953 : (Jvm.Cond.code ({ cls := "StrokesHeard$Tune", name := "another", desc := "()LStrokesHeard$Ringer;" } : Jvm.MethodName) prog_14_method_5_code (1 : Nat) (Option.some (Jvm.ClassFile.FieldType.object "StrokesHeard$Ringer"))) ∈ lw_all := lw_g (lw_at lw_m4 152 rfl) rfl
theorem q954 : (Jvm.Cond.classLink "StrokesHeard$Tune" (18 : Nat) "StrokesHeard$Tune") ∈ lw_all := lw_g (lw_at lw_m4 153 rfl) rfl
theorem q955 : (Jvm.Cond.methodLink "StrokesHeard$Tune" (20 : Nat) ({ cls := "StrokesHeard$Tune", name := "<init>", desc := "()V" } : Jvm.MethodName)) ∈ lw_all := lw_g (lw_at lw_m4 154 rfl) rfl
theorem q1098 : (Jvm.Cond.selects "StrokesHeard$Tune" ({ cls := "StrokesHeard$Ringer", name := "copy", desc := "()LStrokesHeard$Ringer;" } : Jvm.MethodName) ({ cls := "StrokesHeard$Ringer", name := "copy", desc := "()LStrokesHeard$Ringer;" } : Jvm.MethodName)) ∈ lw_all := lw_g (lw_at lw_m5 57 rfl) rfl
theorem q1142 : (Jvm.Cond.castable "StrokesHeard$Tune" "StrokesHeard$Chimes") ∈ lw_tbl := lw_at lw_m5 101 rfl
theorem q1143 : (Jvm.Cond.selects "StrokesHeard$Tune" ({ cls := "StrokesHeard$Chimes", name := "worth", desc := "()I" } : Jvm.MethodName) ({ cls := "StrokesHeard$Tune", name := "worth", desc := "()I" } : Jvm.MethodName)) ∈ lw_all := lw_g (lw_at lw_m5 102 rfl) rfl
theorem q1144 : (Jvm.Cond.unhidden "StrokesHeard$Tune" "worth" "()I") ∈ lw_tbl := lw_at lw_m5 103 rfl
theorem q1145 : (Jvm.Cond.publicMethod ({ cls := "StrokesHeard$Tune", name := "worth", desc := "()I" } : Jvm.MethodName)) ∈ lw_tbl := lw_at lw_m5 104 rfl
theorem q1696 : (Jvm.Cond.castable "StrokesHeard$Tune" "StrokesHeard$Quarters") ∈ lw_tbl := lw_at lw_m7 175 rfl
theorem q1701 : (Jvm.Cond.castable "StrokesHeard$Tune" "StrokesHeard$Ringer") ∈ lw_tbl := lw_at lw_m7 180 rfl
theorem in_X9 : ∀ w ∈ wsX90, w ∈ lw_all := lw_in wsX90 [595, 596] (by decide +kernel) (by decide +kernel)

/-! StrokesHeard$Sign -/
set_option maxRecDepth 100000
def RX10 : String := "StrokesHeard$Sign"
def TX10 : u_T := fun k => match k with
  | 0 => ("StrokesHeard$Ringer", "off", "I", false)
  | _ => ("StrokesHeard$Ringer", "tone", "I", false)
def tyX10 : Nat → FieldType := fun k => match k with
  | 0 => .int
  | _ => .int
abbrev wsX100 : List Cond := u_ws RX10 TX10 2
theorem nmX10 : ∀ a, a < 2 → ∀ b, b < 2 → a ≠ b → (TX10 a).2.1 ≠ (TX10 b).2.1 := by decide +kernel
theorem tyX10_ok : ∀ k, k < 2 → parseFieldDescriptor (TX10 k).2.2.1 = some (tyX10 k) := by decide +kernel
abbrev cX10_init : ByteArray := prog_9_method_1_code
def yX10_init : MethodName := ⟨RX10, "<init>", "()V"⟩
theorem dX10_init_0 : decode cX10_init 0 = .ok (.aload_n 0, 1) := by decide +kernel
theorem dX10_init_1 : decode cX10_init 1 = .ok (.invokespecial 1, 3) := by decide +kernel
theorem dX10_init_4 : decode cX10_init 4 = .ok (.return_, 1) := by decide +kernel
abbrev cX10_kind : ByteArray := prog_9_method_2_code
def yX10_kind : MethodName := ⟨RX10, "kind", "()I"⟩
def dkwX10_kind_0 : List UInt8 := [42, 183, 0, 7, 5, 96, 172]
abbrev dktX10_kind_0 : List UInt8 := dkwX10_kind_0 ++ []
theorem dksX10_kind_0 : cX10_kind.data.toList.drop 0 = dktX10_kind_0 := by decide +kernel
theorem dX10_kind_0 : decode cX10_kind 0 = .ok (.aload_n 0, 1) := dk_42 (dk_at dksX10_kind_0 0 rfl rfl)
theorem dX10_kind_1 : decode cX10_kind 1 = .ok (.invokespecial 7, 3) := dk_183 0 7 (dk_at dksX10_kind_0 1 rfl rfl)
theorem dX10_kind_4 : decode cX10_kind 4 = .ok (.iconst 2, 1) := dk_5 (dk_at dksX10_kind_0 4 rfl rfl)
theorem dX10_kind_5 : decode cX10_kind 5 = .ok (.iadd, 1) := dk_96 (dk_at dksX10_kind_0 5 rfl rfl)
theorem dX10_kind_6 : decode cX10_kind 6 = .ok (.ireturn, 1) := dk_172 (dk_at dksX10_kind_0 6 rfl rfl)
abbrev cX10_atHour : ByteArray := prog_9_method_3_code
def yX10_atHour : MethodName := ⟨RX10, "atHour", "(I)I"⟩
def dkwX10_atHour_0 : List UInt8 := [42, 27, 183, 0, 11, 8, 108, 42, 27, 183, 0, 11, 8, 112, 96, 172]
abbrev dktX10_atHour_0 : List UInt8 := dkwX10_atHour_0 ++ []
theorem dksX10_atHour_0 : cX10_atHour.data.toList.drop 0 = dktX10_atHour_0 := by decide +kernel
theorem dX10_atHour_0 : decode cX10_atHour 0 = .ok (.aload_n 0, 1) := dk_42 (dk_at dksX10_atHour_0 0 rfl rfl)
theorem dX10_atHour_1 : decode cX10_atHour 1 = .ok (.iload_n 1, 1) := dk_27 (dk_at dksX10_atHour_0 1 rfl rfl)
theorem dX10_atHour_2 : decode cX10_atHour 2 = .ok (.invokespecial 11, 3) := dk_183 0 11 (dk_at dksX10_atHour_0 2 rfl rfl)
theorem dX10_atHour_5 : decode cX10_atHour 5 = .ok (.iconst 5, 1) := dk_8 (dk_at dksX10_atHour_0 5 rfl rfl)
theorem dX10_atHour_6 : decode cX10_atHour 6 = .ok (.idiv, 1) := dk_108 (dk_at dksX10_atHour_0 6 rfl rfl)
theorem dX10_atHour_7 : decode cX10_atHour 7 = .ok (.aload_n 0, 1) := dk_42 (dk_at dksX10_atHour_0 7 rfl rfl)
theorem dX10_atHour_8 : decode cX10_atHour 8 = .ok (.iload_n 1, 1) := dk_27 (dk_at dksX10_atHour_0 8 rfl rfl)
theorem dX10_atHour_9 : decode cX10_atHour 9 = .ok (.invokespecial 11, 3) := dk_183 0 11 (dk_at dksX10_atHour_0 9 rfl rfl)
theorem dX10_atHour_12 : decode cX10_atHour 12 = .ok (.iconst 5, 1) := dk_8 (dk_at dksX10_atHour_0 12 rfl rfl)
theorem dX10_atHour_13 : decode cX10_atHour 13 = .ok (.irem, 1) := dk_112 (dk_at dksX10_atHour_0 13 rfl rfl)
theorem dX10_atHour_14 : decode cX10_atHour 14 = .ok (.iadd, 1) := dk_96 (dk_at dksX10_atHour_0 14 rfl rfl)
theorem dX10_atHour_15 : decode cX10_atHour 15 = .ok (.ireturn, 1) := dk_172 (dk_at dksX10_atHour_0 15 rfl rfl)
abbrev cX10_worth : ByteArray := prog_9_method_4_code
def yX10_worth : MethodName := ⟨RX10, "worth", "()I"⟩
def dkwX10_worth_0 : List UInt8 := [42, 183, 0, 15, 8, 100, 172]
abbrev dktX10_worth_0 : List UInt8 := dkwX10_worth_0 ++ []
theorem dksX10_worth_0 : cX10_worth.data.toList.drop 0 = dktX10_worth_0 := by decide +kernel
theorem dX10_worth_0 : decode cX10_worth 0 = .ok (.aload_n 0, 1) := dk_42 (dk_at dksX10_worth_0 0 rfl rfl)
theorem dX10_worth_1 : decode cX10_worth 1 = .ok (.invokespecial 15, 3) := dk_183 0 15 (dk_at dksX10_worth_0 1 rfl rfl)
theorem dX10_worth_4 : decode cX10_worth 4 = .ok (.iconst 5, 1) := dk_8 (dk_at dksX10_worth_0 4 rfl rfl)
theorem dX10_worth_5 : decode cX10_worth 5 = .ok (.isub, 1) := dk_100 (dk_at dksX10_worth_0 5 rfl rfl)
theorem dX10_worth_6 : decode cX10_worth 6 = .ok (.ireturn, 1) := dk_172 (dk_at dksX10_worth_0 6 rfl rfl)
abbrev cX10_another : ByteArray := prog_9_method_5_code
def yX10_another : MethodName := ⟨RX10, "another", "()LStrokesHeard$Ringer;"⟩
def dkwX10_another_0 : List UInt8 := [187, 0, 18, 89, 183, 0, 20, 176]
abbrev dktX10_another_0 : List UInt8 := dkwX10_another_0 ++ []
theorem dksX10_another_0 : cX10_another.data.toList.drop 0 = dktX10_another_0 := by decide +kernel
theorem dX10_another_0 : decode cX10_another 0 = .ok (.new 18, 3) := dk_187 0 18 (dk_at dksX10_another_0 0 rfl rfl)
theorem dX10_another_3 : decode cX10_another 3 = .ok (.dup, 1) := dk_89 (dk_at dksX10_another_0 3 rfl rfl)
theorem dX10_another_4 : decode cX10_another 4 = .ok (.invokespecial 20, 3) := dk_183 0 20 (dk_at dksX10_another_0 4 rfl rfl)
theorem dX10_another_7 : decode cX10_another 7 = .ok (.areturn, 1) := dk_176 (dk_at dksX10_another_0 7 rfl rfl)
theorem q95 : (Jvm.Cond.initialized "StrokesHeard$Sign") ∈ lw_all := lw_g (lw_at lw_m1 14 rfl) rfl
theorem q599 : (Jvm.Cond.instantiable "StrokesHeard$Sign" (2 : Nat)) ∈ lw_all := lw_g (lw_at lw_m3 38 rfl) rfl
theorem q601 : (Jvm.Cond.instanceMethod ({ cls := "StrokesHeard$Sign", name := "<init>", desc := "()V" } : Jvm.MethodName)) ∈ lw_all := lw_g (lw_at lw_m3 40 rfl) rfl
theorem q602 : (Jvm.Cond.code ({ cls := "StrokesHeard$Sign", name := "<init>", desc := "()V" } : Jvm.MethodName) prog_9_method_1_code (1 : Nat) (Option.none : Option Jvm.ClassFile.FieldType)) ∈ lw_all := lw_g (lw_at lw_m3 41 rfl) rfl
theorem q603 : (Jvm.Cond.methodLinkNest "StrokesHeard$Sign" (1 : Nat) ({ cls := "StrokesHeard$Twice", name := "<init>", desc := "()V" } : Jvm.MethodName) "StrokesHeard") ∈ lw_tbl := lw_at lw_m3 42 rfl
theorem q604 : (Jvm.Cond.lays "StrokesHeard$Sign" "StrokesHeard$Ringer" "off" "I") ∈ lw_all := lw_g (lw_at lw_m3 43 rfl) rfl
theorem q605 : (Jvm.Cond.lays "StrokesHeard$Sign" "StrokesHeard$Ringer" "tone" "I") ∈ lw_all := lw_g (lw_at lw_m3 44 rfl) rfl
theorem q606 : (Jvm.Cond.superclass "StrokesHeard$Sign" "StrokesHeard$Twice") ∈ lw_all := lw_g (lw_at lw_m3 45 rfl) rfl
theorem q640 : (Jvm.Cond.selects "StrokesHeard$Sign" ({ cls := "StrokesHeard$Ringer", name := "kind", desc := "()I" } : Jvm.MethodName) ({ cls := "StrokesHeard$Sign", name := "kind", desc := "()I" } : Jvm.MethodName)) ∈ lw_all := lw_g (lw_at lw_m3 79 rfl) rfl
theorem q641 : (Jvm.Cond.instanceMethod ({ cls := "StrokesHeard$Sign", name := "kind", desc := "()I" } : Jvm.MethodName)) ∈ lw_all := lw_g (lw_at lw_m3 80 rfl) rfl
theorem q642 : (Jvm.Cond.code ({ cls := "StrokesHeard$Sign", name := "kind", desc := "()I" } : Jvm.MethodName) prog_9_method_2_code (1 : Nat) (Option.some Jvm.ClassFile.FieldType.int)) ∈ lw_all := lw_g (lw_at lw_m3 81 rfl) rfl
theorem q643 : (Jvm.Cond.methodLink "StrokesHeard$Sign" (7 : Nat) ({ cls := "StrokesHeard$Twice", name := "kind", desc := "()I" } : Jvm.MethodName)) ∈ lw_all := lw_g (lw_at lw_m3 82 rfl) rfl
theorem q689 : (Jvm.Cond.selects "StrokesHeard$Sign" ({ cls := "StrokesHeard$Ringer", name := "strokes", desc := "(II)I" } : Jvm.MethodName) ({ cls := "StrokesHeard$Ringer", name := "strokes", desc := "(II)I" } : Jvm.MethodName)) ∈ lw_all := lw_g (lw_at lw_m3 128 rfl) rfl
theorem q697 : (Jvm.Cond.selects "StrokesHeard$Sign" ({ cls := "StrokesHeard$Strikes", name := "atHour", desc := "(I)I" } : Jvm.MethodName) ({ cls := "StrokesHeard$Sign", name := "atHour", desc := "(I)I" } : Jvm.MethodName)) ∈ lw_all := lw_g (lw_at lw_m3 136 rfl) rfl
theorem q698 : (Jvm.Cond.instanceMethod ({ cls := "StrokesHeard$Sign", name := "atHour", desc := "(I)I" } : Jvm.MethodName)) ∈ lw_all := lw_g (lw_at lw_m3 137 rfl) rfl
theorem q699 : (Jvm.Cond.code ({ cls := "StrokesHeard$Sign", name := "atHour", desc := "(I)I" } : Jvm.MethodName) prog_9_method_3_code (2 : Nat) (Option.some Jvm.ClassFile.FieldType.int)) ∈ lw_all := lw_g (lw_at lw_m3 138 rfl) rfl
theorem q717 : (Jvm.Cond.selects "StrokesHeard$Sign" ({ cls := "StrokesHeard$Chimes", name := "at", desc := "(III)I" } : Jvm.MethodName) ({ cls := "StrokesHeard$Twice", name := "at", desc := "(III)I" } : Jvm.MethodName)) ∈ lw_all := lw_g (lw_at lw_m3 156 rfl) rfl
theorem q738 : (Jvm.Cond.selects "StrokesHeard$Sign" ({ cls := "StrokesHeard$Ringer", name := "worth", desc := "()I" } : Jvm.MethodName) ({ cls := "StrokesHeard$Sign", name := "worth", desc := "()I" } : Jvm.MethodName)) ∈ lw_all := lw_g (lw_at lw_m3 177 rfl) rfl
theorem q739 : (Jvm.Cond.instanceMethod ({ cls := "StrokesHeard$Sign", name := "worth", desc := "()I" } : Jvm.MethodName)) ∈ lw_all := lw_g (lw_at lw_m3 178 rfl) rfl
theorem q740 : (Jvm.Cond.code ({ cls := "StrokesHeard$Sign", name := "worth", desc := "()I" } : Jvm.MethodName) prog_9_method_4_code (1 : Nat) (Option.some Jvm.ClassFile.FieldType.int)) ∈ lw_all := lw_g (lw_at lw_m3 179 rfl) rfl
theorem q741 : (Jvm.Cond.methodLink "StrokesHeard$Sign" (15 : Nat) ({ cls := "StrokesHeard$Twice", name := "worth", desc := "()I" } : Jvm.MethodName)) ∈ lw_all := lw_g (lw_at lw_m3 180 rfl) rfl
theorem q796 : (Jvm.Cond.selects "StrokesHeard$Sign" ({ cls := "StrokesHeard$Ringer", name := "takes", desc := "(LStrokesHeard$Ringer;)V" } : Jvm.MethodName) ({ cls := "StrokesHeard$Ringer", name := "takes", desc := "(LStrokesHeard$Ringer;)V" } : Jvm.MethodName)) ∈ lw_all := lw_g (lw_at lw_m3 235 rfl) rfl
theorem q946 : (Jvm.Cond.selects "StrokesHeard$Sign" ({ cls := "StrokesHeard$Ringer", name := "another", desc := "()LStrokesHeard$Ringer;" } : Jvm.MethodName) ({ cls := "StrokesHeard$Sign", name := "another", desc := "()LStrokesHeard$Ringer;" } : Jvm.MethodName)) ∈ lw_all := lw_g (lw_at lw_m4 145 rfl) rfl
theorem q947 : (Jvm.Cond.instanceMethod ({ cls := "StrokesHeard$Sign", name := "another", desc := "()LStrokesHeard$Ringer;" } : Jvm.MethodName)) ∈ lw_all := lw_g (lw_at lw_m4 146 rfl) rfl
theorem q948 : (Jvm.Cond.code ({ cls := "StrokesHeard$Sign", name := "another", desc := "()LStrokesHeard$Ringer;" } : Jvm.MethodName) prog_9_method_5_code (1 : Nat) (Option.some (Jvm.ClassFile.FieldType.object "StrokesHeard$Ringer"))) ∈ lw_all := lw_g (lw_at lw_m4 147 rfl) rfl
theorem q949 : (Jvm.Cond.classLink "StrokesHeard$Sign" (18 : Nat) "StrokesHeard$Sign") ∈ lw_all := lw_g (lw_at lw_m4 148 rfl) rfl
theorem q950 : (Jvm.Cond.methodLink "StrokesHeard$Sign" (20 : Nat) ({ cls := "StrokesHeard$Sign", name := "<init>", desc := "()V" } : Jvm.MethodName)) ∈ lw_all := lw_g (lw_at lw_m4 149 rfl) rfl
theorem q1097 : (Jvm.Cond.selects "StrokesHeard$Sign" ({ cls := "StrokesHeard$Ringer", name := "copy", desc := "()LStrokesHeard$Ringer;" } : Jvm.MethodName) ({ cls := "StrokesHeard$Ringer", name := "copy", desc := "()LStrokesHeard$Ringer;" } : Jvm.MethodName)) ∈ lw_all := lw_g (lw_at lw_m5 56 rfl) rfl
theorem q1138 : (Jvm.Cond.castable "StrokesHeard$Sign" "StrokesHeard$Chimes") ∈ lw_tbl := lw_at lw_m5 97 rfl
theorem q1139 : (Jvm.Cond.selects "StrokesHeard$Sign" ({ cls := "StrokesHeard$Chimes", name := "worth", desc := "()I" } : Jvm.MethodName) ({ cls := "StrokesHeard$Sign", name := "worth", desc := "()I" } : Jvm.MethodName)) ∈ lw_all := lw_g (lw_at lw_m5 98 rfl) rfl
theorem q1140 : (Jvm.Cond.unhidden "StrokesHeard$Sign" "worth" "()I") ∈ lw_tbl := lw_at lw_m5 99 rfl
theorem q1141 : (Jvm.Cond.publicMethod ({ cls := "StrokesHeard$Sign", name := "worth", desc := "()I" } : Jvm.MethodName)) ∈ lw_tbl := lw_at lw_m5 100 rfl
theorem q1697 : (Jvm.Cond.castable "StrokesHeard$Sign" "StrokesHeard$Twice") ∈ lw_tbl := lw_at lw_m7 176 rfl
theorem q1700 : (Jvm.Cond.castable "StrokesHeard$Sign" "StrokesHeard$Ringer") ∈ lw_tbl := lw_at lw_m7 179 rfl
theorem in_X10 : ∀ w ∈ wsX100, w ∈ lw_all := lw_in wsX100 [604, 605] (by decide +kernel) (by decide +kernel)

/-! StrokesHeard$Cuckoo -/
set_option maxRecDepth 100000
def RX11 : String := "StrokesHeard$Cuckoo"
def TX11 : u_T := fun k => match k with
  | 0 => ("StrokesHeard$Ringer", "off", "I", false)
  | _ => ("StrokesHeard$Ringer", "tone", "I", false)
def tyX11 : Nat → FieldType := fun k => match k with
  | 0 => .int
  | _ => .int
abbrev wsX110 : List Cond := u_ws RX11 TX11 2
theorem nmX11 : ∀ a, a < 2 → ∀ b, b < 2 → a ≠ b → (TX11 a).2.1 ≠ (TX11 b).2.1 := by decide +kernel
theorem tyX11_ok : ∀ k, k < 2 → parseFieldDescriptor (TX11 k).2.2.1 = some (tyX11 k) := by decide +kernel
abbrev cX11_init : ByteArray := prog_3_method_1_code
def yX11_init : MethodName := ⟨RX11, "<init>", "()V"⟩
theorem dX11_init_0 : decode cX11_init 0 = .ok (.aload_n 0, 1) := by decide +kernel
theorem dX11_init_1 : decode cX11_init 1 = .ok (.invokespecial 3, 3) := by decide +kernel
theorem dX11_init_4 : decode cX11_init 4 = .ok (.return_, 1) := by decide +kernel
abbrev cX11_kind : ByteArray := prog_3_method_2_code
def yX11_kind : MethodName := ⟨RX11, "kind", "()I"⟩
theorem dX11_kind_0 : decode cX11_kind 0 = .ok (.iconst 5, 1) := by decide +kernel
theorem dX11_kind_1 : decode cX11_kind 1 = .ok (.ireturn, 1) := by decide +kernel
abbrev cX11_at : ByteArray := prog_3_method_3_code
def yX11_at : MethodName := ⟨RX11, "at", "(III)I"⟩
def dkwX11_at_0 : List UInt8 := [27, 16, 30, 160, 0, 7, 4, 167, 0, 10, 42, 27, 28, 29, 183, 0, 9, 172]
abbrev dktX11_at_0 : List UInt8 := dkwX11_at_0 ++ []
theorem dksX11_at_0 : cX11_at.data.toList.drop 0 = dktX11_at_0 := by decide +kernel
theorem dX11_at_0 : decode cX11_at 0 = .ok (.iload_n 1, 1) := dk_27 (dk_at dksX11_at_0 0 rfl rfl)
theorem dX11_at_1 : decode cX11_at 1 = .ok (.bipush 30, 2) := dk_16 30 (dk_at dksX11_at_0 1 rfl rfl)
theorem dX11_at_3 : decode cX11_at 3 = .ok (.if_icmp .ne 7, 3) := dk_160 0 7 (dk_at dksX11_at_0 3 rfl rfl)
theorem dX11_at_6 : decode cX11_at 6 = .ok (.iconst 1, 1) := dk_4 (dk_at dksX11_at_0 6 rfl rfl)
theorem dX11_at_7 : decode cX11_at 7 = .ok (.goto 10, 3) := dk_167 0 10 (dk_at dksX11_at_0 7 rfl rfl)
theorem dX11_at_10 : decode cX11_at 10 = .ok (.aload_n 0, 1) := dk_42 (dk_at dksX11_at_0 10 rfl rfl)
theorem dX11_at_11 : decode cX11_at 11 = .ok (.iload_n 1, 1) := dk_27 (dk_at dksX11_at_0 11 rfl rfl)
theorem dX11_at_12 : decode cX11_at 12 = .ok (.iload_n 2, 1) := dk_28 (dk_at dksX11_at_0 12 rfl rfl)
theorem dX11_at_13 : decode cX11_at 13 = .ok (.iload_n 3, 1) := dk_29 (dk_at dksX11_at_0 13 rfl rfl)
theorem dX11_at_14 : decode cX11_at 14 = .ok (.invokespecial 9, 3) := dk_183 0 9 (dk_at dksX11_at_0 14 rfl rfl)
theorem dX11_at_17 : decode cX11_at 17 = .ok (.ireturn, 1) := dk_172 (dk_at dksX11_at_0 17 rfl rfl)
abbrev cX11_worth : ByteArray := prog_3_method_4_code
def yX11_worth : MethodName := ⟨RX11, "worth", "()I"⟩
theorem dX11_worth_0 : decode cX11_worth 0 = .ok (.iconst 2, 1) := by decide +kernel
theorem dX11_worth_1 : decode cX11_worth 1 = .ok (.ireturn, 1) := by decide +kernel
abbrev cX11_another : ByteArray := prog_3_method_5_code
def yX11_another : MethodName := ⟨RX11, "another", "()LStrokesHeard$Ringer;"⟩
def dkwX11_another_0 : List UInt8 := [187, 0, 13, 89, 183, 0, 15, 176]
abbrev dktX11_another_0 : List UInt8 := dkwX11_another_0 ++ []
theorem dksX11_another_0 : cX11_another.data.toList.drop 0 = dktX11_another_0 := by decide +kernel
theorem dX11_another_0 : decode cX11_another 0 = .ok (.new 13, 3) := dk_187 0 13 (dk_at dksX11_another_0 0 rfl rfl)
theorem dX11_another_3 : decode cX11_another 3 = .ok (.dup, 1) := dk_89 (dk_at dksX11_another_0 3 rfl rfl)
theorem dX11_another_4 : decode cX11_another 4 = .ok (.invokespecial 15, 3) := dk_183 0 15 (dk_at dksX11_another_0 4 rfl rfl)
theorem dX11_another_7 : decode cX11_another 7 = .ok (.areturn, 1) := dk_176 (dk_at dksX11_another_0 7 rfl rfl)
theorem q96 : (Jvm.Cond.initialized "StrokesHeard$Cuckoo") ∈ lw_all := lw_g (lw_at lw_m1 15 rfl) rfl
theorem q608 : (Jvm.Cond.instantiable "StrokesHeard$Cuckoo" (2 : Nat)) ∈ lw_all := lw_g (lw_at lw_m3 47 rfl) rfl
theorem q610 : (Jvm.Cond.instanceMethod ({ cls := "StrokesHeard$Cuckoo", name := "<init>", desc := "()V" } : Jvm.MethodName)) ∈ lw_all := lw_g (lw_at lw_m3 49 rfl) rfl
theorem q611 : (Jvm.Cond.code ({ cls := "StrokesHeard$Cuckoo", name := "<init>", desc := "()V" } : Jvm.MethodName) prog_3_method_1_code (1 : Nat) (Option.none : Option Jvm.ClassFile.FieldType)) ∈ lw_all := lw_g (lw_at lw_m3 50 rfl) rfl
theorem q612 : (Jvm.Cond.methodLinkNest "StrokesHeard$Cuckoo" (3 : Nat) ({ cls := "StrokesHeard$Ringer", name := "<init>", desc := "()V" } : Jvm.MethodName) "StrokesHeard") ∈ lw_tbl := lw_at lw_m3 51 rfl
theorem q613 : (Jvm.Cond.lays "StrokesHeard$Cuckoo" "StrokesHeard$Ringer" "off" "I") ∈ lw_all := lw_g (lw_at lw_m3 52 rfl) rfl
theorem q614 : (Jvm.Cond.lays "StrokesHeard$Cuckoo" "StrokesHeard$Ringer" "tone" "I") ∈ lw_all := lw_g (lw_at lw_m3 53 rfl) rfl
theorem q615 : (Jvm.Cond.superclass "StrokesHeard$Cuckoo" "StrokesHeard$Ringer") ∈ lw_all := lw_g (lw_at lw_m3 54 rfl) rfl
theorem q634 : (Jvm.Cond.selects "StrokesHeard$Cuckoo" ({ cls := "StrokesHeard$Ringer", name := "kind", desc := "()I" } : Jvm.MethodName) ({ cls := "StrokesHeard$Cuckoo", name := "kind", desc := "()I" } : Jvm.MethodName)) ∈ lw_all := lw_g (lw_at lw_m3 73 rfl) rfl
theorem q635 : (Jvm.Cond.instanceMethod ({ cls := "StrokesHeard$Cuckoo", name := "kind", desc := "()I" } : Jvm.MethodName)) ∈ lw_all := lw_g (lw_at lw_m3 74 rfl) rfl
theorem q636 : (Jvm.Cond.code ({ cls := "StrokesHeard$Cuckoo", name := "kind", desc := "()I" } : Jvm.MethodName) prog_3_method_2_code (1 : Nat) (Option.some Jvm.ClassFile.FieldType.int)) ∈ lw_all := lw_g (lw_at lw_m3 75 rfl) rfl
theorem q687 : (Jvm.Cond.selects "StrokesHeard$Cuckoo" ({ cls := "StrokesHeard$Ringer", name := "strokes", desc := "(II)I" } : Jvm.MethodName) ({ cls := "StrokesHeard$Ringer", name := "strokes", desc := "(II)I" } : Jvm.MethodName)) ∈ lw_all := lw_g (lw_at lw_m3 126 rfl) rfl
theorem q694 : (Jvm.Cond.unhidden "StrokesHeard$Cuckoo" "atHour" "(I)I") ∈ lw_tbl := lw_at lw_m3 133 rfl
theorem q708 : (Jvm.Cond.selects "StrokesHeard$Cuckoo" ({ cls := "StrokesHeard$Chimes", name := "at", desc := "(III)I" } : Jvm.MethodName) ({ cls := "StrokesHeard$Cuckoo", name := "at", desc := "(III)I" } : Jvm.MethodName)) ∈ lw_all := lw_g (lw_at lw_m3 147 rfl) rfl
theorem q709 : (Jvm.Cond.instanceMethod ({ cls := "StrokesHeard$Cuckoo", name := "at", desc := "(III)I" } : Jvm.MethodName)) ∈ lw_all := lw_g (lw_at lw_m3 148 rfl) rfl
theorem q710 : (Jvm.Cond.code ({ cls := "StrokesHeard$Cuckoo", name := "at", desc := "(III)I" } : Jvm.MethodName) prog_3_method_3_code (4 : Nat) (Option.some Jvm.ClassFile.FieldType.int)) ∈ lw_all := lw_g (lw_at lw_m3 149 rfl) rfl
theorem q731 : (Jvm.Cond.selects "StrokesHeard$Cuckoo" ({ cls := "StrokesHeard$Ringer", name := "worth", desc := "()I" } : Jvm.MethodName) ({ cls := "StrokesHeard$Cuckoo", name := "worth", desc := "()I" } : Jvm.MethodName)) ∈ lw_all := lw_g (lw_at lw_m3 170 rfl) rfl
theorem q732 : (Jvm.Cond.instanceMethod ({ cls := "StrokesHeard$Cuckoo", name := "worth", desc := "()I" } : Jvm.MethodName)) ∈ lw_all := lw_g (lw_at lw_m3 171 rfl) rfl
theorem q733 : (Jvm.Cond.code ({ cls := "StrokesHeard$Cuckoo", name := "worth", desc := "()I" } : Jvm.MethodName) prog_3_method_4_code (1 : Nat) (Option.some Jvm.ClassFile.FieldType.int)) ∈ lw_all := lw_g (lw_at lw_m3 172 rfl) rfl
theorem q794 : (Jvm.Cond.selects "StrokesHeard$Cuckoo" ({ cls := "StrokesHeard$Ringer", name := "takes", desc := "(LStrokesHeard$Ringer;)V" } : Jvm.MethodName) ({ cls := "StrokesHeard$Ringer", name := "takes", desc := "(LStrokesHeard$Ringer;)V" } : Jvm.MethodName)) ∈ lw_all := lw_g (lw_at lw_m3 233 rfl) rfl
theorem q936 : (Jvm.Cond.selects "StrokesHeard$Cuckoo" ({ cls := "StrokesHeard$Ringer", name := "another", desc := "()LStrokesHeard$Ringer;" } : Jvm.MethodName) ({ cls := "StrokesHeard$Cuckoo", name := "another", desc := "()LStrokesHeard$Ringer;" } : Jvm.MethodName)) ∈ lw_all := lw_g (lw_at lw_m4 135 rfl) rfl
theorem q937 : (Jvm.Cond.instanceMethod ({ cls := "StrokesHeard$Cuckoo", name := "another", desc := "()LStrokesHeard$Ringer;" } : Jvm.MethodName)) ∈ lw_all := lw_g (lw_at lw_m4 136 rfl) rfl
theorem q938 : (Jvm.Cond.code ({ cls := "StrokesHeard$Cuckoo", name := "another", desc := "()LStrokesHeard$Ringer;" } : Jvm.MethodName) prog_3_method_5_code (1 : Nat) (Option.some (Jvm.ClassFile.FieldType.object "StrokesHeard$Ringer"))) ∈ lw_all := lw_g (lw_at lw_m4 137 rfl) rfl
theorem q939 : (Jvm.Cond.classLink "StrokesHeard$Cuckoo" (13 : Nat) "StrokesHeard$Cuckoo") ∈ lw_all := lw_g (lw_at lw_m4 138 rfl) rfl
theorem q940 : (Jvm.Cond.methodLink "StrokesHeard$Cuckoo" (15 : Nat) ({ cls := "StrokesHeard$Cuckoo", name := "<init>", desc := "()V" } : Jvm.MethodName)) ∈ lw_all := lw_g (lw_at lw_m4 139 rfl) rfl
theorem q1095 : (Jvm.Cond.selects "StrokesHeard$Cuckoo" ({ cls := "StrokesHeard$Ringer", name := "copy", desc := "()LStrokesHeard$Ringer;" } : Jvm.MethodName) ({ cls := "StrokesHeard$Ringer", name := "copy", desc := "()LStrokesHeard$Ringer;" } : Jvm.MethodName)) ∈ lw_all := lw_g (lw_at lw_m5 54 rfl) rfl
theorem q1126 : (Jvm.Cond.castable "StrokesHeard$Cuckoo" "StrokesHeard$Chimes") ∈ lw_tbl := lw_at lw_m5 85 rfl
theorem q1127 : (Jvm.Cond.selects "StrokesHeard$Cuckoo" ({ cls := "StrokesHeard$Chimes", name := "worth", desc := "()I" } : Jvm.MethodName) ({ cls := "StrokesHeard$Cuckoo", name := "worth", desc := "()I" } : Jvm.MethodName)) ∈ lw_all := lw_g (lw_at lw_m5 86 rfl) rfl
theorem q1128 : (Jvm.Cond.unhidden "StrokesHeard$Cuckoo" "worth" "()I") ∈ lw_tbl := lw_at lw_m5 87 rfl
theorem q1129 : (Jvm.Cond.publicMethod ({ cls := "StrokesHeard$Cuckoo", name := "worth", desc := "()I" } : Jvm.MethodName)) ∈ lw_tbl := lw_at lw_m5 88 rfl
theorem q1698 : (Jvm.Cond.castable "StrokesHeard$Cuckoo" "StrokesHeard$Ringer") ∈ lw_tbl := lw_at lw_m7 177 rfl
theorem in_X11 : ∀ w ∈ wsX110, w ∈ lw_all := lw_in wsX110 [613, 614] (by decide +kernel) (by decide +kernel)

/-! StrokesHeard$Words -/
set_option maxRecDepth 100000
def RX12 : String := "StrokesHeard$Words"
def TX12 : u_T := fun k => match k with
  | 0 => ("StrokesHeard$Words", "word", "[I", true)
  | 1 => ("StrokesHeard$Words", "value", "[I", true)
  | _ => ("StrokesHeard$Words", "many", "I", false)
def tyX12 : Nat → FieldType := fun k => match k with
  | 0 => .array .int
  | 1 => .array .int
  | _ => .int
abbrev wsX120 : List Cond := u_ws RX12 TX12 3
theorem nmX12 : ∀ a, a < 3 → ∀ b, b < 3 → a ≠ b → (TX12 a).2.1 ≠ (TX12 b).2.1 := by decide +kernel
theorem tyX12_ok : ∀ k, k < 3 → parseFieldDescriptor (TX12 k).2.2.1 = some (tyX12 k) := by decide +kernel
abbrev cX12_init : ByteArray := prog_16_method_1_code
def yX12_init : MethodName := ⟨RX12, "<init>", "()V"⟩
def dkwX12_init_0 : List UInt8 := [42, 183, 0, 3, 42, 16, 96, 188, 10, 181, 0, 9, 42, 16, 96, 188, 10, 181, 0, 15, 177]
abbrev dktX12_init_0 : List UInt8 := dkwX12_init_0 ++ []
theorem dksX12_init_0 : cX12_init.data.toList.drop 0 = dktX12_init_0 := by decide +kernel
theorem dX12_init_0 : decode cX12_init 0 = .ok (.aload_n 0, 1) := dk_42 (dk_at dksX12_init_0 0 rfl rfl)
theorem dX12_init_1 : decode cX12_init 1 = .ok (.invokespecial 3, 3) := dk_183 0 3 (dk_at dksX12_init_0 1 rfl rfl)
theorem dX12_init_4 : decode cX12_init 4 = .ok (.aload_n 0, 1) := dk_42 (dk_at dksX12_init_0 4 rfl rfl)
theorem dX12_init_5 : decode cX12_init 5 = .ok (.bipush 96, 2) := dk_16 96 (dk_at dksX12_init_0 5 rfl rfl)
theorem dX12_init_7 : decode cX12_init 7 = .ok (.newarray .int, 2) := dk_188_10 (dk_at dksX12_init_0 7 rfl rfl)
theorem dX12_init_9 : decode cX12_init 9 = .ok (.putfield 9, 3) := dk_181 0 9 (dk_at dksX12_init_0 9 rfl rfl)
theorem dX12_init_12 : decode cX12_init 12 = .ok (.aload_n 0, 1) := dk_42 (dk_at dksX12_init_0 12 rfl rfl)
theorem dX12_init_13 : decode cX12_init 13 = .ok (.bipush 96, 2) := dk_16 96 (dk_at dksX12_init_0 13 rfl rfl)
theorem dX12_init_15 : decode cX12_init 15 = .ok (.newarray .int, 2) := dk_188_10 (dk_at dksX12_init_0 15 rfl rfl)
theorem dX12_init_17 : decode cX12_init 17 = .ok (.putfield 15, 3) := dk_181 0 15 (dk_at dksX12_init_0 17 rfl rfl)
theorem dX12_init_20 : decode cX12_init 20 = .ok (.return_, 1) := dk_177 (dk_at dksX12_init_0 20 rfl rfl)
abbrev cX12_add : ByteArray := prog_16_method_2_code
def yX12_add : MethodName := ⟨RX12, "add", "(II)V"⟩
def dkwX12_add_1 : List UInt8 := [180, 0, 18, 4, 96, 181, 0, 18, 177]
abbrev dktX12_add_1 : List UInt8 := dkwX12_add_1 ++ []
def dkwX12_add_0 : List UInt8 := [42, 180, 0, 9, 42, 180, 0, 18, 27, 79, 42, 180, 0, 15, 42, 180, 0, 18, 28, 79, 42, 89]
abbrev dktX12_add_0 : List UInt8 := dkwX12_add_0 ++ dktX12_add_1
theorem dksX12_add_0 : cX12_add.data.toList.drop 0 = dktX12_add_0 := by decide +kernel
theorem dksX12_add_1 : cX12_add.data.toList.drop 22 = dktX12_add_1 := dk_seg dksX12_add_0 22 rfl rfl
theorem dX12_add_0 : decode cX12_add 0 = .ok (.aload_n 0, 1) := dk_42 (dk_at dksX12_add_0 0 rfl rfl)
theorem dX12_add_1 : decode cX12_add 1 = .ok (.getfield 9, 3) := dk_180 0 9 (dk_at dksX12_add_0 1 rfl rfl)
theorem dX12_add_4 : decode cX12_add 4 = .ok (.aload_n 0, 1) := dk_42 (dk_at dksX12_add_0 4 rfl rfl)
theorem dX12_add_5 : decode cX12_add 5 = .ok (.getfield 18, 3) := dk_180 0 18 (dk_at dksX12_add_0 5 rfl rfl)
theorem dX12_add_8 : decode cX12_add 8 = .ok (.iload_n 1, 1) := dk_27 (dk_at dksX12_add_0 8 rfl rfl)
theorem dX12_add_9 : decode cX12_add 9 = .ok (.iastore, 1) := dk_79 (dk_at dksX12_add_0 9 rfl rfl)
theorem dX12_add_10 : decode cX12_add 10 = .ok (.aload_n 0, 1) := dk_42 (dk_at dksX12_add_0 10 rfl rfl)
theorem dX12_add_11 : decode cX12_add 11 = .ok (.getfield 15, 3) := dk_180 0 15 (dk_at dksX12_add_0 11 rfl rfl)
theorem dX12_add_14 : decode cX12_add 14 = .ok (.aload_n 0, 1) := dk_42 (dk_at dksX12_add_0 14 rfl rfl)
theorem dX12_add_15 : decode cX12_add 15 = .ok (.getfield 18, 3) := dk_180 0 18 (dk_at dksX12_add_0 15 rfl rfl)
theorem dX12_add_18 : decode cX12_add 18 = .ok (.iload_n 2, 1) := dk_28 (dk_at dksX12_add_0 18 rfl rfl)
theorem dX12_add_19 : decode cX12_add 19 = .ok (.iastore, 1) := dk_79 (dk_at dksX12_add_0 19 rfl rfl)
theorem dX12_add_20 : decode cX12_add 20 = .ok (.aload_n 0, 1) := dk_42 (dk_at dksX12_add_0 20 rfl rfl)
theorem dX12_add_21 : decode cX12_add 21 = .ok (.dup, 1) := dk_89 (dk_at dksX12_add_0 21 rfl rfl)
theorem dX12_add_22 : decode cX12_add 22 = .ok (.getfield 18, 3) := dk_180 0 18 (dk_at dksX12_add_1 0 rfl rfl)
theorem dX12_add_25 : decode cX12_add 25 = .ok (.iconst 1, 1) := dk_4 (dk_at dksX12_add_1 3 rfl rfl)
theorem dX12_add_26 : decode cX12_add 26 = .ok (.iadd, 1) := dk_96 (dk_at dksX12_add_1 4 rfl rfl)
theorem dX12_add_27 : decode cX12_add 27 = .ok (.putfield 18, 3) := dk_181 0 18 (dk_at dksX12_add_1 5 rfl rfl)
theorem dX12_add_30 : decode cX12_add 30 = .ok (.return_, 1) := dk_177 (dk_at dksX12_add_1 8 rfl rfl)
theorem q105 : (Jvm.Cond.initialized "StrokesHeard$Words") ∈ lw_all := lw_g (lw_at lw_m1 24 rfl) rfl
theorem q455 : (Jvm.Cond.instantiable "StrokesHeard$Words" (3 : Nat)) ∈ lw_all := lw_g (lw_at lw_m2 134 rfl) rfl
theorem q457 : (Jvm.Cond.instanceMethod ({ cls := "StrokesHeard$Words", name := "<init>", desc := "()V" } : Jvm.MethodName)) ∈ lw_all := lw_g (lw_at lw_m2 136 rfl) rfl
theorem q458 : (Jvm.Cond.code ({ cls := "StrokesHeard$Words", name := "<init>", desc := "()V" } : Jvm.MethodName) prog_16_method_1_code (1 : Nat) (Option.none : Option Jvm.ClassFile.FieldType)) ∈ lw_all := lw_g (lw_at lw_m2 137 rfl) rfl
theorem q459 : (Jvm.Cond.methodLink "StrokesHeard$Words" (3 : Nat) ({ cls := "java/lang/Object", name := "<init>", desc := "()V" } : Jvm.MethodName)) ∈ lw_all := lw_g (lw_at lw_m2 138 rfl) rfl
theorem q460 : (Jvm.Cond.fieldLink "StrokesHeard$Words" (9 : Nat) "StrokesHeard$Words" "word" "[I") ∈ lw_all := lw_g (lw_at lw_m2 139 rfl) rfl
theorem q462 : (Jvm.Cond.fieldLink "StrokesHeard$Words" (15 : Nat) "StrokesHeard$Words" "value" "[I") ∈ lw_all := lw_g (lw_at lw_m2 141 rfl) rfl
theorem q464 : (Jvm.Cond.fieldLink "StrokesHeard$Words" (18 : Nat) "StrokesHeard$Words" "many" "I") ∈ lw_all := lw_g (lw_at lw_m2 143 rfl) rfl
theorem q466 : (Jvm.Cond.laysFinal "StrokesHeard$Words" "StrokesHeard$Words" "word" "[I") ∈ lw_all := lw_g (lw_at lw_m2 145 rfl) rfl
theorem q467 : (Jvm.Cond.soleField "StrokesHeard$Words" "word") ∈ lw_all := lw_g (lw_at lw_m2 146 rfl) rfl
theorem q468 : (Jvm.Cond.laysFinal "StrokesHeard$Words" "StrokesHeard$Words" "value" "[I") ∈ lw_all := lw_g (lw_at lw_m2 147 rfl) rfl
theorem q469 : (Jvm.Cond.soleField "StrokesHeard$Words" "value") ∈ lw_all := lw_g (lw_at lw_m2 148 rfl) rfl
theorem q470 : (Jvm.Cond.lays "StrokesHeard$Words" "StrokesHeard$Words" "many" "I") ∈ lw_all := lw_g (lw_at lw_m2 149 rfl) rfl
theorem q471 : (Jvm.Cond.soleField "StrokesHeard$Words" "many") ∈ lw_all := lw_g (lw_at lw_m2 150 rfl) rfl
theorem q472 : (Jvm.Cond.superclass "StrokesHeard$Words" "java/lang/Object") ∈ lw_all := lw_g (lw_at lw_m2 151 rfl) rfl
theorem q502 : (Jvm.Cond.instanceMethod ({ cls := "StrokesHeard$Words", name := "add", desc := "(II)V" } : Jvm.MethodName)) ∈ lw_all := lw_g (lw_at lw_m2 181 rfl) rfl
theorem q503 : (Jvm.Cond.selects "StrokesHeard$Words" ({ cls := "StrokesHeard$Words", name := "add", desc := "(II)V" } : Jvm.MethodName) ({ cls := "StrokesHeard$Words", name := "add", desc := "(II)V" } : Jvm.MethodName)) ∈ lw_all := lw_g (lw_at lw_m2 182 rfl) rfl
theorem q504 : (Jvm.Cond.code ({ cls := "StrokesHeard$Words", name := "add", desc := "(II)V" } : Jvm.MethodName) prog_16_method_2_code (3 : Nat) (Option.none : Option Jvm.ClassFile.FieldType)) ∈ lw_all := lw_g (lw_at lw_m2 183 rfl) rfl
theorem in_X12 : ∀ w ∈ wsX120, w ∈ lw_all := lw_in wsX120 [466, 468, 470] (by decide +kernel) (by decide +kernel)

/-! StrokesHeard$Text -/
set_option maxRecDepth 100000
def RX13 : String := "StrokesHeard$Text"
def TX13 : u_T := fun k => match k with
  | 0 => ("StrokesHeard$Text", "key", "I", true)
  | 1 => ("StrokesHeard$Text", "words", "LStrokesHeard$Words;", true)
  | _ => ("StrokesHeard$Text", "many", "I", true)
def tyX13 : Nat → FieldType := fun k => match k with
  | 0 => .int
  | 1 => .object "StrokesHeard$Words"
  | _ => .int
abbrev wsX130 : List Cond := u_ws RX13 TX13 3
theorem nmX13 : ∀ a, a < 3 → ∀ b, b < 3 → a ≠ b → (TX13 a).2.1 ≠ (TX13 b).2.1 := by decide +kernel
theorem tyX13_ok : ∀ k, k < 3 → parseFieldDescriptor (TX13 k).2.2.1 = some (tyX13 k) := by decide +kernel
abbrev cX13_init : ByteArray := prog_13_method_1_code
def yX13_init : MethodName := ⟨RX13, "<init>", "(ILStrokesHeard$Words;I)V"⟩
def dkwX13_init_0 : List UInt8 := [42, 183, 0, 1, 42, 27, 181, 0, 7, 42, 44, 181, 0, 13, 42, 29, 181, 0, 17, 177]
abbrev dktX13_init_0 : List UInt8 := dkwX13_init_0 ++ []
theorem dksX13_init_0 : cX13_init.data.toList.drop 0 = dktX13_init_0 := by decide +kernel
theorem dX13_init_0 : decode cX13_init 0 = .ok (.aload_n 0, 1) := dk_42 (dk_at dksX13_init_0 0 rfl rfl)
theorem dX13_init_1 : decode cX13_init 1 = .ok (.invokespecial 1, 3) := dk_183 0 1 (dk_at dksX13_init_0 1 rfl rfl)
theorem dX13_init_4 : decode cX13_init 4 = .ok (.aload_n 0, 1) := dk_42 (dk_at dksX13_init_0 4 rfl rfl)
theorem dX13_init_5 : decode cX13_init 5 = .ok (.iload_n 1, 1) := dk_27 (dk_at dksX13_init_0 5 rfl rfl)
theorem dX13_init_6 : decode cX13_init 6 = .ok (.putfield 7, 3) := dk_181 0 7 (dk_at dksX13_init_0 6 rfl rfl)
theorem dX13_init_9 : decode cX13_init 9 = .ok (.aload_n 0, 1) := dk_42 (dk_at dksX13_init_0 9 rfl rfl)
theorem dX13_init_10 : decode cX13_init 10 = .ok (.aload_n 2, 1) := dk_44 (dk_at dksX13_init_0 10 rfl rfl)
theorem dX13_init_11 : decode cX13_init 11 = .ok (.putfield 13, 3) := dk_181 0 13 (dk_at dksX13_init_0 11 rfl rfl)
theorem dX13_init_14 : decode cX13_init 14 = .ok (.aload_n 0, 1) := dk_42 (dk_at dksX13_init_0 14 rfl rfl)
theorem dX13_init_15 : decode cX13_init 15 = .ok (.iload_n 3, 1) := dk_29 (dk_at dksX13_init_0 15 rfl rfl)
theorem dX13_init_16 : decode cX13_init 16 = .ok (.putfield 17, 3) := dk_181 0 17 (dk_at dksX13_init_0 16 rfl rfl)
theorem dX13_init_19 : decode cX13_init 19 = .ok (.return_, 1) := dk_177 (dk_at dksX13_init_0 19 rfl rfl)
theorem q106 : (Jvm.Cond.initialized "StrokesHeard$Text") ∈ lw_all := lw_g (lw_at lw_m1 25 rfl) rfl
theorem q514 : (Jvm.Cond.instantiable "StrokesHeard$Text" (3 : Nat)) ∈ lw_all := lw_g (lw_at lw_m2 193 rfl) rfl
theorem q516 : (Jvm.Cond.instanceMethod ({ cls := "StrokesHeard$Text", name := "<init>", desc := "(ILStrokesHeard$Words;I)V" } : Jvm.MethodName)) ∈ lw_all := lw_g (lw_at lw_m2 195 rfl) rfl
theorem q517 : (Jvm.Cond.code ({ cls := "StrokesHeard$Text", name := "<init>", desc := "(ILStrokesHeard$Words;I)V" } : Jvm.MethodName) prog_13_method_1_code (4 : Nat) (Option.none : Option Jvm.ClassFile.FieldType)) ∈ lw_all := lw_g (lw_at lw_m2 196 rfl) rfl
theorem q518 : (Jvm.Cond.methodLink "StrokesHeard$Text" (1 : Nat) ({ cls := "java/lang/Object", name := "<init>", desc := "()V" } : Jvm.MethodName)) ∈ lw_all := lw_g (lw_at lw_m2 197 rfl) rfl
theorem q519 : (Jvm.Cond.fieldLink "StrokesHeard$Text" (7 : Nat) "StrokesHeard$Text" "key" "I") ∈ lw_all := lw_g (lw_at lw_m2 198 rfl) rfl
theorem q521 : (Jvm.Cond.fieldLink "StrokesHeard$Text" (13 : Nat) "StrokesHeard$Text" "words" "LStrokesHeard$Words;") ∈ lw_all := lw_g (lw_at lw_m2 200 rfl) rfl
theorem q523 : (Jvm.Cond.fieldLink "StrokesHeard$Text" (17 : Nat) "StrokesHeard$Text" "many" "I") ∈ lw_all := lw_g (lw_at lw_m2 202 rfl) rfl
theorem q525 : (Jvm.Cond.laysFinal "StrokesHeard$Text" "StrokesHeard$Text" "key" "I") ∈ lw_all := lw_g (lw_at lw_m2 204 rfl) rfl
theorem q526 : (Jvm.Cond.soleField "StrokesHeard$Text" "key") ∈ lw_all := lw_g (lw_at lw_m2 205 rfl) rfl
theorem q527 : (Jvm.Cond.laysFinal "StrokesHeard$Text" "StrokesHeard$Text" "words" "LStrokesHeard$Words;") ∈ lw_all := lw_g (lw_at lw_m2 206 rfl) rfl
theorem q528 : (Jvm.Cond.soleField "StrokesHeard$Text" "words") ∈ lw_all := lw_g (lw_at lw_m2 207 rfl) rfl
theorem q529 : (Jvm.Cond.laysFinal "StrokesHeard$Text" "StrokesHeard$Text" "many" "I") ∈ lw_all := lw_g (lw_at lw_m2 208 rfl) rfl
theorem q530 : (Jvm.Cond.soleField "StrokesHeard$Text" "many") ∈ lw_all := lw_g (lw_at lw_m2 209 rfl) rfl
theorem q531 : (Jvm.Cond.superclass "StrokesHeard$Text" "java/lang/Object") ∈ lw_all := lw_g (lw_at lw_m2 210 rfl) rfl
theorem in_X13 : ∀ w ∈ wsX130, w ∈ lw_all := lw_in wsX130 [525, 527, 529] (by decide +kernel) (by decide +kernel)

/-! StrokesHeard$Figure -/
set_option maxRecDepth 100000
def RX14 : String := "StrokesHeard$Figure"
def TX14 : u_T := fun k => match k with
  | _ => ("StrokesHeard$Figure", "v", "I", true)
def tyX14 : Nat → FieldType := fun k => match k with
  | _ => .int
abbrev wsX140 : List Cond := u_ws RX14 TX14 1
theorem nmX14 : ∀ a, a < 1 → ∀ b, b < 1 → a ≠ b → (TX14 a).2.1 ≠ (TX14 b).2.1 := by decide +kernel
theorem tyX14_ok : ∀ k, k < 1 → parseFieldDescriptor (TX14 k).2.2.1 = some (tyX14 k) := by decide +kernel
abbrev cX14_init : ByteArray := prog_5_method_1_code
def yX14_init : MethodName := ⟨RX14, "<init>", "(I)V"⟩
def dkwX14_init_0 : List UInt8 := [42, 183, 0, 1, 42, 27, 181, 0, 7, 177]
abbrev dktX14_init_0 : List UInt8 := dkwX14_init_0 ++ []
theorem dksX14_init_0 : cX14_init.data.toList.drop 0 = dktX14_init_0 := by decide +kernel
theorem dX14_init_0 : decode cX14_init 0 = .ok (.aload_n 0, 1) := dk_42 (dk_at dksX14_init_0 0 rfl rfl)
theorem dX14_init_1 : decode cX14_init 1 = .ok (.invokespecial 1, 3) := dk_183 0 1 (dk_at dksX14_init_0 1 rfl rfl)
theorem dX14_init_4 : decode cX14_init 4 = .ok (.aload_n 0, 1) := dk_42 (dk_at dksX14_init_0 4 rfl rfl)
theorem dX14_init_5 : decode cX14_init 5 = .ok (.iload_n 1, 1) := dk_27 (dk_at dksX14_init_0 5 rfl rfl)
theorem dX14_init_6 : decode cX14_init 6 = .ok (.putfield 7, 3) := dk_181 0 7 (dk_at dksX14_init_0 6 rfl rfl)
theorem dX14_init_9 : decode cX14_init 9 = .ok (.return_, 1) := dk_177 (dk_at dksX14_init_0 9 rfl rfl)
theorem q108 : (Jvm.Cond.initialized "StrokesHeard$Figure") ∈ lw_all := lw_g (lw_at lw_m1 27 rfl) rfl
theorem q1108 : (Jvm.Cond.instantiable "StrokesHeard$Figure" (1 : Nat)) ∈ lw_all := lw_g (lw_at lw_m5 67 rfl) rfl
theorem q1110 : (Jvm.Cond.instanceMethod ({ cls := "StrokesHeard$Figure", name := "<init>", desc := "(I)V" } : Jvm.MethodName)) ∈ lw_all := lw_g (lw_at lw_m5 69 rfl) rfl
theorem q1111 : (Jvm.Cond.code ({ cls := "StrokesHeard$Figure", name := "<init>", desc := "(I)V" } : Jvm.MethodName) prog_5_method_1_code (2 : Nat) (Option.none : Option Jvm.ClassFile.FieldType)) ∈ lw_all := lw_g (lw_at lw_m5 70 rfl) rfl
theorem q1112 : (Jvm.Cond.methodLink "StrokesHeard$Figure" (1 : Nat) ({ cls := "java/lang/Object", name := "<init>", desc := "()V" } : Jvm.MethodName)) ∈ lw_all := lw_g (lw_at lw_m5 71 rfl) rfl
theorem q1113 : (Jvm.Cond.fieldLink "StrokesHeard$Figure" (7 : Nat) "StrokesHeard$Figure" "v" "I") ∈ lw_all := lw_g (lw_at lw_m5 72 rfl) rfl
theorem q1115 : (Jvm.Cond.laysFinal "StrokesHeard$Figure" "StrokesHeard$Figure" "v" "I") ∈ lw_all := lw_g (lw_at lw_m5 74 rfl) rfl
theorem q1116 : (Jvm.Cond.soleField "StrokesHeard$Figure" "v") ∈ lw_all := lw_g (lw_at lw_m5 75 rfl) rfl
theorem q1117 : (Jvm.Cond.superclass "StrokesHeard$Figure" "java/lang/Object") ∈ lw_all := lw_g (lw_at lw_m5 76 rfl) rfl
theorem in_X14 : ∀ w ∈ wsX140, w ∈ lw_all := lw_in wsX140 [1115] (by decide +kernel) (by decide +kernel)

/-! StrokesHeard$Strikes -/
set_option maxRecDepth 100000
def RX15 : String := "StrokesHeard$Strikes"
abbrev cX15_atHour : ByteArray := prog_12_method_1_code
def yX15_atHour : MethodName := ⟨RX15, "atHour", "(I)I"⟩
theorem dX15_atHour_0 : decode cX15_atHour 0 = .ok (.iload_n 1, 1) := by decide +kernel
theorem dX15_atHour_1 : decode cX15_atHour 1 = .ok (.ireturn, 1) := by decide +kernel
theorem q693 : (Jvm.Cond.declares ({ cls := "StrokesHeard$Strikes", name := "atHour", desc := "(I)I" } : Jvm.MethodName)) ∈ lw_tbl := lw_at lw_m3 132 rfl
theorem q700 : (Jvm.Cond.instanceMethod ({ cls := "StrokesHeard$Strikes", name := "atHour", desc := "(I)I" } : Jvm.MethodName)) ∈ lw_all := lw_g (lw_at lw_m3 139 rfl) rfl
theorem q701 : (Jvm.Cond.code ({ cls := "StrokesHeard$Strikes", name := "atHour", desc := "(I)I" } : Jvm.MethodName) prog_12_method_1_code (2 : Nat) (Option.some Jvm.ClassFile.FieldType.int)) ∈ lw_all := lw_g (lw_at lw_m3 140 rfl) rfl
theorem q706 : (Jvm.Cond.publicMethod ({ cls := "StrokesHeard$Strikes", name := "atHour", desc := "(I)I" } : Jvm.MethodName)) ∈ lw_tbl := lw_at lw_m3 145 rfl

/-! StrokesHeard$Chimes -/
set_option maxRecDepth 100000
def RX16 : String := "StrokesHeard$Chimes"
abbrev cX16_at : ByteArray := prog_2_method_1_code
def yX16_at : MethodName := ⟨RX16, "at", "(III)I"⟩
theorem dX16_at_0 : decode cX16_at 0 = .ok (.iconst 0, 1) := by decide +kernel
theorem dX16_at_1 : decode cX16_at 1 = .ok (.ireturn, 1) := by decide +kernel
theorem q707 : (Jvm.Cond.declares ({ cls := "StrokesHeard$Chimes", name := "at", desc := "(III)I" } : Jvm.MethodName)) ∈ lw_tbl := lw_at lw_m3 146 rfl
theorem q711 : (Jvm.Cond.instanceMethod ({ cls := "StrokesHeard$Chimes", name := "at", desc := "(III)I" } : Jvm.MethodName)) ∈ lw_all := lw_g (lw_at lw_m3 150 rfl) rfl
theorem q712 : (Jvm.Cond.code ({ cls := "StrokesHeard$Chimes", name := "at", desc := "(III)I" } : Jvm.MethodName) prog_2_method_1_code (4 : Nat) (Option.some Jvm.ClassFile.FieldType.int)) ∈ lw_all := lw_g (lw_at lw_m3 151 rfl) rfl
theorem q722 : (Jvm.Cond.publicMethod ({ cls := "StrokesHeard$Chimes", name := "at", desc := "(III)I" } : Jvm.MethodName)) ∈ lw_tbl := lw_at lw_m3 161 rfl
theorem q1124 : (Jvm.Cond.interfaceMethod "StrokesHeard$Chimes" "StrokesHeard$Chimes" "worth" "()I") ∈ lw_tbl := lw_at lw_m5 83 rfl
theorem q1125 : (Jvm.Cond.declares ({ cls := "StrokesHeard$Chimes", name := "worth", desc := "()I" } : Jvm.MethodName)) ∈ lw_tbl := lw_at lw_m5 84 rfl
