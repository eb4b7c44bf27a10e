/-! StrokesHeard -/
set_option maxRecDepth 100000
def RX0 : String := "StrokesHeard"
def TX0 : u_T := fun k => match k with
  | 0 => ("StrokesHeard", "now", "LStrokesHeard$State;", true)
  | 1 => ("StrokesHeard", "image", "LStrokesHeard$State;", true)
  | 2 => ("StrokesHeard", "aside", "LStrokesHeard$State;", true)
  | 3 => ("StrokesHeard", "before", "LStrokesHeard$State;", true)
  | 4 => ("StrokesHeard", "hasImage", "Z", false)
  | 5 => ("StrokesHeard", "pile", "[I", true)
  | 6 => ("StrokesHeard", "tape", "[B", true)
  | 7 => ("StrokesHeard", "taped", "I", false)
  | 8 => ("StrokesHeard", "fault", "LStrokesHeard$Fault;", true)
  | 9 => ("StrokesHeard", "from", "I", false)
  | 10 => ("StrokesHeard", "to", "I", false)
  | 11 => ("StrokesHeard", "end", "I", false)
  | 12 => ("StrokesHeard", "parens", "I", false)
  | 13 => ("StrokesHeard", "nots", "I", false)
  | 14 => ("StrokesHeard", "wordMany", "I", false)
  | 15 => ("StrokesHeard", "keyRead", "I", false)
  | 16 => ("StrokesHeard", "named", "[I", true)
  | 17 => ("StrokesHeard", "totals", "[I", true)
  | 18 => ("StrokesHeard", "fitting", "I", false)
  | 19 => ("StrokesHeard", "hours", "I", false)
  | 20 => ("StrokesHeard", "firstFit", "I", false)
  | 21 => ("StrokesHeard", "sheets", "[LStrokesHeard$Sheet;", true)
  | 22 => ("StrokesHeard", "slots", "[LStrokesHeard$Slot;", true)
  | 23 => ("StrokesHeard", "carried", "[F", true)
  | 24 => ("StrokesHeard", "waits", "[I", true)
  | 25 => ("StrokesHeard", "waitMany", "I", false)
  | _ => ("StrokesHeard", "rows", "[I", true)
def tyX0 : Nat → FieldType := fun k => match k with
  | 0 => .object "StrokesHeard$State"
  | 1 => .object "StrokesHeard$State"
  | 2 => .object "StrokesHeard$State"
  | 3 => .object "StrokesHeard$State"
  | 4 => .boolean
  | 5 => .array .int
  | 6 => .array .byte
  | 7 => .int
  | 8 => .object "StrokesHeard$Fault"
  | 9 => .int
  | 10 => .int
  | 11 => .int
  | 12 => .int
  | 13 => .int
  | 14 => .int
  | 15 => .int
  | 16 => .array .int
  | 17 => .array .int
  | 18 => .int
  | 19 => .int
  | 20 => .int
  | 21 => .array (.object "StrokesHeard$Sheet")
  | 22 => .array (.object "StrokesHeard$Slot")
  | 23 => .array .float
  | 24 => .array .int
  | 25 => .int
  | _ => .array .int
abbrev wsX00 : List Cond := u_ws RX0 TX0 27
set_option maxRecDepth 100000 in
theorem nmX0 : ∀ a, a < 27 → ∀ b, b < 27 → a ≠ b → (TX0 a).2.1 ≠ (TX0 b).2.1 := by decide +kernel
set_option maxRecDepth 100000 in
theorem tyX0_ok : ∀ k, k < 27 → parseFieldDescriptor (TX0 k).2.2.1 = some (tyX0 k) := by decide +kernel
abbrev cX0_init : ByteArray := prog_1_method_6_code
def yX0_init : MethodName := ⟨RX0, "<init>", "()V"⟩
def dkwX0_init_9 : List UInt8 := [181, 0, 98, 42, 16, 60, 188, 10, 181, 0, 101, 177]
abbrev dktX0_init_9 : List UInt8 := dkwX0_init_9 ++ []
def dkwX0_init_8 : List UInt8 := [187, 0, 87, 89, 183, 0, 89, 83, 181, 0, 90, 42, 16, 24, 188, 6, 181, 0, 94, 42, 16, 60, 188, 10]
abbrev dktX0_init_8 : List UInt8 := dkwX0_init_8 ++ dktX0_init_9
def dkwX0_init_7 : List UInt8 := [83, 89, 5, 187, 0, 87, 89, 183, 0, 89, 83, 89, 6, 187, 0, 87, 89, 183, 0, 89, 83, 89, 7]
abbrev dktX0_init_7 : List UInt8 := dkwX0_init_7 ++ dktX0_init_8
def dkwX0_init_6 : List UInt8 := [42, 8, 189, 0, 87, 89, 3, 187, 0, 87, 89, 183, 0, 89, 83, 89, 4, 187, 0, 87, 89, 183, 0, 89]
abbrev dktX0_init_6 : List UInt8 := dkwX0_init_6 ++ dktX0_init_7
def dkwX0_init_5 : List UInt8 := [83, 89, 5, 187, 0, 80, 89, 183, 0, 82, 83, 89, 6, 187, 0, 80, 89, 183, 0, 82, 83, 181, 0, 83]
abbrev dktX0_init_5 : List UInt8 := dkwX0_init_5 ++ dktX0_init_6
def dkwX0_init_4 : List UInt8 := [42, 7, 189, 0, 80, 89, 3, 187, 0, 80, 89, 183, 0, 82, 83, 89, 4, 187, 0, 80, 89, 183, 0, 82]
abbrev dktX0_init_4 : List UInt8 := dkwX0_init_4 ++ dktX0_init_5
def dkwX0_init_3 : List UInt8 := [183, 0, 69, 181, 0, 70, 42, 17, 0, 128, 188, 10, 181, 0, 74, 42, 17, 2, 208, 188, 10, 181, 0, 77]
abbrev dktX0_init_3 : List UInt8 := dkwX0_init_3 ++ dktX0_init_4
def dkwX0_init_2 : List UInt8 := [181, 0, 56, 42, 16, 96, 188, 10, 181, 0, 59, 42, 16, 96, 188, 8, 181, 0, 63, 42, 187, 0, 67, 89]
abbrev dktX0_init_2 : List UInt8 := dkwX0_init_2 ++ dktX0_init_3
def dkwX0_init_1 : List UInt8 := [181, 0, 50, 42, 187, 0, 43, 89, 183, 0, 45, 181, 0, 53, 42, 187, 0, 43, 89, 183, 0, 45]
abbrev dktX0_init_1 : List UInt8 := dkwX0_init_1 ++ dktX0_init_2
def dkwX0_init_0 : List UInt8 := [42, 183, 0, 40, 42, 187, 0, 43, 89, 183, 0, 45, 181, 0, 46, 42, 187, 0, 43, 89, 183, 0, 45]
abbrev dktX0_init_0 : List UInt8 := dkwX0_init_0 ++ dktX0_init_1
theorem dksX0_init_0 : cX0_init.data.toList.drop 0 = dktX0_init_0 := by decide +kernel
theorem dksX0_init_1 : cX0_init.data.toList.drop 23 = dktX0_init_1 := dk_seg dksX0_init_0 23 rfl rfl
theorem dksX0_init_2 : cX0_init.data.toList.drop 45 = dktX0_init_2 := dk_seg dksX0_init_1 22 rfl rfl
theorem dksX0_init_3 : cX0_init.data.toList.drop 69 = dktX0_init_3 := dk_seg dksX0_init_2 24 rfl rfl
theorem dksX0_init_4 : cX0_init.data.toList.drop 93 = dktX0_init_4 := dk_seg dksX0_init_3 24 rfl rfl
theorem dksX0_init_5 : cX0_init.data.toList.drop 117 = dktX0_init_5 := dk_seg dksX0_init_4 24 rfl rfl
theorem dksX0_init_6 : cX0_init.data.toList.drop 141 = dktX0_init_6 := dk_seg dksX0_init_5 24 rfl rfl
theorem dksX0_init_7 : cX0_init.data.toList.drop 165 = dktX0_init_7 := dk_seg dksX0_init_6 24 rfl rfl
theorem dksX0_init_8 : cX0_init.data.toList.drop 188 = dktX0_init_8 := dk_seg dksX0_init_7 23 rfl rfl
theorem dksX0_init_9 : cX0_init.data.toList.drop 212 = dktX0_init_9 := dk_seg dksX0_init_8 24 rfl rfl
theorem dX0_init_0 : decode cX0_init 0 = .ok (.aload_n 0, 1) := dk_42 (dk_at dksX0_init_0 0 rfl rfl)
theorem dX0_init_1 : decode cX0_init 1 = .ok (.invokespecial 40, 3) := dk_183 0 40 (dk_at dksX0_init_0 1 rfl rfl)
theorem dX0_init_4 : decode cX0_init 4 = .ok (.aload_n 0, 1) := dk_42 (dk_at dksX0_init_0 4 rfl rfl)
theorem dX0_init_5 : decode cX0_init 5 = .ok (.new 43, 3) := dk_187 0 43 (dk_at dksX0_init_0 5 rfl rfl)
theorem dX0_init_8 : decode cX0_init 8 = .ok (.dup, 1) := dk_89 (dk_at dksX0_init_0 8 rfl rfl)
theorem dX0_init_9 : decode cX0_init 9 = .ok (.invokespecial 45, 3) := dk_183 0 45 (dk_at dksX0_init_0 9 rfl rfl)
theorem dX0_init_12 : decode cX0_init 12 = .ok (.putfield 46, 3) := dk_181 0 46 (dk_at dksX0_init_0 12 rfl rfl)
theorem dX0_init_15 : decode cX0_init 15 = .ok (.aload_n 0, 1) := dk_42 (dk_at dksX0_init_0 15 rfl rfl)
theorem dX0_init_16 : decode cX0_init 16 = .ok (.new 43, 3) := dk_187 0 43 (dk_at dksX0_init_0 16 rfl rfl)
theorem dX0_init_19 : decode cX0_init 19 = .ok (.dup, 1) := dk_89 (dk_at dksX0_init_0 19 rfl rfl)
theorem dX0_init_20 : decode cX0_init 20 = .ok (.invokespecial 45, 3) := dk_183 0 45 (dk_at dksX0_init_0 20 rfl rfl)
theorem dX0_init_23 : decode cX0_init 23 = .ok (.putfield 50, 3) := dk_181 0 50 (dk_at dksX0_init_1 0 rfl rfl)
theorem dX0_init_26 : decode cX0_init 26 = .ok (.aload_n 0, 1) := dk_42 (dk_at dksX0_init_1 3 rfl rfl)
theorem dX0_init_27 : decode cX0_init 27 = .ok (.new 43, 3) := dk_187 0 43 (dk_at dksX0_init_1 4 rfl rfl)
theorem dX0_init_30 : decode cX0_init 30 = .ok (.dup, 1) := dk_89 (dk_at dksX0_init_1 7 rfl rfl)
theorem dX0_init_31 : decode cX0_init 31 = .ok (.invokespecial 45, 3) := dk_183 0 45 (dk_at dksX0_init_1 8 rfl rfl)
theorem dX0_init_34 : decode cX0_init 34 = .ok (.putfield 53, 3) := dk_181 0 53 (dk_at dksX0_init_1 11 rfl rfl)
theorem dX0_init_37 : decode cX0_init 37 = .ok (.aload_n 0, 1) := dk_42 (dk_at dksX0_init_1 14 rfl rfl)
theorem dX0_init_38 : decode cX0_init 38 = .ok (.new 43, 3) := dk_187 0 43 (dk_at dksX0_init_1 15 rfl rfl)
theorem dX0_init_41 : decode cX0_init 41 = .ok (.dup, 1) := dk_89 (dk_at dksX0_init_1 18 rfl rfl)
theorem dX0_init_42 : decode cX0_init 42 = .ok (.invokespecial 45, 3) := dk_183 0 45 (dk_at dksX0_init_1 19 rfl rfl)
theorem dX0_init_45 : decode cX0_init 45 = .ok (.putfield 56, 3) := dk_181 0 56 (dk_at dksX0_init_2 0 rfl rfl)
theorem dX0_init_48 : decode cX0_init 48 = .ok (.aload_n 0, 1) := dk_42 (dk_at dksX0_init_2 3 rfl rfl)
theorem dX0_init_49 : decode cX0_init 49 = .ok (.bipush 96, 2) := dk_16 96 (dk_at dksX0_init_2 4 rfl rfl)
theorem dX0_init_51 : decode cX0_init 51 = .ok (.newarray .int, 2) := dk_188_10 (dk_at dksX0_init_2 6 rfl rfl)
theorem dX0_init_53 : decode cX0_init 53 = .ok (.putfield 59, 3) := dk_181 0 59 (dk_at dksX0_init_2 8 rfl rfl)
theorem dX0_init_56 : decode cX0_init 56 = .ok (.aload_n 0, 1) := dk_42 (dk_at dksX0_init_2 11 rfl rfl)
theorem dX0_init_57 : decode cX0_init 57 = .ok (.bipush 96, 2) := dk_16 96 (dk_at dksX0_init_2 12 rfl rfl)
theorem dX0_init_59 : decode cX0_init 59 = .ok (.newarray .byte, 2) := dk_188_8 (dk_at dksX0_init_2 14 rfl rfl)
theorem dX0_init_61 : decode cX0_init 61 = .ok (.putfield 63, 3) := dk_181 0 63 (dk_at dksX0_init_2 16 rfl rfl)
theorem dX0_init_64 : decode cX0_init 64 = .ok (.aload_n 0, 1) := dk_42 (dk_at dksX0_init_2 19 rfl rfl)
theorem dX0_init_65 : decode cX0_init 65 = .ok (.new 67, 3) := dk_187 0 67 (dk_at dksX0_init_2 20 rfl rfl)
theorem dX0_init_68 : decode cX0_init 68 = .ok (.dup, 1) := dk_89 (dk_at dksX0_init_2 23 rfl rfl)
theorem dX0_init_69 : decode cX0_init 69 = .ok (.invokespecial 69, 3) := dk_183 0 69 (dk_at dksX0_init_3 0 rfl rfl)
theorem dX0_init_72 : decode cX0_init 72 = .ok (.putfield 70, 3) := dk_181 0 70 (dk_at dksX0_init_3 3 rfl rfl)
theorem dX0_init_75 : decode cX0_init 75 = .ok (.aload_n 0, 1) := dk_42 (dk_at dksX0_init_3 6 rfl rfl)
theorem dX0_init_76 : decode cX0_init 76 = .ok (.sipush 128, 3) := dk_17 0 128 (dk_at dksX0_init_3 7 rfl rfl)
theorem dX0_init_79 : decode cX0_init 79 = .ok (.newarray .int, 2) := dk_188_10 (dk_at dksX0_init_3 10 rfl rfl)
theorem dX0_init_81 : decode cX0_init 81 = .ok (.putfield 74, 3) := dk_181 0 74 (dk_at dksX0_init_3 12 rfl rfl)
theorem dX0_init_84 : decode cX0_init 84 = .ok (.aload_n 0, 1) := dk_42 (dk_at dksX0_init_3 15 rfl rfl)
theorem dX0_init_85 : decode cX0_init 85 = .ok (.sipush 720, 3) := dk_17 2 208 (dk_at dksX0_init_3 16 rfl rfl)
theorem dX0_init_88 : decode cX0_init 88 = .ok (.newarray .int, 2) := dk_188_10 (dk_at dksX0_init_3 19 rfl rfl)
theorem dX0_init_90 : decode cX0_init 90 = .ok (.putfield 77, 3) := dk_181 0 77 (dk_at dksX0_init_3 21 rfl rfl)
theorem dX0_init_93 : decode cX0_init 93 = .ok (.aload_n 0, 1) := dk_42 (dk_at dksX0_init_4 0 rfl rfl)
theorem dX0_init_94 : decode cX0_init 94 = .ok (.iconst 4, 1) := dk_7 (dk_at dksX0_init_4 1 rfl rfl)
theorem dX0_init_95 : decode cX0_init 95 = .ok (.anewarray 80, 3) := dk_189 0 80 (dk_at dksX0_init_4 2 rfl rfl)
theorem dX0_init_98 : decode cX0_init 98 = .ok (.dup, 1) := dk_89 (dk_at dksX0_init_4 5 rfl rfl)
theorem dX0_init_99 : decode cX0_init 99 = .ok (.iconst 0, 1) := dk_3 (dk_at dksX0_init_4 6 rfl rfl)
theorem dX0_init_100 : decode cX0_init 100 = .ok (.new 80, 3) := dk_187 0 80 (dk_at dksX0_init_4 7 rfl rfl)
theorem dX0_init_103 : decode cX0_init 103 = .ok (.dup, 1) := dk_89 (dk_at dksX0_init_4 10 rfl rfl)
theorem dX0_init_104 : decode cX0_init 104 = .ok (.invokespecial 82, 3) := dk_183 0 82 (dk_at dksX0_init_4 11 rfl rfl)
theorem dX0_init_107 : decode cX0_init 107 = .ok (.aastore, 1) := dk_83 (dk_at dksX0_init_4 14 rfl rfl)
theorem dX0_init_108 : decode cX0_init 108 = .ok (.dup, 1) := dk_89 (dk_at dksX0_init_4 15 rfl rfl)
theorem dX0_init_109 : decode cX0_init 109 = .ok (.iconst 1, 1) := dk_4 (dk_at dksX0_init_4 16 rfl rfl)
theorem dX0_init_110 : decode cX0_init 110 = .ok (.new 80, 3) := dk_187 0 80 (dk_at dksX0_init_4 17 rfl rfl)
theorem dX0_init_113 : decode cX0_init 113 = .ok (.dup, 1) := dk_89 (dk_at dksX0_init_4 20 rfl rfl)
theorem dX0_init_114 : decode cX0_init 114 = .ok (.invokespecial 82, 3) := dk_183 0 82 (dk_at dksX0_init_4 21 rfl rfl)
theorem dX0_init_117 : decode cX0_init 117 = .ok (.aastore, 1) := dk_83 (dk_at dksX0_init_5 0 rfl rfl)
theorem dX0_init_118 : decode cX0_init 118 = .ok (.dup, 1) := dk_89 (dk_at dksX0_init_5 1 rfl rfl)
theorem dX0_init_119 : decode cX0_init 119 = .ok (.iconst 2, 1) := dk_5 (dk_at dksX0_init_5 2 rfl rfl)
theorem dX0_init_120 : decode cX0_init 120 = .ok (.new 80, 3) := dk_187 0 80 (dk_at dksX0_init_5 3 rfl rfl)
theorem dX0_init_123 : decode cX0_init 123 = .ok (.dup, 1) := dk_89 (dk_at dksX0_init_5 6 rfl rfl)
theorem dX0_init_124 : decode cX0_init 124 = .ok (.invokespecial 82, 3) := dk_183 0 82 (dk_at dksX0_init_5 7 rfl rfl)
theorem dX0_init_127 : decode cX0_init 127 = .ok (.aastore, 1) := dk_83 (dk_at dksX0_init_5 10 rfl rfl)
theorem dX0_init_128 : decode cX0_init 128 = .ok (.dup, 1) := dk_89 (dk_at dksX0_init_5 11 rfl rfl)
theorem dX0_init_129 : decode cX0_init 129 = .ok (.iconst 3, 1) := dk_6 (dk_at dksX0_init_5 12 rfl rfl)
theorem dX0_init_130 : decode cX0_init 130 = .ok (.new 80, 3) := dk_187 0 80 (dk_at dksX0_init_5 13 rfl rfl)
theorem dX0_init_133 : decode cX0_init 133 = .ok (.dup, 1) := dk_89 (dk_at dksX0_init_5 16 rfl rfl)
theorem dX0_init_134 : decode cX0_init 134 = .ok (.invokespecial 82, 3) := dk_183 0 82 (dk_at dksX0_init_5 17 rfl rfl)
theorem dX0_init_137 : decode cX0_init 137 = .ok (.aastore, 1) := dk_83 (dk_at dksX0_init_5 20 rfl rfl)
theorem dX0_init_138 : decode cX0_init 138 = .ok (.putfield 83, 3) := dk_181 0 83 (dk_at dksX0_init_5 21 rfl rfl)
theorem dX0_init_141 : decode cX0_init 141 = .ok (.aload_n 0, 1) := dk_42 (dk_at dksX0_init_6 0 rfl rfl)
theorem dX0_init_142 : decode cX0_init 142 = .ok (.iconst 5, 1) := dk_8 (dk_at dksX0_init_6 1 rfl rfl)
theorem dX0_init_143 : decode cX0_init 143 = .ok (.anewarray 87, 3) := dk_189 0 87 (dk_at dksX0_init_6 2 rfl rfl)
theorem dX0_init_146 : decode cX0_init 146 = .ok (.dup, 1) := dk_89 (dk_at dksX0_init_6 5 rfl rfl)
theorem dX0_init_147 : decode cX0_init 147 = .ok (.iconst 0, 1) := dk_3 (dk_at dksX0_init_6 6 rfl rfl)
theorem dX0_init_148 : decode cX0_init 148 = .ok (.new 87, 3) := dk_187 0 87 (dk_at dksX0_init_6 7 rfl rfl)
theorem dX0_init_151 : decode cX0_init 151 = .ok (.dup, 1) := dk_89 (dk_at dksX0_init_6 10 rfl rfl)
theorem dX0_init_152 : decode cX0_init 152 = .ok (.invokespecial 89, 3) := dk_183 0 89 (dk_at dksX0_init_6 11 rfl rfl)
theorem dX0_init_155 : decode cX0_init 155 = .ok (.aastore, 1) := dk_83 (dk_at dksX0_init_6 14 rfl rfl)
theorem dX0_init_156 : decode cX0_init 156 = .ok (.dup, 1) := dk_89 (dk_at dksX0_init_6 15 rfl rfl)
theorem dX0_init_157 : decode cX0_init 157 = .ok (.iconst 1, 1) := dk_4 (dk_at dksX0_init_6 16 rfl rfl)
theorem dX0_init_158 : decode cX0_init 158 = .ok (.new 87, 3) := dk_187 0 87 (dk_at dksX0_init_6 17 rfl rfl)
theorem dX0_init_161 : decode cX0_init 161 = .ok (.dup, 1) := dk_89 (dk_at dksX0_init_6 20 rfl rfl)
theorem dX0_init_162 : decode cX0_init 162 = .ok (.invokespecial 89, 3) := dk_183 0 89 (dk_at dksX0_init_6 21 rfl rfl)
theorem dX0_init_165 : decode cX0_init 165 = .ok (.aastore, 1) := dk_83 (dk_at dksX0_init_7 0 rfl rfl)
theorem dX0_init_166 : decode cX0_init 166 = .ok (.dup, 1) := dk_89 (dk_at dksX0_init_7 1 rfl rfl)
theorem dX0_init_167 : decode cX0_init 167 = .ok (.iconst 2, 1) := dk_5 (dk_at dksX0_init_7 2 rfl rfl)
theorem dX0_init_168 : decode cX0_init 168 = .ok (.new 87, 3) := dk_187 0 87 (dk_at dksX0_init_7 3 rfl rfl)
theorem dX0_init_171 : decode cX0_init 171 = .ok (.dup, 1) := dk_89 (dk_at dksX0_init_7 6 rfl rfl)
theorem dX0_init_172 : decode cX0_init 172 = .ok (.invokespecial 89, 3) := dk_183 0 89 (dk_at dksX0_init_7 7 rfl rfl)
theorem dX0_init_175 : decode cX0_init 175 = .ok (.aastore, 1) := dk_83 (dk_at dksX0_init_7 10 rfl rfl)
theorem dX0_init_176 : decode cX0_init 176 = .ok (.dup, 1) := dk_89 (dk_at dksX0_init_7 11 rfl rfl)
theorem dX0_init_177 : decode cX0_init 177 = .ok (.iconst 3, 1) := dk_6 (dk_at dksX0_init_7 12 rfl rfl)
theorem dX0_init_178 : decode cX0_init 178 = .ok (.new 87, 3) := dk_187 0 87 (dk_at dksX0_init_7 13 rfl rfl)
theorem dX0_init_181 : decode cX0_init 181 = .ok (.dup, 1) := dk_89 (dk_at dksX0_init_7 16 rfl rfl)
theorem dX0_init_182 : decode cX0_init 182 = .ok (.invokespecial 89, 3) := dk_183 0 89 (dk_at dksX0_init_7 17 rfl rfl)
theorem dX0_init_185 : decode cX0_init 185 = .ok (.aastore, 1) := dk_83 (dk_at dksX0_init_7 20 rfl rfl)
theorem dX0_init_186 : decode cX0_init 186 = .ok (.dup, 1) := dk_89 (dk_at dksX0_init_7 21 rfl rfl)
theorem dX0_init_187 : decode cX0_init 187 = .ok (.iconst 4, 1) := dk_7 (dk_at dksX0_init_7 22 rfl rfl)
theorem dX0_init_188 : decode cX0_init 188 = .ok (.new 87, 3) := dk_187 0 87 (dk_at dksX0_init_8 0 rfl rfl)
theorem dX0_init_191 : decode cX0_init 191 = .ok (.dup, 1) := dk_89 (dk_at dksX0_init_8 3 rfl rfl)
theorem dX0_init_192 : decode cX0_init 192 = .ok (.invokespecial 89, 3) := dk_183 0 89 (dk_at dksX0_init_8 4 rfl rfl)
theorem dX0_init_195 : decode cX0_init 195 = .ok (.aastore, 1) := dk_83 (dk_at dksX0_init_8 7 rfl rfl)
theorem dX0_init_196 : decode cX0_init 196 = .ok (.putfield 90, 3) := dk_181 0 90 (dk_at dksX0_init_8 8 rfl rfl)
theorem dX0_init_199 : decode cX0_init 199 = .ok (.aload_n 0, 1) := dk_42 (dk_at dksX0_init_8 11 rfl rfl)
theorem dX0_init_200 : decode cX0_init 200 = .ok (.bipush 24, 2) := dk_16 24 (dk_at dksX0_init_8 12 rfl rfl)
theorem dX0_init_202 : decode cX0_init 202 = .ok (.newarray .float, 2) := dk_188_6 (dk_at dksX0_init_8 14 rfl rfl)
theorem dX0_init_204 : decode cX0_init 204 = .ok (.putfield 94, 3) := dk_181 0 94 (dk_at dksX0_init_8 16 rfl rfl)
theorem dX0_init_207 : decode cX0_init 207 = .ok (.aload_n 0, 1) := dk_42 (dk_at dksX0_init_8 19 rfl rfl)
theorem dX0_init_208 : decode cX0_init 208 = .ok (.bipush 60, 2) := dk_16 60 (dk_at dksX0_init_8 20 rfl rfl)
theorem dX0_init_210 : decode cX0_init 210 = .ok (.newarray .int, 2) := dk_188_10 (dk_at dksX0_init_8 22 rfl rfl)
theorem dX0_init_212 : decode cX0_init 212 = .ok (.putfield 98, 3) := dk_181 0 98 (dk_at dksX0_init_9 0 rfl rfl)
theorem dX0_init_215 : decode cX0_init 215 = .ok (.aload_n 0, 1) := dk_42 (dk_at dksX0_init_9 3 rfl rfl)
theorem dX0_init_216 : decode cX0_init 216 = .ok (.bipush 60, 2) := dk_16 60 (dk_at dksX0_init_9 4 rfl rfl)
theorem dX0_init_218 : decode cX0_init 218 = .ok (.newarray .int, 2) := dk_188_10 (dk_at dksX0_init_9 6 rfl rfl)
theorem dX0_init_220 : decode cX0_init 220 = .ok (.putfield 101, 3) := dk_181 0 101 (dk_at dksX0_init_9 8 rfl rfl)
theorem dX0_init_223 : decode cX0_init 223 = .ok (.return_, 1) := dk_177 (dk_at dksX0_init_9 11 rfl rfl)
abbrev cX0_feed : ByteArray := prog_1_method_10_code
def yX0_feed : MethodName := ⟨RX0, "feed", "(III)I"⟩
def dkwX0_feed_1 : List UInt8 := [182, 0, 129, 42, 29, 182, 0, 129, 42, 180, 0, 125, 172]
abbrev dktX0_feed_1 : List UInt8 := dkwX0_feed_1 ++ []
def dkwX0_feed_0 : List UInt8 := [42, 180, 0, 125, 16, 12, 96, 16, 96, 164, 0, 6, 18, 128, 172, 42, 27, 182, 0, 129, 42, 28]
abbrev dktX0_feed_0 : List UInt8 := dkwX0_feed_0 ++ dktX0_feed_1
theorem dksX0_feed_0 : cX0_feed.data.toList.drop 0 = dktX0_feed_0 := by decide +kernel
theorem dksX0_feed_1 : cX0_feed.data.toList.drop 22 = dktX0_feed_1 := dk_seg dksX0_feed_0 22 rfl rfl
theorem dX0_feed_0 : decode cX0_feed 0 = .ok (.aload_n 0, 1) := dk_42 (dk_at dksX0_feed_0 0 rfl rfl)
theorem dX0_feed_1 : decode cX0_feed 1 = .ok (.getfield 125, 3) := dk_180 0 125 (dk_at dksX0_feed_0 1 rfl rfl)
theorem dX0_feed_4 : decode cX0_feed 4 = .ok (.bipush 12, 2) := dk_16 12 (dk_at dksX0_feed_0 4 rfl rfl)
theorem dX0_feed_6 : decode cX0_feed 6 = .ok (.iadd, 1) := dk_96 (dk_at dksX0_feed_0 6 rfl rfl)
theorem dX0_feed_7 : decode cX0_feed 7 = .ok (.bipush 96, 2) := dk_16 96 (dk_at dksX0_feed_0 7 rfl rfl)
theorem dX0_feed_9 : decode cX0_feed 9 = .ok (.if_icmp .le 6, 3) := dk_164 0 6 (dk_at dksX0_feed_0 9 rfl rfl)
theorem dX0_feed_12 : decode cX0_feed 12 = .ok (.ldc 128, 2) := dk_18 128 (dk_at dksX0_feed_0 12 rfl rfl)
theorem dX0_feed_14 : decode cX0_feed 14 = .ok (.ireturn, 1) := dk_172 (dk_at dksX0_feed_0 14 rfl rfl)
theorem dX0_feed_15 : decode cX0_feed 15 = .ok (.aload_n 0, 1) := dk_42 (dk_at dksX0_feed_0 15 rfl rfl)
theorem dX0_feed_16 : decode cX0_feed 16 = .ok (.iload_n 1, 1) := dk_27 (dk_at dksX0_feed_0 16 rfl rfl)
theorem dX0_feed_17 : decode cX0_feed 17 = .ok (.invokevirtual 129, 3) := dk_182 0 129 (dk_at dksX0_feed_0 17 rfl rfl)
theorem dX0_feed_20 : decode cX0_feed 20 = .ok (.aload_n 0, 1) := dk_42 (dk_at dksX0_feed_0 20 rfl rfl)
theorem dX0_feed_21 : decode cX0_feed 21 = .ok (.iload_n 2, 1) := dk_28 (dk_at dksX0_feed_0 21 rfl rfl)
theorem dX0_feed_22 : decode cX0_feed 22 = .ok (.invokevirtual 129, 3) := dk_182 0 129 (dk_at dksX0_feed_1 0 rfl rfl)
theorem dX0_feed_25 : decode cX0_feed 25 = .ok (.aload_n 0, 1) := dk_42 (dk_at dksX0_feed_1 3 rfl rfl)
theorem dX0_feed_26 : decode cX0_feed 26 = .ok (.iload_n 3, 1) := dk_29 (dk_at dksX0_feed_1 4 rfl rfl)
theorem dX0_feed_27 : decode cX0_feed 27 = .ok (.invokevirtual 129, 3) := dk_182 0 129 (dk_at dksX0_feed_1 5 rfl rfl)
theorem dX0_feed_30 : decode cX0_feed 30 = .ok (.aload_n 0, 1) := dk_42 (dk_at dksX0_feed_1 8 rfl rfl)
theorem dX0_feed_31 : decode cX0_feed 31 = .ok (.getfield 125, 3) := dk_180 0 125 (dk_at dksX0_feed_1 9 rfl rfl)
theorem dX0_feed_34 : decode cX0_feed 34 = .ok (.ireturn, 1) := dk_172 (dk_at dksX0_feed_1 12 rfl rfl)
abbrev cX0_four : ByteArray := prog_1_method_11_code
def yX0_four : MethodName := ⟨RX0, "four", "(I)V"⟩
def dkwX0_four_1 : List UInt8 := [180, 0, 125, 4, 96, 181, 0, 125, 132, 2, 248, 167, 255, 226, 177]
abbrev dktX0_four_1 : List UInt8 := dkwX0_four_1 ++ []
def dkwX0_four_0 : List UInt8 := [16, 24, 61, 28, 155, 0, 32, 42, 180, 0, 63, 42, 180, 0, 125, 27, 28, 122, 145, 84, 42, 89]
abbrev dktX0_four_0 : List UInt8 := dkwX0_four_0 ++ dktX0_four_1
theorem dksX0_four_0 : cX0_four.data.toList.drop 0 = dktX0_four_0 := by decide +kernel
theorem dksX0_four_1 : cX0_four.data.toList.drop 22 = dktX0_four_1 := dk_seg dksX0_four_0 22 rfl rfl
theorem dX0_four_0 : decode cX0_four 0 = .ok (.bipush 24, 2) := dk_16 24 (dk_at dksX0_four_0 0 rfl rfl)
theorem dX0_four_2 : decode cX0_four 2 = .ok (.istore_n 2, 1) := dk_61 (dk_at dksX0_four_0 2 rfl rfl)
theorem dX0_four_3 : decode cX0_four 3 = .ok (.iload_n 2, 1) := dk_28 (dk_at dksX0_four_0 3 rfl rfl)
theorem dX0_four_4 : decode cX0_four 4 = .ok (.ifCond .lt 32, 3) := dk_155 0 32 (dk_at dksX0_four_0 4 rfl rfl)
theorem dX0_four_7 : decode cX0_four 7 = .ok (.aload_n 0, 1) := dk_42 (dk_at dksX0_four_0 7 rfl rfl)
theorem dX0_four_8 : decode cX0_four 8 = .ok (.getfield 63, 3) := dk_180 0 63 (dk_at dksX0_four_0 8 rfl rfl)
theorem dX0_four_11 : decode cX0_four 11 = .ok (.aload_n 0, 1) := dk_42 (dk_at dksX0_four_0 11 rfl rfl)
theorem dX0_four_12 : decode cX0_four 12 = .ok (.getfield 125, 3) := dk_180 0 125 (dk_at dksX0_four_0 12 rfl rfl)
theorem dX0_four_15 : decode cX0_four 15 = .ok (.iload_n 1, 1) := dk_27 (dk_at dksX0_four_0 15 rfl rfl)
theorem dX0_four_16 : decode cX0_four 16 = .ok (.iload_n 2, 1) := dk_28 (dk_at dksX0_four_0 16 rfl rfl)
theorem dX0_four_17 : decode cX0_four 17 = .ok (.ishr, 1) := dk_122 (dk_at dksX0_four_0 17 rfl rfl)
theorem dX0_four_18 : decode cX0_four 18 = .ok (.i2b, 1) := dk_145 (dk_at dksX0_four_0 18 rfl rfl)
theorem dX0_four_19 : decode cX0_four 19 = .ok (.bastore, 1) := dk_84 (dk_at dksX0_four_0 19 rfl rfl)
theorem dX0_four_20 : decode cX0_four 20 = .ok (.aload_n 0, 1) := dk_42 (dk_at dksX0_four_0 20 rfl rfl)
theorem dX0_four_21 : decode cX0_four 21 = .ok (.dup, 1) := dk_89 (dk_at dksX0_four_0 21 rfl rfl)
theorem dX0_four_22 : decode cX0_four 22 = .ok (.getfield 125, 3) := dk_180 0 125 (dk_at dksX0_four_1 0 rfl rfl)
theorem dX0_four_25 : decode cX0_four 25 = .ok (.iconst 1, 1) := dk_4 (dk_at dksX0_four_1 3 rfl rfl)
theorem dX0_four_26 : decode cX0_four 26 = .ok (.iadd, 1) := dk_96 (dk_at dksX0_four_1 4 rfl rfl)
theorem dX0_four_27 : decode cX0_four 27 = .ok (.putfield 125, 3) := dk_181 0 125 (dk_at dksX0_four_1 5 rfl rfl)
theorem dX0_four_30 : decode cX0_four 30 = .ok (.iinc 2 (-8), 3) := dk_132 2 248 (dk_at dksX0_four_1 8 rfl rfl)
theorem dX0_four_33 : decode cX0_four 33 = .ok (.goto (-30), 3) := dk_167 255 226 (dk_at dksX0_four_1 11 rfl rfl)
theorem dX0_four_36 : decode cX0_four 36 = .ok (.return_, 1) := dk_177 (dk_at dksX0_four_1 14 rfl rfl)
abbrev cX0_trim : ByteArray := prog_1_method_12_code
def yX0_trim : MethodName := ⟨RX0, "trim", "(I)I"⟩
def dkwX0_trim_0 : List UInt8 := [27, 3, 42, 180, 0, 125, 184, 0, 108, 154, 0, 6, 18, 133, 172, 42, 27, 181, 0, 125, 27, 172]
abbrev dktX0_trim_0 : List UInt8 := dkwX0_trim_0 ++ []
theorem dksX0_trim_0 : cX0_trim.data.toList.drop 0 = dktX0_trim_0 := by decide +kernel
theorem dX0_trim_0 : decode cX0_trim 0 = .ok (.iload_n 1, 1) := dk_27 (dk_at dksX0_trim_0 0 rfl rfl)
theorem dX0_trim_1 : decode cX0_trim 1 = .ok (.iconst 0, 1) := dk_3 (dk_at dksX0_trim_0 1 rfl rfl)
theorem dX0_trim_2 : decode cX0_trim 2 = .ok (.aload_n 0, 1) := dk_42 (dk_at dksX0_trim_0 2 rfl rfl)
theorem dX0_trim_3 : decode cX0_trim 3 = .ok (.getfield 125, 3) := dk_180 0 125 (dk_at dksX0_trim_0 3 rfl rfl)
theorem dX0_trim_6 : decode cX0_trim 6 = .ok (.invokestatic 108, 3) := dk_184 0 108 (dk_at dksX0_trim_0 6 rfl rfl)
theorem dX0_trim_9 : decode cX0_trim 9 = .ok (.ifCond .ne 6, 3) := dk_154 0 6 (dk_at dksX0_trim_0 9 rfl rfl)
theorem dX0_trim_12 : decode cX0_trim 12 = .ok (.ldc 133, 2) := dk_18 133 (dk_at dksX0_trim_0 12 rfl rfl)
theorem dX0_trim_14 : decode cX0_trim 14 = .ok (.ireturn, 1) := dk_172 (dk_at dksX0_trim_0 14 rfl rfl)
theorem dX0_trim_15 : decode cX0_trim 15 = .ok (.aload_n 0, 1) := dk_42 (dk_at dksX0_trim_0 15 rfl rfl)
theorem dX0_trim_16 : decode cX0_trim 16 = .ok (.iload_n 1, 1) := dk_27 (dk_at dksX0_trim_0 16 rfl rfl)
theorem dX0_trim_17 : decode cX0_trim 17 = .ok (.putfield 125, 3) := dk_181 0 125 (dk_at dksX0_trim_0 17 rfl rfl)
theorem dX0_trim_20 : decode cX0_trim 20 = .ok (.iload_n 1, 1) := dk_27 (dk_at dksX0_trim_0 20 rfl rfl)
theorem dX0_trim_21 : decode cX0_trim 21 = .ok (.ireturn, 1) := dk_172 (dk_at dksX0_trim_0 21 rfl rfl)
abbrev cX0_isIn : ByteArray := prog_1_method_1_code
def yX0_isIn : MethodName := ⟨RX0, "isIn", "(III)Z"⟩
def dkwX0_isIn_0 : List UInt8 := [26, 27, 161, 0, 12, 26, 28, 163, 0, 7, 4, 167, 0, 4, 3, 172]
abbrev dktX0_isIn_0 : List UInt8 := dkwX0_isIn_0 ++ []
theorem dksX0_isIn_0 : cX0_isIn.data.toList.drop 0 = dktX0_isIn_0 := by decide +kernel
theorem dX0_isIn_0 : decode cX0_isIn 0 = .ok (.iload_n 0, 1) := dk_26 (dk_at dksX0_isIn_0 0 rfl rfl)
theorem dX0_isIn_1 : decode cX0_isIn 1 = .ok (.iload_n 1, 1) := dk_27 (dk_at dksX0_isIn_0 1 rfl rfl)
theorem dX0_isIn_2 : decode cX0_isIn 2 = .ok (.if_icmp .lt 12, 3) := dk_161 0 12 (dk_at dksX0_isIn_0 2 rfl rfl)
theorem dX0_isIn_5 : decode cX0_isIn 5 = .ok (.iload_n 0, 1) := dk_26 (dk_at dksX0_isIn_0 5 rfl rfl)
theorem dX0_isIn_6 : decode cX0_isIn 6 = .ok (.iload_n 2, 1) := dk_28 (dk_at dksX0_isIn_0 6 rfl rfl)
theorem dX0_isIn_7 : decode cX0_isIn 7 = .ok (.if_icmp .gt 7, 3) := dk_163 0 7 (dk_at dksX0_isIn_0 7 rfl rfl)
theorem dX0_isIn_10 : decode cX0_isIn 10 = .ok (.iconst 1, 1) := dk_4 (dk_at dksX0_isIn_0 10 rfl rfl)
theorem dX0_isIn_11 : decode cX0_isIn 11 = .ok (.goto 4, 3) := dk_167 0 4 (dk_at dksX0_isIn_0 11 rfl rfl)
theorem dX0_isIn_14 : decode cX0_isIn 14 = .ok (.iconst 0, 1) := dk_3 (dk_at dksX0_isIn_0 14 rfl rfl)
theorem dX0_isIn_15 : decode cX0_isIn 15 = .ok (.ireturn, 1) := dk_172 (dk_at dksX0_isIn_0 15 rfl rfl)
abbrev cX0_text : ByteArray := prog_1_method_30_code
def yX0_text : MethodName := ⟨RX0, "text", "()I"⟩
def dkwX0_text_4 : List UInt8 := [181, 0, 125, 45, 191]
abbrev dktX0_text_4 : List UInt8 := dkwX0_text_4 ++ []
def dkwX0_text_3 : List UInt8 := [181, 0, 125, 28, 172, 76, 16, 156, 43, 180, 0, 137, 100, 61, 42, 3, 181, 0, 125, 28, 172, 78, 42, 3]
abbrev dktX0_text_3 : List UInt8 := dkwX0_text_3 ++ dktX0_text_4
def dkwX0_text_2 : List UInt8 := [180, 0, 46, 89, 180, 0, 240, 4, 96, 181, 0, 240, 42, 180, 0, 46, 180, 0, 240, 4, 100, 61, 42, 3]
abbrev dktX0_text_2 : List UInt8 := dkwX0_text_2 ++ dktX0_text_3
def dkwX0_text_1 : List UInt8 := [181, 0, 125, 28, 172, 42, 180, 0, 46, 180, 0, 243, 42, 180, 0, 46, 180, 0, 240, 43, 83, 42]
abbrev dktX0_text_1 : List UInt8 := dkwX0_text_1 ++ dktX0_text_2
def dkwX0_text_0 : List UInt8 := [42, 182, 0, 236, 76, 42, 180, 0, 46, 180, 0, 240, 16, 14, 160, 0, 13, 18, 128, 61, 42, 3]
abbrev dktX0_text_0 : List UInt8 := dkwX0_text_0 ++ dktX0_text_1
theorem dksX0_text_0 : cX0_text.data.toList.drop 0 = dktX0_text_0 := by decide +kernel
theorem dksX0_text_1 : cX0_text.data.toList.drop 22 = dktX0_text_1 := dk_seg dksX0_text_0 22 rfl rfl
theorem dksX0_text_2 : cX0_text.data.toList.drop 44 = dktX0_text_2 := dk_seg dksX0_text_1 22 rfl rfl
theorem dksX0_text_3 : cX0_text.data.toList.drop 68 = dktX0_text_3 := dk_seg dksX0_text_2 24 rfl rfl
theorem dksX0_text_4 : cX0_text.data.toList.drop 92 = dktX0_text_4 := dk_seg dksX0_text_3 24 rfl rfl
theorem dX0_text_0 : decode cX0_text 0 = .ok (.aload_n 0, 1) := dk_42 (dk_at dksX0_text_0 0 rfl rfl)
theorem dX0_text_1 : decode cX0_text 1 = .ok (.invokevirtual 236, 3) := dk_182 0 236 (dk_at dksX0_text_0 1 rfl rfl)
theorem dX0_text_4 : decode cX0_text 4 = .ok (.astore_n 1, 1) := dk_76 (dk_at dksX0_text_0 4 rfl rfl)
theorem dX0_text_5 : decode cX0_text 5 = .ok (.aload_n 0, 1) := dk_42 (dk_at dksX0_text_0 5 rfl rfl)
theorem dX0_text_6 : decode cX0_text 6 = .ok (.getfield 46, 3) := dk_180 0 46 (dk_at dksX0_text_0 6 rfl rfl)
theorem dX0_text_9 : decode cX0_text 9 = .ok (.getfield 240, 3) := dk_180 0 240 (dk_at dksX0_text_0 9 rfl rfl)
theorem dX0_text_12 : decode cX0_text 12 = .ok (.bipush 14, 2) := dk_16 14 (dk_at dksX0_text_0 12 rfl rfl)
theorem dX0_text_14 : decode cX0_text 14 = .ok (.if_icmp .ne 13, 3) := dk_160 0 13 (dk_at dksX0_text_0 14 rfl rfl)
theorem dX0_text_17 : decode cX0_text 17 = .ok (.ldc 128, 2) := dk_18 128 (dk_at dksX0_text_0 17 rfl rfl)
theorem dX0_text_19 : decode cX0_text 19 = .ok (.istore_n 2, 1) := dk_61 (dk_at dksX0_text_0 19 rfl rfl)
theorem dX0_text_20 : decode cX0_text 20 = .ok (.aload_n 0, 1) := dk_42 (dk_at dksX0_text_0 20 rfl rfl)
theorem dX0_text_21 : decode cX0_text 21 = .ok (.iconst 0, 1) := dk_3 (dk_at dksX0_text_0 21 rfl rfl)
theorem dX0_text_22 : decode cX0_text 22 = .ok (.putfield 125, 3) := dk_181 0 125 (dk_at dksX0_text_1 0 rfl rfl)
theorem dX0_text_25 : decode cX0_text 25 = .ok (.iload_n 2, 1) := dk_28 (dk_at dksX0_text_1 3 rfl rfl)
theorem dX0_text_26 : decode cX0_text 26 = .ok (.ireturn, 1) := dk_172 (dk_at dksX0_text_1 4 rfl rfl)
theorem dX0_text_27 : decode cX0_text 27 = .ok (.aload_n 0, 1) := dk_42 (dk_at dksX0_text_1 5 rfl rfl)
theorem dX0_text_28 : decode cX0_text 28 = .ok (.getfield 46, 3) := dk_180 0 46 (dk_at dksX0_text_1 6 rfl rfl)
theorem dX0_text_31 : decode cX0_text 31 = .ok (.getfield 243, 3) := dk_180 0 243 (dk_at dksX0_text_1 9 rfl rfl)
theorem dX0_text_34 : decode cX0_text 34 = .ok (.aload_n 0, 1) := dk_42 (dk_at dksX0_text_1 12 rfl rfl)
theorem dX0_text_35 : decode cX0_text 35 = .ok (.getfield 46, 3) := dk_180 0 46 (dk_at dksX0_text_1 13 rfl rfl)
theorem dX0_text_38 : decode cX0_text 38 = .ok (.getfield 240, 3) := dk_180 0 240 (dk_at dksX0_text_1 16 rfl rfl)
theorem dX0_text_41 : decode cX0_text 41 = .ok (.aload_n 1, 1) := dk_43 (dk_at dksX0_text_1 19 rfl rfl)
theorem dX0_text_42 : decode cX0_text 42 = .ok (.aastore, 1) := dk_83 (dk_at dksX0_text_1 20 rfl rfl)
theorem dX0_text_43 : decode cX0_text 43 = .ok (.aload_n 0, 1) := dk_42 (dk_at dksX0_text_1 21 rfl rfl)
theorem dX0_text_44 : decode cX0_text 44 = .ok (.getfield 46, 3) := dk_180 0 46 (dk_at dksX0_text_2 0 rfl rfl)
theorem dX0_text_47 : decode cX0_text 47 = .ok (.dup, 1) := dk_89 (dk_at dksX0_text_2 3 rfl rfl)
theorem dX0_text_48 : decode cX0_text 48 = .ok (.getfield 240, 3) := dk_180 0 240 (dk_at dksX0_text_2 4 rfl rfl)
theorem dX0_text_51 : decode cX0_text 51 = .ok (.iconst 1, 1) := dk_4 (dk_at dksX0_text_2 7 rfl rfl)
theorem dX0_text_52 : decode cX0_text 52 = .ok (.iadd, 1) := dk_96 (dk_at dksX0_text_2 8 rfl rfl)
theorem dX0_text_53 : decode cX0_text 53 = .ok (.putfield 240, 3) := dk_181 0 240 (dk_at dksX0_text_2 9 rfl rfl)
theorem dX0_text_56 : decode cX0_text 56 = .ok (.aload_n 0, 1) := dk_42 (dk_at dksX0_text_2 12 rfl rfl)
theorem dX0_text_57 : decode cX0_text 57 = .ok (.getfield 46, 3) := dk_180 0 46 (dk_at dksX0_text_2 13 rfl rfl)
theorem dX0_text_60 : decode cX0_text 60 = .ok (.getfield 240, 3) := dk_180 0 240 (dk_at dksX0_text_2 16 rfl rfl)
theorem dX0_text_63 : decode cX0_text 63 = .ok (.iconst 1, 1) := dk_4 (dk_at dksX0_text_2 19 rfl rfl)
theorem dX0_text_64 : decode cX0_text 64 = .ok (.isub, 1) := dk_100 (dk_at dksX0_text_2 20 rfl rfl)
theorem dX0_text_65 : decode cX0_text 65 = .ok (.istore_n 2, 1) := dk_61 (dk_at dksX0_text_2 21 rfl rfl)
theorem dX0_text_66 : decode cX0_text 66 = .ok (.aload_n 0, 1) := dk_42 (dk_at dksX0_text_2 22 rfl rfl)
theorem dX0_text_67 : decode cX0_text 67 = .ok (.iconst 0, 1) := dk_3 (dk_at dksX0_text_2 23 rfl rfl)
theorem dX0_text_68 : decode cX0_text 68 = .ok (.putfield 125, 3) := dk_181 0 125 (dk_at dksX0_text_3 0 rfl rfl)
theorem dX0_text_71 : decode cX0_text 71 = .ok (.iload_n 2, 1) := dk_28 (dk_at dksX0_text_3 3 rfl rfl)
theorem dX0_text_72 : decode cX0_text 72 = .ok (.ireturn, 1) := dk_172 (dk_at dksX0_text_3 4 rfl rfl)
theorem dX0_text_73 : decode cX0_text 73 = .ok (.astore_n 1, 1) := dk_76 (dk_at dksX0_text_3 5 rfl rfl)
theorem dX0_text_74 : decode cX0_text 74 = .ok (.bipush (-100), 2) := dk_16 156 (dk_at dksX0_text_3 6 rfl rfl)
theorem dX0_text_76 : decode cX0_text 76 = .ok (.aload_n 1, 1) := dk_43 (dk_at dksX0_text_3 8 rfl rfl)
theorem dX0_text_77 : decode cX0_text 77 = .ok (.getfield 137, 3) := dk_180 0 137 (dk_at dksX0_text_3 9 rfl rfl)
theorem dX0_text_80 : decode cX0_text 80 = .ok (.isub, 1) := dk_100 (dk_at dksX0_text_3 12 rfl rfl)
theorem dX0_text_81 : decode cX0_text 81 = .ok (.istore_n 2, 1) := dk_61 (dk_at dksX0_text_3 13 rfl rfl)
theorem dX0_text_82 : decode cX0_text 82 = .ok (.aload_n 0, 1) := dk_42 (dk_at dksX0_text_3 14 rfl rfl)
theorem dX0_text_83 : decode cX0_text 83 = .ok (.iconst 0, 1) := dk_3 (dk_at dksX0_text_3 15 rfl rfl)
theorem dX0_text_84 : decode cX0_text 84 = .ok (.putfield 125, 3) := dk_181 0 125 (dk_at dksX0_text_3 16 rfl rfl)
theorem dX0_text_87 : decode cX0_text 87 = .ok (.iload_n 2, 1) := dk_28 (dk_at dksX0_text_3 19 rfl rfl)
theorem dX0_text_88 : decode cX0_text 88 = .ok (.ireturn, 1) := dk_172 (dk_at dksX0_text_3 20 rfl rfl)
theorem dX0_text_89 : decode cX0_text 89 = .ok (.astore_n 3, 1) := dk_78 (dk_at dksX0_text_3 21 rfl rfl)
theorem dX0_text_90 : decode cX0_text 90 = .ok (.aload_n 0, 1) := dk_42 (dk_at dksX0_text_3 22 rfl rfl)
theorem dX0_text_91 : decode cX0_text 91 = .ok (.iconst 0, 1) := dk_3 (dk_at dksX0_text_3 23 rfl rfl)
theorem dX0_text_92 : decode cX0_text 92 = .ok (.putfield 125, 3) := dk_181 0 125 (dk_at dksX0_text_4 0 rfl rfl)
theorem dX0_text_95 : decode cX0_text 95 = .ok (.aload_n 3, 1) := dk_45 (dk_at dksX0_text_4 3 rfl rfl)
theorem dX0_text_96 : decode cX0_text 96 = .ok (.athrow, 1) := dk_191 (dk_at dksX0_text_4 4 rfl rfl)
abbrev cX0_textRead : ByteArray := prog_1_method_29_code
def yX0_textRead : MethodName := ⟨RX0, "textRead", "()LStrokesHeard$Text;"⟩
def dkwX0_textRead_3 : List UInt8 := [180, 0, 205, 183, 0, 233, 176]
abbrev dktX0_textRead_3 : List UInt8 := dkwX0_textRead_3 ++ []
def dkwX0_textRead_2 : List UInt8 := [180, 0, 134, 42, 180, 0, 143, 162, 0, 7, 42, 182, 0, 153, 187, 0, 231, 89, 42, 180, 0, 196, 43, 42]
abbrev dktX0_textRead_2 : List UInt8 := dkwX0_textRead_2 ++ dktX0_textRead_3
def dkwX0_textRead_1 : List UInt8 := [3, 181, 0, 205, 42, 182, 0, 166, 42, 42, 182, 0, 224, 181, 0, 196, 42, 182, 0, 227, 76, 42]
abbrev dktX0_textRead_1 : List UInt8 := dkwX0_textRead_1 ++ dktX0_textRead_2
def dkwX0_textRead_0 : List UInt8 := [42, 42, 180, 0, 125, 181, 0, 143, 42, 3, 181, 0, 140, 42, 3, 181, 0, 202, 42, 3, 181, 0, 199, 42]
abbrev dktX0_textRead_0 : List UInt8 := dkwX0_textRead_0 ++ dktX0_textRead_1
theorem dksX0_textRead_0 : cX0_textRead.data.toList.drop 0 = dktX0_textRead_0 := by decide +kernel
theorem dksX0_textRead_1 : cX0_textRead.data.toList.drop 24 = dktX0_textRead_1 := dk_seg dksX0_textRead_0 24 rfl rfl
theorem dksX0_textRead_2 : cX0_textRead.data.toList.drop 46 = dktX0_textRead_2 := dk_seg dksX0_textRead_1 22 rfl rfl
theorem dksX0_textRead_3 : cX0_textRead.data.toList.drop 70 = dktX0_textRead_3 := dk_seg dksX0_textRead_2 24 rfl rfl
theorem dX0_textRead_0 : decode cX0_textRead 0 = .ok (.aload_n 0, 1) := dk_42 (dk_at dksX0_textRead_0 0 rfl rfl)
theorem dX0_textRead_1 : decode cX0_textRead 1 = .ok (.aload_n 0, 1) := dk_42 (dk_at dksX0_textRead_0 1 rfl rfl)
theorem dX0_textRead_2 : decode cX0_textRead 2 = .ok (.getfield 125, 3) := dk_180 0 125 (dk_at dksX0_textRead_0 2 rfl rfl)
theorem dX0_textRead_5 : decode cX0_textRead 5 = .ok (.putfield 143, 3) := dk_181 0 143 (dk_at dksX0_textRead_0 5 rfl rfl)
theorem dX0_textRead_8 : decode cX0_textRead 8 = .ok (.aload_n 0, 1) := dk_42 (dk_at dksX0_textRead_0 8 rfl rfl)
theorem dX0_textRead_9 : decode cX0_textRead 9 = .ok (.iconst 0, 1) := dk_3 (dk_at dksX0_textRead_0 9 rfl rfl)
theorem dX0_textRead_10 : decode cX0_textRead 10 = .ok (.putfield 140, 3) := dk_181 0 140 (dk_at dksX0_textRead_0 10 rfl rfl)
theorem dX0_textRead_13 : decode cX0_textRead 13 = .ok (.aload_n 0, 1) := dk_42 (dk_at dksX0_textRead_0 13 rfl rfl)
theorem dX0_textRead_14 : decode cX0_textRead 14 = .ok (.iconst 0, 1) := dk_3 (dk_at dksX0_textRead_0 14 rfl rfl)
theorem dX0_textRead_15 : decode cX0_textRead 15 = .ok (.putfield 202, 3) := dk_181 0 202 (dk_at dksX0_textRead_0 15 rfl rfl)
theorem dX0_textRead_18 : decode cX0_textRead 18 = .ok (.aload_n 0, 1) := dk_42 (dk_at dksX0_textRead_0 18 rfl rfl)
theorem dX0_textRead_19 : decode cX0_textRead 19 = .ok (.iconst 0, 1) := dk_3 (dk_at dksX0_textRead_0 19 rfl rfl)
theorem dX0_textRead_20 : decode cX0_textRead 20 = .ok (.putfield 199, 3) := dk_181 0 199 (dk_at dksX0_textRead_0 20 rfl rfl)
theorem dX0_textRead_23 : decode cX0_textRead 23 = .ok (.aload_n 0, 1) := dk_42 (dk_at dksX0_textRead_0 23 rfl rfl)
theorem dX0_textRead_24 : decode cX0_textRead 24 = .ok (.iconst 0, 1) := dk_3 (dk_at dksX0_textRead_1 0 rfl rfl)
theorem dX0_textRead_25 : decode cX0_textRead 25 = .ok (.putfield 205, 3) := dk_181 0 205 (dk_at dksX0_textRead_1 1 rfl rfl)
theorem dX0_textRead_28 : decode cX0_textRead 28 = .ok (.aload_n 0, 1) := dk_42 (dk_at dksX0_textRead_1 4 rfl rfl)
theorem dX0_textRead_29 : decode cX0_textRead 29 = .ok (.invokevirtual 166, 3) := dk_182 0 166 (dk_at dksX0_textRead_1 5 rfl rfl)
theorem dX0_textRead_32 : decode cX0_textRead 32 = .ok (.aload_n 0, 1) := dk_42 (dk_at dksX0_textRead_1 8 rfl rfl)
theorem dX0_textRead_33 : decode cX0_textRead 33 = .ok (.aload_n 0, 1) := dk_42 (dk_at dksX0_textRead_1 9 rfl rfl)
theorem dX0_textRead_34 : decode cX0_textRead 34 = .ok (.invokevirtual 224, 3) := dk_182 0 224 (dk_at dksX0_textRead_1 10 rfl rfl)
theorem dX0_textRead_37 : decode cX0_textRead 37 = .ok (.putfield 196, 3) := dk_181 0 196 (dk_at dksX0_textRead_1 13 rfl rfl)
theorem dX0_textRead_40 : decode cX0_textRead 40 = .ok (.aload_n 0, 1) := dk_42 (dk_at dksX0_textRead_1 16 rfl rfl)
theorem dX0_textRead_41 : decode cX0_textRead 41 = .ok (.invokevirtual 227, 3) := dk_182 0 227 (dk_at dksX0_textRead_1 17 rfl rfl)
theorem dX0_textRead_44 : decode cX0_textRead 44 = .ok (.astore_n 1, 1) := dk_76 (dk_at dksX0_textRead_1 20 rfl rfl)
theorem dX0_textRead_45 : decode cX0_textRead 45 = .ok (.aload_n 0, 1) := dk_42 (dk_at dksX0_textRead_1 21 rfl rfl)
theorem dX0_textRead_46 : decode cX0_textRead 46 = .ok (.getfield 134, 3) := dk_180 0 134 (dk_at dksX0_textRead_2 0 rfl rfl)
theorem dX0_textRead_49 : decode cX0_textRead 49 = .ok (.aload_n 0, 1) := dk_42 (dk_at dksX0_textRead_2 3 rfl rfl)
theorem dX0_textRead_50 : decode cX0_textRead 50 = .ok (.getfield 143, 3) := dk_180 0 143 (dk_at dksX0_textRead_2 4 rfl rfl)
theorem dX0_textRead_53 : decode cX0_textRead 53 = .ok (.if_icmp .ge 7, 3) := dk_162 0 7 (dk_at dksX0_textRead_2 7 rfl rfl)
theorem dX0_textRead_56 : decode cX0_textRead 56 = .ok (.aload_n 0, 1) := dk_42 (dk_at dksX0_textRead_2 10 rfl rfl)
theorem dX0_textRead_57 : decode cX0_textRead 57 = .ok (.invokevirtual 153, 3) := dk_182 0 153 (dk_at dksX0_textRead_2 11 rfl rfl)
theorem dX0_textRead_60 : decode cX0_textRead 60 = .ok (.new 231, 3) := dk_187 0 231 (dk_at dksX0_textRead_2 14 rfl rfl)
theorem dX0_textRead_63 : decode cX0_textRead 63 = .ok (.dup, 1) := dk_89 (dk_at dksX0_textRead_2 17 rfl rfl)
theorem dX0_textRead_64 : decode cX0_textRead 64 = .ok (.aload_n 0, 1) := dk_42 (dk_at dksX0_textRead_2 18 rfl rfl)
theorem dX0_textRead_65 : decode cX0_textRead 65 = .ok (.getfield 196, 3) := dk_180 0 196 (dk_at dksX0_textRead_2 19 rfl rfl)
theorem dX0_textRead_68 : decode cX0_textRead 68 = .ok (.aload_n 1, 1) := dk_43 (dk_at dksX0_textRead_2 22 rfl rfl)
theorem dX0_textRead_69 : decode cX0_textRead 69 = .ok (.aload_n 0, 1) := dk_42 (dk_at dksX0_textRead_2 23 rfl rfl)
theorem dX0_textRead_70 : decode cX0_textRead 70 = .ok (.getfield 205, 3) := dk_180 0 205 (dk_at dksX0_textRead_3 0 rfl rfl)
theorem dX0_textRead_73 : decode cX0_textRead 73 = .ok (.invokespecial 233, 3) := dk_183 0 233 (dk_at dksX0_textRead_3 3 rfl rfl)
theorem dX0_textRead_76 : decode cX0_textRead 76 = .ok (.areturn, 1) := dk_176 (dk_at dksX0_textRead_3 6 rfl rfl)
abbrev cX0_goes : ByteArray := prog_1_method_16_code
def yX0_goes : MethodName := ⟨RX0, "goes", "()V"⟩
def dkwX0_goes_12 : List UInt8 := [29, 153, 0, 7, 42, 182, 0, 153, 177]
abbrev dktX0_goes_12 : List UInt8 := dkwX0_goes_12 ++ []
def dkwX0_goes_11 : List UInt8 := [100, 51, 184, 0, 150, 153, 0, 7, 4, 167, 0, 4, 3, 54, 4, 21, 4, 153, 0, 15, 28, 154, 0, 7]
abbrev dktX0_goes_11 : List UInt8 := dkwX0_goes_11 ++ dktX0_goes_12
def dkwX0_goes_10 : List UInt8 := [27, 158, 0, 35, 42, 180, 0, 63, 27, 4, 100, 51, 184, 0, 146, 154, 0, 17, 42, 180, 0, 63, 27, 4]
abbrev dktX0_goes_10 : List UInt8 := dkwX0_goes_10 ++ dktX0_goes_11
def dkwX0_goes_9 : List UInt8 := [180, 0, 143, 162, 0, 13, 42, 89, 180, 0, 140, 4, 96, 181, 0, 140, 42, 180, 0, 134, 27, 160, 0, 39]
abbrev dktX0_goes_9 : List UInt8 := dkwX0_goes_9 ++ dktX0_goes_10
def dkwX0_goes_8 : List UInt8 := [184, 0, 150, 153, 0, 37, 42, 89, 180, 0, 140, 4, 96, 181, 0, 140, 167, 255, 220, 42, 180, 0, 134, 42]
abbrev dktX0_goes_8 : List UInt8 := dkwX0_goes_8 ++ dktX0_goes_9
def dkwX0_goes_7 : List UInt8 := [29, 153, 0, 42, 42, 180, 0, 140, 42, 180, 0, 143, 162, 0, 52, 42, 180, 0, 63, 42, 180, 0, 140, 51]
abbrev dktX0_goes_7 : List UInt8 := dkwX0_goes_7 ++ dktX0_goes_8
def dkwX0_goes_6 : List UInt8 := [42, 180, 0, 140, 51, 184, 0, 146, 153, 0, 80, 42, 89, 180, 0, 140, 4, 96, 181, 0, 140, 167, 255, 220]
abbrev dktX0_goes_6 : List UInt8 := dkwX0_goes_6 ++ dktX0_goes_7
def dkwX0_goes_5 : List UInt8 := [167, 0, 4, 3, 62, 28, 153, 0, 42, 42, 180, 0, 140, 42, 180, 0, 143, 162, 0, 95, 42, 180, 0, 63]
abbrev dktX0_goes_5 : List UInt8 := dkwX0_goes_5 ++ dktX0_goes_6
def dkwX0_goes_4 : List UInt8 := [42, 180, 0, 143, 162, 0, 22, 42, 180, 0, 63, 42, 180, 0, 134, 51, 184, 0, 150, 153, 0, 7, 4]
abbrev dktX0_goes_4 : List UInt8 := dkwX0_goes_4 ++ dktX0_goes_5
def dkwX0_goes_3 : List UInt8 := [180, 0, 63, 42, 180, 0, 134, 51, 184, 0, 146, 153, 0, 7, 4, 167, 0, 4, 3, 61, 42, 180, 0, 134]
abbrev dktX0_goes_3 : List UInt8 := dkwX0_goes_3 ++ dktX0_goes_4
def dkwX0_goes_2 : List UInt8 := [167, 255, 221, 42, 42, 180, 0, 134, 181, 0, 140, 42, 180, 0, 134, 42, 180, 0, 143, 162, 0, 22, 42]
abbrev dktX0_goes_2 : List UInt8 := dkwX0_goes_2 ++ dktX0_goes_3
def dkwX0_goes_1 : List UInt8 := [42, 180, 0, 63, 42, 180, 0, 134, 51, 16, 32, 160, 0, 16, 42, 89, 180, 0, 134, 4, 96, 181, 0, 134]
abbrev dktX0_goes_1 : List UInt8 := dkwX0_goes_1 ++ dktX0_goes_2
def dkwX0_goes_0 : List UInt8 := [42, 180, 0, 140, 60, 42, 42, 180, 0, 140, 181, 0, 134, 42, 180, 0, 134, 42, 180, 0, 143, 162, 0, 30]
abbrev dktX0_goes_0 : List UInt8 := dkwX0_goes_0 ++ dktX0_goes_1
theorem dksX0_goes_0 : cX0_goes.data.toList.drop 0 = dktX0_goes_0 := by decide +kernel
theorem dksX0_goes_1 : cX0_goes.data.toList.drop 24 = dktX0_goes_1 := dk_seg dksX0_goes_0 24 rfl rfl
theorem dksX0_goes_2 : cX0_goes.data.toList.drop 48 = dktX0_goes_2 := dk_seg dksX0_goes_1 24 rfl rfl
theorem dksX0_goes_3 : cX0_goes.data.toList.drop 71 = dktX0_goes_3 := dk_seg dksX0_goes_2 23 rfl rfl
theorem dksX0_goes_4 : cX0_goes.data.toList.drop 95 = dktX0_goes_4 := dk_seg dksX0_goes_3 24 rfl rfl
theorem dksX0_goes_5 : cX0_goes.data.toList.drop 118 = dktX0_goes_5 := dk_seg dksX0_goes_4 23 rfl rfl
theorem dksX0_goes_6 : cX0_goes.data.toList.drop 142 = dktX0_goes_6 := dk_seg dksX0_goes_5 24 rfl rfl
theorem dksX0_goes_7 : cX0_goes.data.toList.drop 166 = dktX0_goes_7 := dk_seg dksX0_goes_6 24 rfl rfl
theorem dksX0_goes_8 : cX0_goes.data.toList.drop 190 = dktX0_goes_8 := dk_seg dksX0_goes_7 24 rfl rfl
theorem dksX0_goes_9 : cX0_goes.data.toList.drop 214 = dktX0_goes_9 := dk_seg dksX0_goes_8 24 rfl rfl
theorem dksX0_goes_10 : cX0_goes.data.toList.drop 238 = dktX0_goes_10 := dk_seg dksX0_goes_9 24 rfl rfl
theorem dksX0_goes_11 : cX0_goes.data.toList.drop 262 = dktX0_goes_11 := dk_seg dksX0_goes_10 24 rfl rfl
theorem dksX0_goes_12 : cX0_goes.data.toList.drop 286 = dktX0_goes_12 := dk_seg dksX0_goes_11 24 rfl rfl
theorem dX0_goes_0 : decode cX0_goes 0 = .ok (.aload_n 0, 1) := dk_42 (dk_at dksX0_goes_0 0 rfl rfl)
theorem dX0_goes_1 : decode cX0_goes 1 = .ok (.getfield 140, 3) := dk_180 0 140 (dk_at dksX0_goes_0 1 rfl rfl)
theorem dX0_goes_4 : decode cX0_goes 4 = .ok (.istore_n 1, 1) := dk_60 (dk_at dksX0_goes_0 4 rfl rfl)
theorem dX0_goes_5 : decode cX0_goes 5 = .ok (.aload_n 0, 1) := dk_42 (dk_at dksX0_goes_0 5 rfl rfl)
theorem dX0_goes_6 : decode cX0_goes 6 = .ok (.aload_n 0, 1) := dk_42 (dk_at dksX0_goes_0 6 rfl rfl)
theorem dX0_goes_7 : decode cX0_goes 7 = .ok (.getfield 140, 3) := dk_180 0 140 (dk_at dksX0_goes_0 7 rfl rfl)
theorem dX0_goes_10 : decode cX0_goes 10 = .ok (.putfield 134, 3) := dk_181 0 134 (dk_at dksX0_goes_0 10 rfl rfl)
theorem dX0_goes_13 : decode cX0_goes 13 = .ok (.aload_n 0, 1) := dk_42 (dk_at dksX0_goes_0 13 rfl rfl)
theorem dX0_goes_14 : decode cX0_goes 14 = .ok (.getfield 134, 3) := dk_180 0 134 (dk_at dksX0_goes_0 14 rfl rfl)
theorem dX0_goes_17 : decode cX0_goes 17 = .ok (.aload_n 0, 1) := dk_42 (dk_at dksX0_goes_0 17 rfl rfl)
theorem dX0_goes_18 : decode cX0_goes 18 = .ok (.getfield 143, 3) := dk_180 0 143 (dk_at dksX0_goes_0 18 rfl rfl)
theorem dX0_goes_21 : decode cX0_goes 21 = .ok (.if_icmp .ge 30, 3) := dk_162 0 30 (dk_at dksX0_goes_0 21 rfl rfl)
theorem dX0_goes_24 : decode cX0_goes 24 = .ok (.aload_n 0, 1) := dk_42 (dk_at dksX0_goes_1 0 rfl rfl)
theorem dX0_goes_25 : decode cX0_goes 25 = .ok (.getfield 63, 3) := dk_180 0 63 (dk_at dksX0_goes_1 1 rfl rfl)
theorem dX0_goes_28 : decode cX0_goes 28 = .ok (.aload_n 0, 1) := dk_42 (dk_at dksX0_goes_1 4 rfl rfl)
theorem dX0_goes_29 : decode cX0_goes 29 = .ok (.getfield 134, 3) := dk_180 0 134 (dk_at dksX0_goes_1 5 rfl rfl)
theorem dX0_goes_32 : decode cX0_goes 32 = .ok (.baload, 1) := dk_51 (dk_at dksX0_goes_1 8 rfl rfl)
theorem dX0_goes_33 : decode cX0_goes 33 = .ok (.bipush 32, 2) := dk_16 32 (dk_at dksX0_goes_1 9 rfl rfl)
theorem dX0_goes_35 : decode cX0_goes 35 = .ok (.if_icmp .ne 16, 3) := dk_160 0 16 (dk_at dksX0_goes_1 11 rfl rfl)
theorem dX0_goes_38 : decode cX0_goes 38 = .ok (.aload_n 0, 1) := dk_42 (dk_at dksX0_goes_1 14 rfl rfl)
theorem dX0_goes_39 : decode cX0_goes 39 = .ok (.dup, 1) := dk_89 (dk_at dksX0_goes_1 15 rfl rfl)
theorem dX0_goes_40 : decode cX0_goes 40 = .ok (.getfield 134, 3) := dk_180 0 134 (dk_at dksX0_goes_1 16 rfl rfl)
theorem dX0_goes_43 : decode cX0_goes 43 = .ok (.iconst 1, 1) := dk_4 (dk_at dksX0_goes_1 19 rfl rfl)
theorem dX0_goes_44 : decode cX0_goes 44 = .ok (.iadd, 1) := dk_96 (dk_at dksX0_goes_1 20 rfl rfl)
theorem dX0_goes_45 : decode cX0_goes 45 = .ok (.putfield 134, 3) := dk_181 0 134 (dk_at dksX0_goes_1 21 rfl rfl)
theorem dX0_goes_48 : decode cX0_goes 48 = .ok (.goto (-35), 3) := dk_167 255 221 (dk_at dksX0_goes_2 0 rfl rfl)
theorem dX0_goes_51 : decode cX0_goes 51 = .ok (.aload_n 0, 1) := dk_42 (dk_at dksX0_goes_2 3 rfl rfl)
theorem dX0_goes_52 : decode cX0_goes 52 = .ok (.aload_n 0, 1) := dk_42 (dk_at dksX0_goes_2 4 rfl rfl)
theorem dX0_goes_53 : decode cX0_goes 53 = .ok (.getfield 134, 3) := dk_180 0 134 (dk_at dksX0_goes_2 5 rfl rfl)
theorem dX0_goes_56 : decode cX0_goes 56 = .ok (.putfield 140, 3) := dk_181 0 140 (dk_at dksX0_goes_2 8 rfl rfl)
theorem dX0_goes_59 : decode cX0_goes 59 = .ok (.aload_n 0, 1) := dk_42 (dk_at dksX0_goes_2 11 rfl rfl)
theorem dX0_goes_60 : decode cX0_goes 60 = .ok (.getfield 134, 3) := dk_180 0 134 (dk_at dksX0_goes_2 12 rfl rfl)
theorem dX0_goes_63 : decode cX0_goes 63 = .ok (.aload_n 0, 1) := dk_42 (dk_at dksX0_goes_2 15 rfl rfl)
theorem dX0_goes_64 : decode cX0_goes 64 = .ok (.getfield 143, 3) := dk_180 0 143 (dk_at dksX0_goes_2 16 rfl rfl)
theorem dX0_goes_67 : decode cX0_goes 67 = .ok (.if_icmp .ge 22, 3) := dk_162 0 22 (dk_at dksX0_goes_2 19 rfl rfl)
theorem dX0_goes_70 : decode cX0_goes 70 = .ok (.aload_n 0, 1) := dk_42 (dk_at dksX0_goes_2 22 rfl rfl)
theorem dX0_goes_71 : decode cX0_goes 71 = .ok (.getfield 63, 3) := dk_180 0 63 (dk_at dksX0_goes_3 0 rfl rfl)
theorem dX0_goes_74 : decode cX0_goes 74 = .ok (.aload_n 0, 1) := dk_42 (dk_at dksX0_goes_3 3 rfl rfl)
theorem dX0_goes_75 : decode cX0_goes 75 = .ok (.getfield 134, 3) := dk_180 0 134 (dk_at dksX0_goes_3 4 rfl rfl)
theorem dX0_goes_78 : decode cX0_goes 78 = .ok (.baload, 1) := dk_51 (dk_at dksX0_goes_3 7 rfl rfl)
theorem dX0_goes_79 : decode cX0_goes 79 = .ok (.invokestatic 146, 3) := dk_184 0 146 (dk_at dksX0_goes_3 8 rfl rfl)
theorem dX0_goes_82 : decode cX0_goes 82 = .ok (.ifCond .eq 7, 3) := dk_153 0 7 (dk_at dksX0_goes_3 11 rfl rfl)
theorem dX0_goes_85 : decode cX0_goes 85 = .ok (.iconst 1, 1) := dk_4 (dk_at dksX0_goes_3 14 rfl rfl)
theorem dX0_goes_86 : decode cX0_goes 86 = .ok (.goto 4, 3) := dk_167 0 4 (dk_at dksX0_goes_3 15 rfl rfl)
theorem dX0_goes_89 : decode cX0_goes 89 = .ok (.iconst 0, 1) := dk_3 (dk_at dksX0_goes_3 18 rfl rfl)
theorem dX0_goes_90 : decode cX0_goes 90 = .ok (.istore_n 2, 1) := dk_61 (dk_at dksX0_goes_3 19 rfl rfl)
theorem dX0_goes_91 : decode cX0_goes 91 = .ok (.aload_n 0, 1) := dk_42 (dk_at dksX0_goes_3 20 rfl rfl)
theorem dX0_goes_92 : decode cX0_goes 92 = .ok (.getfield 134, 3) := dk_180 0 134 (dk_at dksX0_goes_3 21 rfl rfl)
theorem dX0_goes_95 : decode cX0_goes 95 = .ok (.aload_n 0, 1) := dk_42 (dk_at dksX0_goes_4 0 rfl rfl)
theorem dX0_goes_96 : decode cX0_goes 96 = .ok (.getfield 143, 3) := dk_180 0 143 (dk_at dksX0_goes_4 1 rfl rfl)
theorem dX0_goes_99 : decode cX0_goes 99 = .ok (.if_icmp .ge 22, 3) := dk_162 0 22 (dk_at dksX0_goes_4 4 rfl rfl)
theorem dX0_goes_102 : decode cX0_goes 102 = .ok (.aload_n 0, 1) := dk_42 (dk_at dksX0_goes_4 7 rfl rfl)
theorem dX0_goes_103 : decode cX0_goes 103 = .ok (.getfield 63, 3) := dk_180 0 63 (dk_at dksX0_goes_4 8 rfl rfl)
theorem dX0_goes_106 : decode cX0_goes 106 = .ok (.aload_n 0, 1) := dk_42 (dk_at dksX0_goes_4 11 rfl rfl)
theorem dX0_goes_107 : decode cX0_goes 107 = .ok (.getfield 134, 3) := dk_180 0 134 (dk_at dksX0_goes_4 12 rfl rfl)
theorem dX0_goes_110 : decode cX0_goes 110 = .ok (.baload, 1) := dk_51 (dk_at dksX0_goes_4 15 rfl rfl)
theorem dX0_goes_111 : decode cX0_goes 111 = .ok (.invokestatic 150, 3) := dk_184 0 150 (dk_at dksX0_goes_4 16 rfl rfl)
theorem dX0_goes_114 : decode cX0_goes 114 = .ok (.ifCond .eq 7, 3) := dk_153 0 7 (dk_at dksX0_goes_4 19 rfl rfl)
theorem dX0_goes_117 : decode cX0_goes 117 = .ok (.iconst 1, 1) := dk_4 (dk_at dksX0_goes_4 22 rfl rfl)
theorem dX0_goes_118 : decode cX0_goes 118 = .ok (.goto 4, 3) := dk_167 0 4 (dk_at dksX0_goes_5 0 rfl rfl)
theorem dX0_goes_121 : decode cX0_goes 121 = .ok (.iconst 0, 1) := dk_3 (dk_at dksX0_goes_5 3 rfl rfl)
theorem dX0_goes_122 : decode cX0_goes 122 = .ok (.istore_n 3, 1) := dk_62 (dk_at dksX0_goes_5 4 rfl rfl)
theorem dX0_goes_123 : decode cX0_goes 123 = .ok (.iload_n 2, 1) := dk_28 (dk_at dksX0_goes_5 5 rfl rfl)
theorem dX0_goes_124 : decode cX0_goes 124 = .ok (.ifCond .eq 42, 3) := dk_153 0 42 (dk_at dksX0_goes_5 6 rfl rfl)
theorem dX0_goes_127 : decode cX0_goes 127 = .ok (.aload_n 0, 1) := dk_42 (dk_at dksX0_goes_5 9 rfl rfl)
theorem dX0_goes_128 : decode cX0_goes 128 = .ok (.getfield 140, 3) := dk_180 0 140 (dk_at dksX0_goes_5 10 rfl rfl)
theorem dX0_goes_131 : decode cX0_goes 131 = .ok (.aload_n 0, 1) := dk_42 (dk_at dksX0_goes_5 13 rfl rfl)
theorem dX0_goes_132 : decode cX0_goes 132 = .ok (.getfield 143, 3) := dk_180 0 143 (dk_at dksX0_goes_5 14 rfl rfl)
theorem dX0_goes_135 : decode cX0_goes 135 = .ok (.if_icmp .ge 95, 3) := dk_162 0 95 (dk_at dksX0_goes_5 17 rfl rfl)
theorem dX0_goes_138 : decode cX0_goes 138 = .ok (.aload_n 0, 1) := dk_42 (dk_at dksX0_goes_5 20 rfl rfl)
theorem dX0_goes_139 : decode cX0_goes 139 = .ok (.getfield 63, 3) := dk_180 0 63 (dk_at dksX0_goes_5 21 rfl rfl)
theorem dX0_goes_142 : decode cX0_goes 142 = .ok (.aload_n 0, 1) := dk_42 (dk_at dksX0_goes_6 0 rfl rfl)
theorem dX0_goes_143 : decode cX0_goes 143 = .ok (.getfield 140, 3) := dk_180 0 140 (dk_at dksX0_goes_6 1 rfl rfl)
theorem dX0_goes_146 : decode cX0_goes 146 = .ok (.baload, 1) := dk_51 (dk_at dksX0_goes_6 4 rfl rfl)
theorem dX0_goes_147 : decode cX0_goes 147 = .ok (.invokestatic 146, 3) := dk_184 0 146 (dk_at dksX0_goes_6 5 rfl rfl)
theorem dX0_goes_150 : decode cX0_goes 150 = .ok (.ifCond .eq 80, 3) := dk_153 0 80 (dk_at dksX0_goes_6 8 rfl rfl)
theorem dX0_goes_153 : decode cX0_goes 153 = .ok (.aload_n 0, 1) := dk_42 (dk_at dksX0_goes_6 11 rfl rfl)
theorem dX0_goes_154 : decode cX0_goes 154 = .ok (.dup, 1) := dk_89 (dk_at dksX0_goes_6 12 rfl rfl)
theorem dX0_goes_155 : decode cX0_goes 155 = .ok (.getfield 140, 3) := dk_180 0 140 (dk_at dksX0_goes_6 13 rfl rfl)
theorem dX0_goes_158 : decode cX0_goes 158 = .ok (.iconst 1, 1) := dk_4 (dk_at dksX0_goes_6 16 rfl rfl)
theorem dX0_goes_159 : decode cX0_goes 159 = .ok (.iadd, 1) := dk_96 (dk_at dksX0_goes_6 17 rfl rfl)
theorem dX0_goes_160 : decode cX0_goes 160 = .ok (.putfield 140, 3) := dk_181 0 140 (dk_at dksX0_goes_6 18 rfl rfl)
theorem dX0_goes_163 : decode cX0_goes 163 = .ok (.goto (-36), 3) := dk_167 255 220 (dk_at dksX0_goes_6 21 rfl rfl)
theorem dX0_goes_166 : decode cX0_goes 166 = .ok (.iload_n 3, 1) := dk_29 (dk_at dksX0_goes_7 0 rfl rfl)
theorem dX0_goes_167 : decode cX0_goes 167 = .ok (.ifCond .eq 42, 3) := dk_153 0 42 (dk_at dksX0_goes_7 1 rfl rfl)
theorem dX0_goes_170 : decode cX0_goes 170 = .ok (.aload_n 0, 1) := dk_42 (dk_at dksX0_goes_7 4 rfl rfl)
theorem dX0_goes_171 : decode cX0_goes 171 = .ok (.getfield 140, 3) := dk_180 0 140 (dk_at dksX0_goes_7 5 rfl rfl)
theorem dX0_goes_174 : decode cX0_goes 174 = .ok (.aload_n 0, 1) := dk_42 (dk_at dksX0_goes_7 8 rfl rfl)
theorem dX0_goes_175 : decode cX0_goes 175 = .ok (.getfield 143, 3) := dk_180 0 143 (dk_at dksX0_goes_7 9 rfl rfl)
theorem dX0_goes_178 : decode cX0_goes 178 = .ok (.if_icmp .ge 52, 3) := dk_162 0 52 (dk_at dksX0_goes_7 12 rfl rfl)
theorem dX0_goes_181 : decode cX0_goes 181 = .ok (.aload_n 0, 1) := dk_42 (dk_at dksX0_goes_7 15 rfl rfl)
theorem dX0_goes_182 : decode cX0_goes 182 = .ok (.getfield 63, 3) := dk_180 0 63 (dk_at dksX0_goes_7 16 rfl rfl)
theorem dX0_goes_185 : decode cX0_goes 185 = .ok (.aload_n 0, 1) := dk_42 (dk_at dksX0_goes_7 19 rfl rfl)
theorem dX0_goes_186 : decode cX0_goes 186 = .ok (.getfield 140, 3) := dk_180 0 140 (dk_at dksX0_goes_7 20 rfl rfl)
theorem dX0_goes_189 : decode cX0_goes 189 = .ok (.baload, 1) := dk_51 (dk_at dksX0_goes_7 23 rfl rfl)
theorem dX0_goes_190 : decode cX0_goes 190 = .ok (.invokestatic 150, 3) := dk_184 0 150 (dk_at dksX0_goes_8 0 rfl rfl)
theorem dX0_goes_193 : decode cX0_goes 193 = .ok (.ifCond .eq 37, 3) := dk_153 0 37 (dk_at dksX0_goes_8 3 rfl rfl)
theorem dX0_goes_196 : decode cX0_goes 196 = .ok (.aload_n 0, 1) := dk_42 (dk_at dksX0_goes_8 6 rfl rfl)
theorem dX0_goes_197 : decode cX0_goes 197 = .ok (.dup, 1) := dk_89 (dk_at dksX0_goes_8 7 rfl rfl)
theorem dX0_goes_198 : decode cX0_goes 198 = .ok (.getfield 140, 3) := dk_180 0 140 (dk_at dksX0_goes_8 8 rfl rfl)
theorem dX0_goes_201 : decode cX0_goes 201 = .ok (.iconst 1, 1) := dk_4 (dk_at dksX0_goes_8 11 rfl rfl)
theorem dX0_goes_202 : decode cX0_goes 202 = .ok (.iadd, 1) := dk_96 (dk_at dksX0_goes_8 12 rfl rfl)
theorem dX0_goes_203 : decode cX0_goes 203 = .ok (.putfield 140, 3) := dk_181 0 140 (dk_at dksX0_goes_8 13 rfl rfl)
theorem dX0_goes_206 : decode cX0_goes 206 = .ok (.goto (-36), 3) := dk_167 255 220 (dk_at dksX0_goes_8 16 rfl rfl)
theorem dX0_goes_209 : decode cX0_goes 209 = .ok (.aload_n 0, 1) := dk_42 (dk_at dksX0_goes_8 19 rfl rfl)
theorem dX0_goes_210 : decode cX0_goes 210 = .ok (.getfield 134, 3) := dk_180 0 134 (dk_at dksX0_goes_8 20 rfl rfl)
theorem dX0_goes_213 : decode cX0_goes 213 = .ok (.aload_n 0, 1) := dk_42 (dk_at dksX0_goes_8 23 rfl rfl)
theorem dX0_goes_214 : decode cX0_goes 214 = .ok (.getfield 143, 3) := dk_180 0 143 (dk_at dksX0_goes_9 0 rfl rfl)
theorem dX0_goes_217 : decode cX0_goes 217 = .ok (.if_icmp .ge 13, 3) := dk_162 0 13 (dk_at dksX0_goes_9 3 rfl rfl)
theorem dX0_goes_220 : decode cX0_goes 220 = .ok (.aload_n 0, 1) := dk_42 (dk_at dksX0_goes_9 6 rfl rfl)
theorem dX0_goes_221 : decode cX0_goes 221 = .ok (.dup, 1) := dk_89 (dk_at dksX0_goes_9 7 rfl rfl)
theorem dX0_goes_222 : decode cX0_goes 222 = .ok (.getfield 140, 3) := dk_180 0 140 (dk_at dksX0_goes_9 8 rfl rfl)
theorem dX0_goes_225 : decode cX0_goes 225 = .ok (.iconst 1, 1) := dk_4 (dk_at dksX0_goes_9 11 rfl rfl)
theorem dX0_goes_226 : decode cX0_goes 226 = .ok (.iadd, 1) := dk_96 (dk_at dksX0_goes_9 12 rfl rfl)
theorem dX0_goes_227 : decode cX0_goes 227 = .ok (.putfield 140, 3) := dk_181 0 140 (dk_at dksX0_goes_9 13 rfl rfl)
theorem dX0_goes_230 : decode cX0_goes 230 = .ok (.aload_n 0, 1) := dk_42 (dk_at dksX0_goes_9 16 rfl rfl)
theorem dX0_goes_231 : decode cX0_goes 231 = .ok (.getfield 134, 3) := dk_180 0 134 (dk_at dksX0_goes_9 17 rfl rfl)
theorem dX0_goes_234 : decode cX0_goes 234 = .ok (.iload_n 1, 1) := dk_27 (dk_at dksX0_goes_9 20 rfl rfl)
theorem dX0_goes_235 : decode cX0_goes 235 = .ok (.if_icmp .ne 39, 3) := dk_160 0 39 (dk_at dksX0_goes_9 21 rfl rfl)
theorem dX0_goes_238 : decode cX0_goes 238 = .ok (.iload_n 1, 1) := dk_27 (dk_at dksX0_goes_10 0 rfl rfl)
theorem dX0_goes_239 : decode cX0_goes 239 = .ok (.ifCond .le 35, 3) := dk_158 0 35 (dk_at dksX0_goes_10 1 rfl rfl)
theorem dX0_goes_242 : decode cX0_goes 242 = .ok (.aload_n 0, 1) := dk_42 (dk_at dksX0_goes_10 4 rfl rfl)
theorem dX0_goes_243 : decode cX0_goes 243 = .ok (.getfield 63, 3) := dk_180 0 63 (dk_at dksX0_goes_10 5 rfl rfl)
theorem dX0_goes_246 : decode cX0_goes 246 = .ok (.iload_n 1, 1) := dk_27 (dk_at dksX0_goes_10 8 rfl rfl)
theorem dX0_goes_247 : decode cX0_goes 247 = .ok (.iconst 1, 1) := dk_4 (dk_at dksX0_goes_10 9 rfl rfl)
theorem dX0_goes_248 : decode cX0_goes 248 = .ok (.isub, 1) := dk_100 (dk_at dksX0_goes_10 10 rfl rfl)
theorem dX0_goes_249 : decode cX0_goes 249 = .ok (.baload, 1) := dk_51 (dk_at dksX0_goes_10 11 rfl rfl)
theorem dX0_goes_250 : decode cX0_goes 250 = .ok (.invokestatic 146, 3) := dk_184 0 146 (dk_at dksX0_goes_10 12 rfl rfl)
theorem dX0_goes_253 : decode cX0_goes 253 = .ok (.ifCond .ne 17, 3) := dk_154 0 17 (dk_at dksX0_goes_10 15 rfl rfl)
theorem dX0_goes_256 : decode cX0_goes 256 = .ok (.aload_n 0, 1) := dk_42 (dk_at dksX0_goes_10 18 rfl rfl)
theorem dX0_goes_257 : decode cX0_goes 257 = .ok (.getfield 63, 3) := dk_180 0 63 (dk_at dksX0_goes_10 19 rfl rfl)
theorem dX0_goes_260 : decode cX0_goes 260 = .ok (.iload_n 1, 1) := dk_27 (dk_at dksX0_goes_10 22 rfl rfl)
theorem dX0_goes_261 : decode cX0_goes 261 = .ok (.iconst 1, 1) := dk_4 (dk_at dksX0_goes_10 23 rfl rfl)
theorem dX0_goes_262 : decode cX0_goes 262 = .ok (.isub, 1) := dk_100 (dk_at dksX0_goes_11 0 rfl rfl)
theorem dX0_goes_263 : decode cX0_goes 263 = .ok (.baload, 1) := dk_51 (dk_at dksX0_goes_11 1 rfl rfl)
theorem dX0_goes_264 : decode cX0_goes 264 = .ok (.invokestatic 150, 3) := dk_184 0 150 (dk_at dksX0_goes_11 2 rfl rfl)
theorem dX0_goes_267 : decode cX0_goes 267 = .ok (.ifCond .eq 7, 3) := dk_153 0 7 (dk_at dksX0_goes_11 5 rfl rfl)
theorem dX0_goes_270 : decode cX0_goes 270 = .ok (.iconst 1, 1) := dk_4 (dk_at dksX0_goes_11 8 rfl rfl)
theorem dX0_goes_271 : decode cX0_goes 271 = .ok (.goto 4, 3) := dk_167 0 4 (dk_at dksX0_goes_11 9 rfl rfl)
theorem dX0_goes_274 : decode cX0_goes 274 = .ok (.iconst 0, 1) := dk_3 (dk_at dksX0_goes_11 12 rfl rfl)
theorem dX0_goes_275 : decode cX0_goes 275 = .ok (.istore 4, 2) := dk_54 4 (dk_at dksX0_goes_11 13 rfl rfl)
theorem dX0_goes_277 : decode cX0_goes 277 = .ok (.iload 4, 2) := dk_21 4 (dk_at dksX0_goes_11 15 rfl rfl)
theorem dX0_goes_279 : decode cX0_goes 279 = .ok (.ifCond .eq 15, 3) := dk_153 0 15 (dk_at dksX0_goes_11 17 rfl rfl)
theorem dX0_goes_282 : decode cX0_goes 282 = .ok (.iload_n 2, 1) := dk_28 (dk_at dksX0_goes_11 20 rfl rfl)
theorem dX0_goes_283 : decode cX0_goes 283 = .ok (.ifCond .ne 7, 3) := dk_154 0 7 (dk_at dksX0_goes_11 21 rfl rfl)
theorem dX0_goes_286 : decode cX0_goes 286 = .ok (.iload_n 3, 1) := dk_29 (dk_at dksX0_goes_12 0 rfl rfl)
theorem dX0_goes_287 : decode cX0_goes 287 = .ok (.ifCond .eq 7, 3) := dk_153 0 7 (dk_at dksX0_goes_12 1 rfl rfl)
theorem dX0_goes_290 : decode cX0_goes 290 = .ok (.aload_n 0, 1) := dk_42 (dk_at dksX0_goes_12 4 rfl rfl)
theorem dX0_goes_291 : decode cX0_goes 291 = .ok (.invokevirtual 153, 3) := dk_182 0 153 (dk_at dksX0_goes_12 5 rfl rfl)
theorem dX0_goes_294 : decode cX0_goes 294 = .ok (.return_, 1) := dk_177 (dk_at dksX0_goes_12 8 rfl rfl)
abbrev cX0_isLetter : ByteArray := prog_1_method_14_code
def yX0_isLetter : MethodName := ⟨RX0, "isLetter", "(I)Z"⟩
def dkwX0_isLetter_0 : List UInt8 := [26, 16, 97, 16, 122, 184, 0, 108, 172]
abbrev dktX0_isLetter_0 : List UInt8 := dkwX0_isLetter_0 ++ []
theorem dksX0_isLetter_0 : cX0_isLetter.data.toList.drop 0 = dktX0_isLetter_0 := by decide +kernel
theorem dX0_isLetter_0 : decode cX0_isLetter 0 = .ok (.iload_n 0, 1) := dk_26 (dk_at dksX0_isLetter_0 0 rfl rfl)
theorem dX0_isLetter_1 : decode cX0_isLetter 1 = .ok (.bipush 97, 2) := dk_16 97 (dk_at dksX0_isLetter_0 1 rfl rfl)
theorem dX0_isLetter_3 : decode cX0_isLetter 3 = .ok (.bipush 122, 2) := dk_16 122 (dk_at dksX0_isLetter_0 3 rfl rfl)
theorem dX0_isLetter_5 : decode cX0_isLetter 5 = .ok (.invokestatic 108, 3) := dk_184 0 108 (dk_at dksX0_isLetter_0 5 rfl rfl)
theorem dX0_isLetter_8 : decode cX0_isLetter 8 = .ok (.ireturn, 1) := dk_172 (dk_at dksX0_isLetter_0 8 rfl rfl)
abbrev cX0_isDigit : ByteArray := prog_1_method_15_code
def yX0_isDigit : MethodName := ⟨RX0, "isDigit", "(I)Z"⟩
def dkwX0_isDigit_0 : List UInt8 := [26, 16, 48, 16, 57, 184, 0, 108, 172]
abbrev dktX0_isDigit_0 : List UInt8 := dkwX0_isDigit_0 ++ []
theorem dksX0_isDigit_0 : cX0_isDigit.data.toList.drop 0 = dktX0_isDigit_0 := by decide +kernel
theorem dX0_isDigit_0 : decode cX0_isDigit 0 = .ok (.iload_n 0, 1) := dk_26 (dk_at dksX0_isDigit_0 0 rfl rfl)
theorem dX0_isDigit_1 : decode cX0_isDigit 1 = .ok (.bipush 48, 2) := dk_16 48 (dk_at dksX0_isDigit_0 1 rfl rfl)
theorem dX0_isDigit_3 : decode cX0_isDigit 3 = .ok (.bipush 57, 2) := dk_16 57 (dk_at dksX0_isDigit_0 3 rfl rfl)
theorem dX0_isDigit_5 : decode cX0_isDigit 5 = .ok (.invokestatic 108, 3) := dk_184 0 108 (dk_at dksX0_isDigit_0 5 rfl rfl)
theorem dX0_isDigit_8 : decode cX0_isDigit 8 = .ok (.ireturn, 1) := dk_172 (dk_at dksX0_isDigit_0 8 rfl rfl)
abbrev cX0_wrong : ByteArray := prog_1_method_13_code
def yX0_wrong : MethodName := ⟨RX0, "wrong", "()V"⟩
def dkwX0_wrong_0 : List UInt8 := [42, 180, 0, 70, 42, 180, 0, 134, 181, 0, 137, 42, 180, 0, 70, 191]
abbrev dktX0_wrong_0 : List UInt8 := dkwX0_wrong_0 ++ []
theorem dksX0_wrong_0 : cX0_wrong.data.toList.drop 0 = dktX0_wrong_0 := by decide +kernel
theorem dX0_wrong_0 : decode cX0_wrong 0 = .ok (.aload_n 0, 1) := dk_42 (dk_at dksX0_wrong_0 0 rfl rfl)
theorem dX0_wrong_1 : decode cX0_wrong 1 = .ok (.getfield 70, 3) := dk_180 0 70 (dk_at dksX0_wrong_0 1 rfl rfl)
theorem dX0_wrong_4 : decode cX0_wrong 4 = .ok (.aload_n 0, 1) := dk_42 (dk_at dksX0_wrong_0 4 rfl rfl)
theorem dX0_wrong_5 : decode cX0_wrong 5 = .ok (.getfield 134, 3) := dk_180 0 134 (dk_at dksX0_wrong_0 5 rfl rfl)
theorem dX0_wrong_8 : decode cX0_wrong 8 = .ok (.putfield 137, 3) := dk_181 0 137 (dk_at dksX0_wrong_0 8 rfl rfl)
theorem dX0_wrong_11 : decode cX0_wrong 11 = .ok (.aload_n 0, 1) := dk_42 (dk_at dksX0_wrong_0 11 rfl rfl)
theorem dX0_wrong_12 : decode cX0_wrong 12 = .ok (.getfield 70, 3) := dk_180 0 70 (dk_at dksX0_wrong_0 12 rfl rfl)
theorem dX0_wrong_15 : decode cX0_wrong 15 = .ok (.athrow, 1) := dk_191 (dk_at dksX0_wrong_0 15 rfl rfl)
abbrev cX0_key : ByteArray := prog_1_method_28_code
def yX0_key : MethodName := ⟨RX0, "key", "()I"⟩
def dkwX0_key_2 : List UInt8 := [182, 0, 153, 42, 182, 0, 166, 27, 172]
abbrev dktX0_key_2 : List UInt8 := dkwX0_key_2 ++ []
def dkwX0_key_1 : List UInt8 := [167, 0, 17, 42, 18, 222, 182, 0, 216, 153, 0, 7, 5, 167, 0, 4, 2, 60, 27, 2, 160, 0, 7, 42]
abbrev dktX0_key_1 : List UInt8 := dkwX0_key_1 ++ dktX0_key_2
def dkwX0_key_0 : List UInt8 := [42, 18, 214, 182, 0, 216, 153, 0, 7, 3, 167, 0, 30, 42, 18, 220, 182, 0, 216, 153, 0, 7, 4]
abbrev dktX0_key_0 : List UInt8 := dkwX0_key_0 ++ dktX0_key_1
theorem dksX0_key_0 : cX0_key.data.toList.drop 0 = dktX0_key_0 := by decide +kernel
theorem dksX0_key_1 : cX0_key.data.toList.drop 23 = dktX0_key_1 := dk_seg dksX0_key_0 23 rfl rfl
theorem dksX0_key_2 : cX0_key.data.toList.drop 47 = dktX0_key_2 := dk_seg dksX0_key_1 24 rfl rfl
theorem dX0_key_0 : decode cX0_key 0 = .ok (.aload_n 0, 1) := dk_42 (dk_at dksX0_key_0 0 rfl rfl)
theorem dX0_key_1 : decode cX0_key 1 = .ok (.ldc 214, 2) := dk_18 214 (dk_at dksX0_key_0 1 rfl rfl)
theorem dX0_key_3 : decode cX0_key 3 = .ok (.invokevirtual 216, 3) := dk_182 0 216 (dk_at dksX0_key_0 3 rfl rfl)
theorem dX0_key_6 : decode cX0_key 6 = .ok (.ifCond .eq 7, 3) := dk_153 0 7 (dk_at dksX0_key_0 6 rfl rfl)
theorem dX0_key_9 : decode cX0_key 9 = .ok (.iconst 0, 1) := dk_3 (dk_at dksX0_key_0 9 rfl rfl)
theorem dX0_key_10 : decode cX0_key 10 = .ok (.goto 30, 3) := dk_167 0 30 (dk_at dksX0_key_0 10 rfl rfl)
theorem dX0_key_13 : decode cX0_key 13 = .ok (.aload_n 0, 1) := dk_42 (dk_at dksX0_key_0 13 rfl rfl)
theorem dX0_key_14 : decode cX0_key 14 = .ok (.ldc 220, 2) := dk_18 220 (dk_at dksX0_key_0 14 rfl rfl)
theorem dX0_key_16 : decode cX0_key 16 = .ok (.invokevirtual 216, 3) := dk_182 0 216 (dk_at dksX0_key_0 16 rfl rfl)
theorem dX0_key_19 : decode cX0_key 19 = .ok (.ifCond .eq 7, 3) := dk_153 0 7 (dk_at dksX0_key_0 19 rfl rfl)
theorem dX0_key_22 : decode cX0_key 22 = .ok (.iconst 1, 1) := dk_4 (dk_at dksX0_key_0 22 rfl rfl)
theorem dX0_key_23 : decode cX0_key 23 = .ok (.goto 17, 3) := dk_167 0 17 (dk_at dksX0_key_1 0 rfl rfl)
theorem dX0_key_26 : decode cX0_key 26 = .ok (.aload_n 0, 1) := dk_42 (dk_at dksX0_key_1 3 rfl rfl)
theorem dX0_key_27 : decode cX0_key 27 = .ok (.ldc 222, 2) := dk_18 222 (dk_at dksX0_key_1 4 rfl rfl)
theorem dX0_key_29 : decode cX0_key 29 = .ok (.invokevirtual 216, 3) := dk_182 0 216 (dk_at dksX0_key_1 6 rfl rfl)
theorem dX0_key_32 : decode cX0_key 32 = .ok (.ifCond .eq 7, 3) := dk_153 0 7 (dk_at dksX0_key_1 9 rfl rfl)
theorem dX0_key_35 : decode cX0_key 35 = .ok (.iconst 2, 1) := dk_5 (dk_at dksX0_key_1 12 rfl rfl)
theorem dX0_key_36 : decode cX0_key 36 = .ok (.goto 4, 3) := dk_167 0 4 (dk_at dksX0_key_1 13 rfl rfl)
theorem dX0_key_39 : decode cX0_key 39 = .ok (.iconst (-1), 1) := dk_2 (dk_at dksX0_key_1 16 rfl rfl)
theorem dX0_key_40 : decode cX0_key 40 = .ok (.istore_n 1, 1) := dk_60 (dk_at dksX0_key_1 17 rfl rfl)
theorem dX0_key_41 : decode cX0_key 41 = .ok (.iload_n 1, 1) := dk_27 (dk_at dksX0_key_1 18 rfl rfl)
theorem dX0_key_42 : decode cX0_key 42 = .ok (.iconst (-1), 1) := dk_2 (dk_at dksX0_key_1 19 rfl rfl)
theorem dX0_key_43 : decode cX0_key 43 = .ok (.if_icmp .ne 7, 3) := dk_160 0 7 (dk_at dksX0_key_1 20 rfl rfl)
theorem dX0_key_46 : decode cX0_key 46 = .ok (.aload_n 0, 1) := dk_42 (dk_at dksX0_key_1 23 rfl rfl)
theorem dX0_key_47 : decode cX0_key 47 = .ok (.invokevirtual 153, 3) := dk_182 0 153 (dk_at dksX0_key_2 0 rfl rfl)
theorem dX0_key_50 : decode cX0_key 50 = .ok (.aload_n 0, 1) := dk_42 (dk_at dksX0_key_2 3 rfl rfl)
theorem dX0_key_51 : decode cX0_key 51 = .ok (.invokevirtual 166, 3) := dk_182 0 166 (dk_at dksX0_key_2 4 rfl rfl)
theorem dX0_key_54 : decode cX0_key 54 = .ok (.iload_n 1, 1) := dk_27 (dk_at dksX0_key_2 7 rfl rfl)
theorem dX0_key_55 : decode cX0_key 55 = .ok (.ireturn, 1) := dk_172 (dk_at dksX0_key_2 8 rfl rfl)
abbrev cX0_isWord : ByteArray := prog_1_method_17_code
def yX0_isWord : MethodName := ⟨RX0, "isWord", "(Ljava/lang/String;)Z"⟩
def dkwX0_isWord_2 : List UInt8 := [29, 182, 0, 162, 160, 0, 7, 4, 167, 0, 4, 3, 61, 132, 3, 1, 167, 255, 216, 28, 172]
abbrev dktX0_isWord_2 : List UInt8 := dkwX0_isWord_2 ++ []
def dkwX0_isWord_1 : List UInt8 := [29, 43, 182, 0, 156, 162, 0, 38, 28, 153, 0, 34, 42, 180, 0, 63, 42, 180, 0, 134, 29, 96, 51, 43]
abbrev dktX0_isWord_1 : List UInt8 := dkwX0_isWord_1 ++ dktX0_isWord_2
def dkwX0_isWord_0 : List UInt8 := [42, 180, 0, 140, 42, 180, 0, 134, 100, 43, 182, 0, 156, 160, 0, 7, 4, 167, 0, 4, 3, 61, 3, 62]
abbrev dktX0_isWord_0 : List UInt8 := dkwX0_isWord_0 ++ dktX0_isWord_1
theorem dksX0_isWord_0 : cX0_isWord.data.toList.drop 0 = dktX0_isWord_0 := by decide +kernel
theorem dksX0_isWord_1 : cX0_isWord.data.toList.drop 24 = dktX0_isWord_1 := dk_seg dksX0_isWord_0 24 rfl rfl
theorem dksX0_isWord_2 : cX0_isWord.data.toList.drop 48 = dktX0_isWord_2 := dk_seg dksX0_isWord_1 24 rfl rfl
theorem dX0_isWord_0 : decode cX0_isWord 0 = .ok (.aload_n 0, 1) := dk_42 (dk_at dksX0_isWord_0 0 rfl rfl)
theorem dX0_isWord_1 : decode cX0_isWord 1 = .ok (.getfield 140, 3) := dk_180 0 140 (dk_at dksX0_isWord_0 1 rfl rfl)
theorem dX0_isWord_4 : decode cX0_isWord 4 = .ok (.aload_n 0, 1) := dk_42 (dk_at dksX0_isWord_0 4 rfl rfl)
theorem dX0_isWord_5 : decode cX0_isWord 5 = .ok (.getfield 134, 3) := dk_180 0 134 (dk_at dksX0_isWord_0 5 rfl rfl)
theorem dX0_isWord_8 : decode cX0_isWord 8 = .ok (.isub, 1) := dk_100 (dk_at dksX0_isWord_0 8 rfl rfl)
theorem dX0_isWord_9 : decode cX0_isWord 9 = .ok (.aload_n 1, 1) := dk_43 (dk_at dksX0_isWord_0 9 rfl rfl)
theorem dX0_isWord_10 : decode cX0_isWord 10 = .ok (.invokevirtual 156, 3) := dk_182 0 156 (dk_at dksX0_isWord_0 10 rfl rfl)
theorem dX0_isWord_13 : decode cX0_isWord 13 = .ok (.if_icmp .ne 7, 3) := dk_160 0 7 (dk_at dksX0_isWord_0 13 rfl rfl)
theorem dX0_isWord_16 : decode cX0_isWord 16 = .ok (.iconst 1, 1) := dk_4 (dk_at dksX0_isWord_0 16 rfl rfl)
theorem dX0_isWord_17 : decode cX0_isWord 17 = .ok (.goto 4, 3) := dk_167 0 4 (dk_at dksX0_isWord_0 17 rfl rfl)
theorem dX0_isWord_20 : decode cX0_isWord 20 = .ok (.iconst 0, 1) := dk_3 (dk_at dksX0_isWord_0 20 rfl rfl)
theorem dX0_isWord_21 : decode cX0_isWord 21 = .ok (.istore_n 2, 1) := dk_61 (dk_at dksX0_isWord_0 21 rfl rfl)
theorem dX0_isWord_22 : decode cX0_isWord 22 = .ok (.iconst 0, 1) := dk_3 (dk_at dksX0_isWord_0 22 rfl rfl)
theorem dX0_isWord_23 : decode cX0_isWord 23 = .ok (.istore_n 3, 1) := dk_62 (dk_at dksX0_isWord_0 23 rfl rfl)
theorem dX0_isWord_24 : decode cX0_isWord 24 = .ok (.iload_n 3, 1) := dk_29 (dk_at dksX0_isWord_1 0 rfl rfl)
theorem dX0_isWord_25 : decode cX0_isWord 25 = .ok (.aload_n 1, 1) := dk_43 (dk_at dksX0_isWord_1 1 rfl rfl)
theorem dX0_isWord_26 : decode cX0_isWord 26 = .ok (.invokevirtual 156, 3) := dk_182 0 156 (dk_at dksX0_isWord_1 2 rfl rfl)
theorem dX0_isWord_29 : decode cX0_isWord 29 = .ok (.if_icmp .ge 38, 3) := dk_162 0 38 (dk_at dksX0_isWord_1 5 rfl rfl)
theorem dX0_isWord_32 : decode cX0_isWord 32 = .ok (.iload_n 2, 1) := dk_28 (dk_at dksX0_isWord_1 8 rfl rfl)
theorem dX0_isWord_33 : decode cX0_isWord 33 = .ok (.ifCond .eq 34, 3) := dk_153 0 34 (dk_at dksX0_isWord_1 9 rfl rfl)
theorem dX0_isWord_36 : decode cX0_isWord 36 = .ok (.aload_n 0, 1) := dk_42 (dk_at dksX0_isWord_1 12 rfl rfl)
theorem dX0_isWord_37 : decode cX0_isWord 37 = .ok (.getfield 63, 3) := dk_180 0 63 (dk_at dksX0_isWord_1 13 rfl rfl)
theorem dX0_isWord_40 : decode cX0_isWord 40 = .ok (.aload_n 0, 1) := dk_42 (dk_at dksX0_isWord_1 16 rfl rfl)
theorem dX0_isWord_41 : decode cX0_isWord 41 = .ok (.getfield 134, 3) := dk_180 0 134 (dk_at dksX0_isWord_1 17 rfl rfl)
theorem dX0_isWord_44 : decode cX0_isWord 44 = .ok (.iload_n 3, 1) := dk_29 (dk_at dksX0_isWord_1 20 rfl rfl)
theorem dX0_isWord_45 : decode cX0_isWord 45 = .ok (.iadd, 1) := dk_96 (dk_at dksX0_isWord_1 21 rfl rfl)
theorem dX0_isWord_46 : decode cX0_isWord 46 = .ok (.baload, 1) := dk_51 (dk_at dksX0_isWord_1 22 rfl rfl)
theorem dX0_isWord_47 : decode cX0_isWord 47 = .ok (.aload_n 1, 1) := dk_43 (dk_at dksX0_isWord_1 23 rfl rfl)
theorem dX0_isWord_48 : decode cX0_isWord 48 = .ok (.iload_n 3, 1) := dk_29 (dk_at dksX0_isWord_2 0 rfl rfl)
theorem dX0_isWord_49 : decode cX0_isWord 49 = .ok (.invokevirtual 162, 3) := dk_182 0 162 (dk_at dksX0_isWord_2 1 rfl rfl)
theorem dX0_isWord_52 : decode cX0_isWord 52 = .ok (.if_icmp .ne 7, 3) := dk_160 0 7 (dk_at dksX0_isWord_2 4 rfl rfl)
theorem dX0_isWord_55 : decode cX0_isWord 55 = .ok (.iconst 1, 1) := dk_4 (dk_at dksX0_isWord_2 7 rfl rfl)
theorem dX0_isWord_56 : decode cX0_isWord 56 = .ok (.goto 4, 3) := dk_167 0 4 (dk_at dksX0_isWord_2 8 rfl rfl)
theorem dX0_isWord_59 : decode cX0_isWord 59 = .ok (.iconst 0, 1) := dk_3 (dk_at dksX0_isWord_2 11 rfl rfl)
theorem dX0_isWord_60 : decode cX0_isWord 60 = .ok (.istore_n 2, 1) := dk_61 (dk_at dksX0_isWord_2 12 rfl rfl)
theorem dX0_isWord_61 : decode cX0_isWord 61 = .ok (.iinc 3 1, 3) := dk_132 3 1 (dk_at dksX0_isWord_2 13 rfl rfl)
theorem dX0_isWord_64 : decode cX0_isWord 64 = .ok (.goto (-40), 3) := dk_167 255 216 (dk_at dksX0_isWord_2 16 rfl rfl)
theorem dX0_isWord_67 : decode cX0_isWord 67 = .ok (.iload_n 2, 1) := dk_28 (dk_at dksX0_isWord_2 19 rfl rfl)
theorem dX0_isWord_68 : decode cX0_isWord 68 = .ok (.ireturn, 1) := dk_172 (dk_at dksX0_isWord_2 20 rfl rfl)
abbrev cX0_expression : ByteArray := prog_1_method_20_code
def yX0_expression : MethodName := ⟨RX0, "expression", "()LStrokesHeard$Words;"⟩
def dkwX0_expression_0 : List UInt8 := [187, 0, 113, 89, 183, 0, 169, 76, 42, 43, 182, 0, 170, 43, 176]
abbrev dktX0_expression_0 : List UInt8 := dkwX0_expression_0 ++ []
theorem dksX0_expression_0 : cX0_expression.data.toList.drop 0 = dktX0_expression_0 := by decide +kernel
theorem dX0_expression_0 : decode cX0_expression 0 = .ok (.new 113, 3) := dk_187 0 113 (dk_at dksX0_expression_0 0 rfl rfl)
theorem dX0_expression_3 : decode cX0_expression 3 = .ok (.dup, 1) := dk_89 (dk_at dksX0_expression_0 3 rfl rfl)
theorem dX0_expression_4 : decode cX0_expression 4 = .ok (.invokespecial 169, 3) := dk_183 0 169 (dk_at dksX0_expression_0 4 rfl rfl)
theorem dX0_expression_7 : decode cX0_expression 7 = .ok (.astore_n 1, 1) := dk_76 (dk_at dksX0_expression_0 7 rfl rfl)
theorem dX0_expression_8 : decode cX0_expression 8 = .ok (.aload_n 0, 1) := dk_42 (dk_at dksX0_expression_0 8 rfl rfl)
theorem dX0_expression_9 : decode cX0_expression 9 = .ok (.aload_n 1, 1) := dk_43 (dk_at dksX0_expression_0 9 rfl rfl)
theorem dX0_expression_10 : decode cX0_expression 10 = .ok (.invokevirtual 170, 3) := dk_182 0 170 (dk_at dksX0_expression_0 10 rfl rfl)
theorem dX0_expression_13 : decode cX0_expression 13 = .ok (.aload_n 1, 1) := dk_43 (dk_at dksX0_expression_0 13 rfl rfl)
theorem dX0_expression_14 : decode cX0_expression 14 = .ok (.areturn, 1) := dk_176 (dk_at dksX0_expression_0 14 rfl rfl)
abbrev cX0_or : ByteArray := prog_1_method_21_code
def yX0_or : MethodName := ⟨RX0, "or", "(LStrokesHeard$Words;)V"⟩
def dkwX0_or_1 : List UInt8 := [16, 11, 3, 182, 0, 180, 167, 255, 231, 177]
abbrev dktX0_or_1 : List UInt8 := dkwX0_or_1 ++ []
def dkwX0_or_0 : List UInt8 := [42, 43, 182, 0, 174, 42, 16, 124, 182, 0, 177, 153, 0, 22, 42, 182, 0, 166, 42, 43, 182, 0, 174, 43]
abbrev dktX0_or_0 : List UInt8 := dkwX0_or_0 ++ dktX0_or_1
theorem dksX0_or_0 : cX0_or.data.toList.drop 0 = dktX0_or_0 := by decide +kernel
theorem dksX0_or_1 : cX0_or.data.toList.drop 24 = dktX0_or_1 := dk_seg dksX0_or_0 24 rfl rfl
theorem dX0_or_0 : decode cX0_or 0 = .ok (.aload_n 0, 1) := dk_42 (dk_at dksX0_or_0 0 rfl rfl)
theorem dX0_or_1 : decode cX0_or 1 = .ok (.aload_n 1, 1) := dk_43 (dk_at dksX0_or_0 1 rfl rfl)
theorem dX0_or_2 : decode cX0_or 2 = .ok (.invokevirtual 174, 3) := dk_182 0 174 (dk_at dksX0_or_0 2 rfl rfl)
theorem dX0_or_5 : decode cX0_or 5 = .ok (.aload_n 0, 1) := dk_42 (dk_at dksX0_or_0 5 rfl rfl)
theorem dX0_or_6 : decode cX0_or 6 = .ok (.bipush 124, 2) := dk_16 124 (dk_at dksX0_or_0 6 rfl rfl)
theorem dX0_or_8 : decode cX0_or 8 = .ok (.invokevirtual 177, 3) := dk_182 0 177 (dk_at dksX0_or_0 8 rfl rfl)
theorem dX0_or_11 : decode cX0_or 11 = .ok (.ifCond .eq 22, 3) := dk_153 0 22 (dk_at dksX0_or_0 11 rfl rfl)
theorem dX0_or_14 : decode cX0_or 14 = .ok (.aload_n 0, 1) := dk_42 (dk_at dksX0_or_0 14 rfl rfl)
theorem dX0_or_15 : decode cX0_or 15 = .ok (.invokevirtual 166, 3) := dk_182 0 166 (dk_at dksX0_or_0 15 rfl rfl)
theorem dX0_or_18 : decode cX0_or 18 = .ok (.aload_n 0, 1) := dk_42 (dk_at dksX0_or_0 18 rfl rfl)
theorem dX0_or_19 : decode cX0_or 19 = .ok (.aload_n 1, 1) := dk_43 (dk_at dksX0_or_0 19 rfl rfl)
theorem dX0_or_20 : decode cX0_or 20 = .ok (.invokevirtual 174, 3) := dk_182 0 174 (dk_at dksX0_or_0 20 rfl rfl)
theorem dX0_or_23 : decode cX0_or 23 = .ok (.aload_n 1, 1) := dk_43 (dk_at dksX0_or_0 23 rfl rfl)
theorem dX0_or_24 : decode cX0_or 24 = .ok (.bipush 11, 2) := dk_16 11 (dk_at dksX0_or_1 0 rfl rfl)
theorem dX0_or_26 : decode cX0_or 26 = .ok (.iconst 0, 1) := dk_3 (dk_at dksX0_or_1 2 rfl rfl)
theorem dX0_or_27 : decode cX0_or 27 = .ok (.invokevirtual 180, 3) := dk_182 0 180 (dk_at dksX0_or_1 3 rfl rfl)
theorem dX0_or_30 : decode cX0_or 30 = .ok (.goto (-25), 3) := dk_167 255 231 (dk_at dksX0_or_1 6 rfl rfl)
theorem dX0_or_33 : decode cX0_or 33 = .ok (.return_, 1) := dk_177 (dk_at dksX0_or_1 9 rfl rfl)
abbrev cX0_and : ByteArray := prog_1_method_22_code
def yX0_and : MethodName := ⟨RX0, "and", "(LStrokesHeard$Words;)V"⟩
def dkwX0_and_1 : List UInt8 := [16, 10, 3, 182, 0, 180, 167, 255, 231, 177]
abbrev dktX0_and_1 : List UInt8 := dkwX0_and_1 ++ []
def dkwX0_and_0 : List UInt8 := [42, 43, 182, 0, 184, 42, 16, 38, 182, 0, 177, 153, 0, 22, 42, 182, 0, 166, 42, 43, 182, 0, 184, 43]
abbrev dktX0_and_0 : List UInt8 := dkwX0_and_0 ++ dktX0_and_1
theorem dksX0_and_0 : cX0_and.data.toList.drop 0 = dktX0_and_0 := by decide +kernel
theorem dksX0_and_1 : cX0_and.data.toList.drop 24 = dktX0_and_1 := dk_seg dksX0_and_0 24 rfl rfl
theorem dX0_and_0 : decode cX0_and 0 = .ok (.aload_n 0, 1) := dk_42 (dk_at dksX0_and_0 0 rfl rfl)
theorem dX0_and_1 : decode cX0_and 1 = .ok (.aload_n 1, 1) := dk_43 (dk_at dksX0_and_0 1 rfl rfl)
theorem dX0_and_2 : decode cX0_and 2 = .ok (.invokevirtual 184, 3) := dk_182 0 184 (dk_at dksX0_and_0 2 rfl rfl)
theorem dX0_and_5 : decode cX0_and 5 = .ok (.aload_n 0, 1) := dk_42 (dk_at dksX0_and_0 5 rfl rfl)
theorem dX0_and_6 : decode cX0_and 6 = .ok (.bipush 38, 2) := dk_16 38 (dk_at dksX0_and_0 6 rfl rfl)
theorem dX0_and_8 : decode cX0_and 8 = .ok (.invokevirtual 177, 3) := dk_182 0 177 (dk_at dksX0_and_0 8 rfl rfl)
theorem dX0_and_11 : decode cX0_and 11 = .ok (.ifCond .eq 22, 3) := dk_153 0 22 (dk_at dksX0_and_0 11 rfl rfl)
theorem dX0_and_14 : decode cX0_and 14 = .ok (.aload_n 0, 1) := dk_42 (dk_at dksX0_and_0 14 rfl rfl)
theorem dX0_and_15 : decode cX0_and 15 = .ok (.invokevirtual 166, 3) := dk_182 0 166 (dk_at dksX0_and_0 15 rfl rfl)
theorem dX0_and_18 : decode cX0_and 18 = .ok (.aload_n 0, 1) := dk_42 (dk_at dksX0_and_0 18 rfl rfl)
theorem dX0_and_19 : decode cX0_and 19 = .ok (.aload_n 1, 1) := dk_43 (dk_at dksX0_and_0 19 rfl rfl)
theorem dX0_and_20 : decode cX0_and 20 = .ok (.invokevirtual 184, 3) := dk_182 0 184 (dk_at dksX0_and_0 20 rfl rfl)
theorem dX0_and_23 : decode cX0_and 23 = .ok (.aload_n 1, 1) := dk_43 (dk_at dksX0_and_0 23 rfl rfl)
theorem dX0_and_24 : decode cX0_and 24 = .ok (.bipush 10, 2) := dk_16 10 (dk_at dksX0_and_1 0 rfl rfl)
theorem dX0_and_26 : decode cX0_and 26 = .ok (.iconst 0, 1) := dk_3 (dk_at dksX0_and_1 2 rfl rfl)
theorem dX0_and_27 : decode cX0_and 27 = .ok (.invokevirtual 180, 3) := dk_182 0 180 (dk_at dksX0_and_1 3 rfl rfl)
theorem dX0_and_30 : decode cX0_and 30 = .ok (.goto (-25), 3) := dk_167 255 231 (dk_at dksX0_and_1 6 rfl rfl)
theorem dX0_and_33 : decode cX0_and 33 = .ok (.return_, 1) := dk_177 (dk_at dksX0_and_1 9 rfl rfl)
abbrev cX0_test : ByteArray := prog_1_method_23_code
def yX0_test : MethodName := ⟨RX0, "test", "(LStrokesHeard$Words;)V"⟩
def dkwX0_test_3 : List UInt8 := [177]
abbrev dktX0_test_3 : List UInt8 := dkwX0_test_3 ++ []
def dkwX0_test_2 : List UInt8 := [167, 0, 4, 3, 61, 28, 153, 0, 18, 42, 182, 0, 166, 42, 43, 182, 0, 187, 43, 28, 3, 182, 0, 180]
abbrev dktX0_test_2 : List UInt8 := dkwX0_test_2 ++ dktX0_test_3
def dkwX0_test_1 : List UInt8 := [182, 0, 177, 153, 0, 8, 16, 8, 167, 0, 18, 42, 16, 62, 182, 0, 177, 153, 0, 8, 16, 9]
abbrev dktX0_test_1 : List UInt8 := dkwX0_test_1 ++ dktX0_test_2
def dkwX0_test_0 : List UInt8 := [42, 43, 182, 0, 187, 42, 16, 60, 182, 0, 177, 153, 0, 8, 16, 7, 167, 0, 32, 42, 16, 61]
abbrev dktX0_test_0 : List UInt8 := dkwX0_test_0 ++ dktX0_test_1
theorem dksX0_test_0 : cX0_test.data.toList.drop 0 = dktX0_test_0 := by decide +kernel
theorem dksX0_test_1 : cX0_test.data.toList.drop 22 = dktX0_test_1 := dk_seg dksX0_test_0 22 rfl rfl
theorem dksX0_test_2 : cX0_test.data.toList.drop 44 = dktX0_test_2 := dk_seg dksX0_test_1 22 rfl rfl
theorem dksX0_test_3 : cX0_test.data.toList.drop 68 = dktX0_test_3 := dk_seg dksX0_test_2 24 rfl rfl
theorem dX0_test_0 : decode cX0_test 0 = .ok (.aload_n 0, 1) := dk_42 (dk_at dksX0_test_0 0 rfl rfl)
theorem dX0_test_1 : decode cX0_test 1 = .ok (.aload_n 1, 1) := dk_43 (dk_at dksX0_test_0 1 rfl rfl)
theorem dX0_test_2 : decode cX0_test 2 = .ok (.invokevirtual 187, 3) := dk_182 0 187 (dk_at dksX0_test_0 2 rfl rfl)
theorem dX0_test_5 : decode cX0_test 5 = .ok (.aload_n 0, 1) := dk_42 (dk_at dksX0_test_0 5 rfl rfl)
theorem dX0_test_6 : decode cX0_test 6 = .ok (.bipush 60, 2) := dk_16 60 (dk_at dksX0_test_0 6 rfl rfl)
theorem dX0_test_8 : decode cX0_test 8 = .ok (.invokevirtual 177, 3) := dk_182 0 177 (dk_at dksX0_test_0 8 rfl rfl)
theorem dX0_test_11 : decode cX0_test 11 = .ok (.ifCond .eq 8, 3) := dk_153 0 8 (dk_at dksX0_test_0 11 rfl rfl)
theorem dX0_test_14 : decode cX0_test 14 = .ok (.bipush 7, 2) := dk_16 7 (dk_at dksX0_test_0 14 rfl rfl)
theorem dX0_test_16 : decode cX0_test 16 = .ok (.goto 32, 3) := dk_167 0 32 (dk_at dksX0_test_0 16 rfl rfl)
theorem dX0_test_19 : decode cX0_test 19 = .ok (.aload_n 0, 1) := dk_42 (dk_at dksX0_test_0 19 rfl rfl)
theorem dX0_test_20 : decode cX0_test 20 = .ok (.bipush 61, 2) := dk_16 61 (dk_at dksX0_test_0 20 rfl rfl)
theorem dX0_test_22 : decode cX0_test 22 = .ok (.invokevirtual 177, 3) := dk_182 0 177 (dk_at dksX0_test_1 0 rfl rfl)
theorem dX0_test_25 : decode cX0_test 25 = .ok (.ifCond .eq 8, 3) := dk_153 0 8 (dk_at dksX0_test_1 3 rfl rfl)
theorem dX0_test_28 : decode cX0_test 28 = .ok (.bipush 8, 2) := dk_16 8 (dk_at dksX0_test_1 6 rfl rfl)
theorem dX0_test_30 : decode cX0_test 30 = .ok (.goto 18, 3) := dk_167 0 18 (dk_at dksX0_test_1 8 rfl rfl)
theorem dX0_test_33 : decode cX0_test 33 = .ok (.aload_n 0, 1) := dk_42 (dk_at dksX0_test_1 11 rfl rfl)
theorem dX0_test_34 : decode cX0_test 34 = .ok (.bipush 62, 2) := dk_16 62 (dk_at dksX0_test_1 12 rfl rfl)
theorem dX0_test_36 : decode cX0_test 36 = .ok (.invokevirtual 177, 3) := dk_182 0 177 (dk_at dksX0_test_1 14 rfl rfl)
theorem dX0_test_39 : decode cX0_test 39 = .ok (.ifCond .eq 8, 3) := dk_153 0 8 (dk_at dksX0_test_1 17 rfl rfl)
theorem dX0_test_42 : decode cX0_test 42 = .ok (.bipush 9, 2) := dk_16 9 (dk_at dksX0_test_1 20 rfl rfl)
theorem dX0_test_44 : decode cX0_test 44 = .ok (.goto 4, 3) := dk_167 0 4 (dk_at dksX0_test_2 0 rfl rfl)
theorem dX0_test_47 : decode cX0_test 47 = .ok (.iconst 0, 1) := dk_3 (dk_at dksX0_test_2 3 rfl rfl)
theorem dX0_test_48 : decode cX0_test 48 = .ok (.istore_n 2, 1) := dk_61 (dk_at dksX0_test_2 4 rfl rfl)
theorem dX0_test_49 : decode cX0_test 49 = .ok (.iload_n 2, 1) := dk_28 (dk_at dksX0_test_2 5 rfl rfl)
theorem dX0_test_50 : decode cX0_test 50 = .ok (.ifCond .eq 18, 3) := dk_153 0 18 (dk_at dksX0_test_2 6 rfl rfl)
theorem dX0_test_53 : decode cX0_test 53 = .ok (.aload_n 0, 1) := dk_42 (dk_at dksX0_test_2 9 rfl rfl)
theorem dX0_test_54 : decode cX0_test 54 = .ok (.invokevirtual 166, 3) := dk_182 0 166 (dk_at dksX0_test_2 10 rfl rfl)
theorem dX0_test_57 : decode cX0_test 57 = .ok (.aload_n 0, 1) := dk_42 (dk_at dksX0_test_2 13 rfl rfl)
theorem dX0_test_58 : decode cX0_test 58 = .ok (.aload_n 1, 1) := dk_43 (dk_at dksX0_test_2 14 rfl rfl)
theorem dX0_test_59 : decode cX0_test 59 = .ok (.invokevirtual 187, 3) := dk_182 0 187 (dk_at dksX0_test_2 15 rfl rfl)
theorem dX0_test_62 : decode cX0_test 62 = .ok (.aload_n 1, 1) := dk_43 (dk_at dksX0_test_2 18 rfl rfl)
theorem dX0_test_63 : decode cX0_test 63 = .ok (.iload_n 2, 1) := dk_28 (dk_at dksX0_test_2 19 rfl rfl)
theorem dX0_test_64 : decode cX0_test 64 = .ok (.iconst 0, 1) := dk_3 (dk_at dksX0_test_2 20 rfl rfl)
theorem dX0_test_65 : decode cX0_test 65 = .ok (.invokevirtual 180, 3) := dk_182 0 180 (dk_at dksX0_test_2 21 rfl rfl)
theorem dX0_test_68 : decode cX0_test 68 = .ok (.return_, 1) := dk_177 (dk_at dksX0_test_3 0 rfl rfl)
abbrev cX0_sum : ByteArray := prog_1_method_24_code
def yX0_sum : MethodName := ⟨RX0, "sum", "(LStrokesHeard$Words;)V"⟩
def dkwX0_sum_2 : List UInt8 := [43, 28, 3, 182, 0, 180, 167, 255, 207, 177]
abbrev dktX0_sum_2 : List UInt8 := dkwX0_sum_2 ++ []
def dkwX0_sum_1 : List UInt8 := [16, 43, 182, 0, 177, 153, 0, 7, 8, 167, 0, 5, 16, 6, 61, 42, 182, 0, 166, 42, 43, 182, 0, 190]
abbrev dktX0_sum_1 : List UInt8 := dkwX0_sum_1 ++ dktX0_sum_2
def dkwX0_sum_0 : List UInt8 := [42, 43, 182, 0, 190, 42, 16, 43, 182, 0, 177, 154, 0, 12, 42, 16, 45, 182, 0, 177, 153, 0, 37, 42]
abbrev dktX0_sum_0 : List UInt8 := dkwX0_sum_0 ++ dktX0_sum_1
theorem dksX0_sum_0 : cX0_sum.data.toList.drop 0 = dktX0_sum_0 := by decide +kernel
theorem dksX0_sum_1 : cX0_sum.data.toList.drop 24 = dktX0_sum_1 := dk_seg dksX0_sum_0 24 rfl rfl
theorem dksX0_sum_2 : cX0_sum.data.toList.drop 48 = dktX0_sum_2 := dk_seg dksX0_sum_1 24 rfl rfl
theorem dX0_sum_0 : decode cX0_sum 0 = .ok (.aload_n 0, 1) := dk_42 (dk_at dksX0_sum_0 0 rfl rfl)
theorem dX0_sum_1 : decode cX0_sum 1 = .ok (.aload_n 1, 1) := dk_43 (dk_at dksX0_sum_0 1 rfl rfl)
theorem dX0_sum_2 : decode cX0_sum 2 = .ok (.invokevirtual 190, 3) := dk_182 0 190 (dk_at dksX0_sum_0 2 rfl rfl)
theorem dX0_sum_5 : decode cX0_sum 5 = .ok (.aload_n 0, 1) := dk_42 (dk_at dksX0_sum_0 5 rfl rfl)
theorem dX0_sum_6 : decode cX0_sum 6 = .ok (.bipush 43, 2) := dk_16 43 (dk_at dksX0_sum_0 6 rfl rfl)
theorem dX0_sum_8 : decode cX0_sum 8 = .ok (.invokevirtual 177, 3) := dk_182 0 177 (dk_at dksX0_sum_0 8 rfl rfl)
theorem dX0_sum_11 : decode cX0_sum 11 = .ok (.ifCond .ne 12, 3) := dk_154 0 12 (dk_at dksX0_sum_0 11 rfl rfl)
theorem dX0_sum_14 : decode cX0_sum 14 = .ok (.aload_n 0, 1) := dk_42 (dk_at dksX0_sum_0 14 rfl rfl)
theorem dX0_sum_15 : decode cX0_sum 15 = .ok (.bipush 45, 2) := dk_16 45 (dk_at dksX0_sum_0 15 rfl rfl)
theorem dX0_sum_17 : decode cX0_sum 17 = .ok (.invokevirtual 177, 3) := dk_182 0 177 (dk_at dksX0_sum_0 17 rfl rfl)
theorem dX0_sum_20 : decode cX0_sum 20 = .ok (.ifCond .eq 37, 3) := dk_153 0 37 (dk_at dksX0_sum_0 20 rfl rfl)
theorem dX0_sum_23 : decode cX0_sum 23 = .ok (.aload_n 0, 1) := dk_42 (dk_at dksX0_sum_0 23 rfl rfl)
theorem dX0_sum_24 : decode cX0_sum 24 = .ok (.bipush 43, 2) := dk_16 43 (dk_at dksX0_sum_1 0 rfl rfl)
theorem dX0_sum_26 : decode cX0_sum 26 = .ok (.invokevirtual 177, 3) := dk_182 0 177 (dk_at dksX0_sum_1 2 rfl rfl)
theorem dX0_sum_29 : decode cX0_sum 29 = .ok (.ifCond .eq 7, 3) := dk_153 0 7 (dk_at dksX0_sum_1 5 rfl rfl)
theorem dX0_sum_32 : decode cX0_sum 32 = .ok (.iconst 5, 1) := dk_8 (dk_at dksX0_sum_1 8 rfl rfl)
theorem dX0_sum_33 : decode cX0_sum 33 = .ok (.goto 5, 3) := dk_167 0 5 (dk_at dksX0_sum_1 9 rfl rfl)
theorem dX0_sum_36 : decode cX0_sum 36 = .ok (.bipush 6, 2) := dk_16 6 (dk_at dksX0_sum_1 12 rfl rfl)
theorem dX0_sum_38 : decode cX0_sum 38 = .ok (.istore_n 2, 1) := dk_61 (dk_at dksX0_sum_1 14 rfl rfl)
theorem dX0_sum_39 : decode cX0_sum 39 = .ok (.aload_n 0, 1) := dk_42 (dk_at dksX0_sum_1 15 rfl rfl)
theorem dX0_sum_40 : decode cX0_sum 40 = .ok (.invokevirtual 166, 3) := dk_182 0 166 (dk_at dksX0_sum_1 16 rfl rfl)
theorem dX0_sum_43 : decode cX0_sum 43 = .ok (.aload_n 0, 1) := dk_42 (dk_at dksX0_sum_1 19 rfl rfl)
theorem dX0_sum_44 : decode cX0_sum 44 = .ok (.aload_n 1, 1) := dk_43 (dk_at dksX0_sum_1 20 rfl rfl)
theorem dX0_sum_45 : decode cX0_sum 45 = .ok (.invokevirtual 190, 3) := dk_182 0 190 (dk_at dksX0_sum_1 21 rfl rfl)
theorem dX0_sum_48 : decode cX0_sum 48 = .ok (.aload_n 1, 1) := dk_43 (dk_at dksX0_sum_2 0 rfl rfl)
theorem dX0_sum_49 : decode cX0_sum 49 = .ok (.iload_n 2, 1) := dk_28 (dk_at dksX0_sum_2 1 rfl rfl)
theorem dX0_sum_50 : decode cX0_sum 50 = .ok (.iconst 0, 1) := dk_3 (dk_at dksX0_sum_2 2 rfl rfl)
theorem dX0_sum_51 : decode cX0_sum 51 = .ok (.invokevirtual 180, 3) := dk_182 0 180 (dk_at dksX0_sum_2 3 rfl rfl)
theorem dX0_sum_54 : decode cX0_sum 54 = .ok (.goto (-49), 3) := dk_167 255 207 (dk_at dksX0_sum_2 6 rfl rfl)
theorem dX0_sum_57 : decode cX0_sum 57 = .ok (.return_, 1) := dk_177 (dk_at dksX0_sum_2 9 rfl rfl)
abbrev cX0_term : ByteArray := prog_1_method_25_code
def yX0_term : MethodName := ⟨RX0, "term", "(LStrokesHeard$Words;)V"⟩
def dkwX0_term_2 : List UInt8 := [43, 28, 3, 182, 0, 180, 167, 255, 207, 177]
abbrev dktX0_term_2 : List UInt8 := dkwX0_term_2 ++ []
def dkwX0_term_1 : List UInt8 := [16, 42, 182, 0, 177, 153, 0, 7, 7, 167, 0, 5, 16, 12, 61, 42, 182, 0, 166, 42, 43, 182, 0, 193]
abbrev dktX0_term_1 : List UInt8 := dkwX0_term_1 ++ dktX0_term_2
def dkwX0_term_0 : List UInt8 := [42, 43, 182, 0, 193, 42, 16, 42, 182, 0, 177, 154, 0, 12, 42, 16, 47, 182, 0, 177, 153, 0, 37, 42]
abbrev dktX0_term_0 : List UInt8 := dkwX0_term_0 ++ dktX0_term_1
theorem dksX0_term_0 : cX0_term.data.toList.drop 0 = dktX0_term_0 := by decide +kernel
theorem dksX0_term_1 : cX0_term.data.toList.drop 24 = dktX0_term_1 := dk_seg dksX0_term_0 24 rfl rfl
theorem dksX0_term_2 : cX0_term.data.toList.drop 48 = dktX0_term_2 := dk_seg dksX0_term_1 24 rfl rfl
theorem dX0_term_0 : decode cX0_term 0 = .ok (.aload_n 0, 1) := dk_42 (dk_at dksX0_term_0 0 rfl rfl)
theorem dX0_term_1 : decode cX0_term 1 = .ok (.aload_n 1, 1) := dk_43 (dk_at dksX0_term_0 1 rfl rfl)
theorem dX0_term_2 : decode cX0_term 2 = .ok (.invokevirtual 193, 3) := dk_182 0 193 (dk_at dksX0_term_0 2 rfl rfl)
theorem dX0_term_5 : decode cX0_term 5 = .ok (.aload_n 0, 1) := dk_42 (dk_at dksX0_term_0 5 rfl rfl)
theorem dX0_term_6 : decode cX0_term 6 = .ok (.bipush 42, 2) := dk_16 42 (dk_at dksX0_term_0 6 rfl rfl)
theorem dX0_term_8 : decode cX0_term 8 = .ok (.invokevirtual 177, 3) := dk_182 0 177 (dk_at dksX0_term_0 8 rfl rfl)
theorem dX0_term_11 : decode cX0_term 11 = .ok (.ifCond .ne 12, 3) := dk_154 0 12 (dk_at dksX0_term_0 11 rfl rfl)
theorem dX0_term_14 : decode cX0_term 14 = .ok (.aload_n 0, 1) := dk_42 (dk_at dksX0_term_0 14 rfl rfl)
theorem dX0_term_15 : decode cX0_term 15 = .ok (.bipush 47, 2) := dk_16 47 (dk_at dksX0_term_0 15 rfl rfl)
theorem dX0_term_17 : decode cX0_term 17 = .ok (.invokevirtual 177, 3) := dk_182 0 177 (dk_at dksX0_term_0 17 rfl rfl)
theorem dX0_term_20 : decode cX0_term 20 = .ok (.ifCond .eq 37, 3) := dk_153 0 37 (dk_at dksX0_term_0 20 rfl rfl)
theorem dX0_term_23 : decode cX0_term 23 = .ok (.aload_n 0, 1) := dk_42 (dk_at dksX0_term_0 23 rfl rfl)
theorem dX0_term_24 : decode cX0_term 24 = .ok (.bipush 42, 2) := dk_16 42 (dk_at dksX0_term_1 0 rfl rfl)
theorem dX0_term_26 : decode cX0_term 26 = .ok (.invokevirtual 177, 3) := dk_182 0 177 (dk_at dksX0_term_1 2 rfl rfl)
theorem dX0_term_29 : decode cX0_term 29 = .ok (.ifCond .eq 7, 3) := dk_153 0 7 (dk_at dksX0_term_1 5 rfl rfl)
theorem dX0_term_32 : decode cX0_term 32 = .ok (.iconst 4, 1) := dk_7 (dk_at dksX0_term_1 8 rfl rfl)
theorem dX0_term_33 : decode cX0_term 33 = .ok (.goto 5, 3) := dk_167 0 5 (dk_at dksX0_term_1 9 rfl rfl)
theorem dX0_term_36 : decode cX0_term 36 = .ok (.bipush 12, 2) := dk_16 12 (dk_at dksX0_term_1 12 rfl rfl)
theorem dX0_term_38 : decode cX0_term 38 = .ok (.istore_n 2, 1) := dk_61 (dk_at dksX0_term_1 14 rfl rfl)
theorem dX0_term_39 : decode cX0_term 39 = .ok (.aload_n 0, 1) := dk_42 (dk_at dksX0_term_1 15 rfl rfl)
theorem dX0_term_40 : decode cX0_term 40 = .ok (.invokevirtual 166, 3) := dk_182 0 166 (dk_at dksX0_term_1 16 rfl rfl)
theorem dX0_term_43 : decode cX0_term 43 = .ok (.aload_n 0, 1) := dk_42 (dk_at dksX0_term_1 19 rfl rfl)
theorem dX0_term_44 : decode cX0_term 44 = .ok (.aload_n 1, 1) := dk_43 (dk_at dksX0_term_1 20 rfl rfl)
theorem dX0_term_45 : decode cX0_term 45 = .ok (.invokevirtual 193, 3) := dk_182 0 193 (dk_at dksX0_term_1 21 rfl rfl)
theorem dX0_term_48 : decode cX0_term 48 = .ok (.aload_n 1, 1) := dk_43 (dk_at dksX0_term_2 0 rfl rfl)
theorem dX0_term_49 : decode cX0_term 49 = .ok (.iload_n 2, 1) := dk_28 (dk_at dksX0_term_2 1 rfl rfl)
theorem dX0_term_50 : decode cX0_term 50 = .ok (.iconst 0, 1) := dk_3 (dk_at dksX0_term_2 2 rfl rfl)
theorem dX0_term_51 : decode cX0_term 51 = .ok (.invokevirtual 180, 3) := dk_182 0 180 (dk_at dksX0_term_2 3 rfl rfl)
theorem dX0_term_54 : decode cX0_term 54 = .ok (.goto (-49), 3) := dk_167 255 207 (dk_at dksX0_term_2 6 rfl rfl)
theorem dX0_term_57 : decode cX0_term 57 = .ok (.return_, 1) := dk_177 (dk_at dksX0_term_2 9 rfl rfl)
abbrev cX0_piece : ByteArray := prog_1_method_27_code
def yX0_piece : MethodName := ⟨RX0, "piece", "(LStrokesHeard$Words;)V"⟩
def dkwX0_piece_10 : List UInt8 := [43, 5, 42, 180, 0, 63, 42, 180, 0, 134, 51, 182, 0, 180, 42, 182, 0, 166, 177]
abbrev dktX0_piece_10 : List UInt8 := dkwX0_piece_10 ++ []
def dkwX0_piece_9 : List UInt8 := [180, 0, 134, 51, 182, 0, 211, 154, 0, 7, 42, 182, 0, 153, 42, 89, 180, 0, 205, 4, 96, 181, 0, 205]
abbrev dktX0_piece_9 : List UInt8 := dkwX0_piece_9 ++ dktX0_piece_10
def dkwX0_piece_8 : List UInt8 := [159, 0, 32, 42, 180, 0, 140, 42, 180, 0, 134, 100, 4, 160, 0, 19, 42, 42, 180, 0, 63, 42]
abbrev dktX0_piece_8 : List UInt8 := dkwX0_piece_8 ++ dktX0_piece_9
def dkwX0_piece_7 : List UInt8 := [96, 181, 0, 205, 43, 4, 42, 182, 0, 208, 182, 0, 180, 167, 0, 75, 42, 180, 0, 134, 42, 180, 0, 143]
abbrev dktX0_piece_7 : List UInt8 := dkwX0_piece_7 ++ dktX0_piece_8
def dkwX0_piece_6 : List UInt8 := [162, 0, 40, 42, 180, 0, 63, 42, 180, 0, 134, 51, 184, 0, 150, 153, 0, 25, 42, 89, 180, 0, 205, 4]
abbrev dktX0_piece_6 : List UInt8 := dkwX0_piece_6 ++ dktX0_piece_7
def dkwX0_piece_5 : List UInt8 := [182, 0, 166, 42, 89, 180, 0, 202, 4, 100, 181, 0, 202, 167, 0, 123, 42, 180, 0, 134, 42, 180, 0, 143]
abbrev dktX0_piece_5 : List UInt8 := dkwX0_piece_5 ++ dktX0_piece_6
def dkwX0_piece_4 : List UInt8 := [182, 0, 166, 42, 43, 182, 0, 170, 42, 16, 41, 182, 0, 177, 154, 0, 7, 42, 182, 0, 153, 42]
abbrev dktX0_piece_4 : List UInt8 := dkwX0_piece_4 ++ dktX0_piece_5
def dkwX0_piece_3 : List UInt8 := [180, 0, 202, 16, 8, 160, 0, 7, 42, 182, 0, 153, 42, 89, 180, 0, 202, 4, 96, 181, 0, 202, 42]
abbrev dktX0_piece_3 : List UInt8 := dkwX0_piece_3 ++ dktX0_piece_4
def dkwX0_piece_2 : List UInt8 := [89, 180, 0, 199, 4, 100, 181, 0, 199, 167, 0, 194, 42, 16, 40, 182, 0, 177, 153, 0, 65, 42]
abbrev dktX0_piece_2 : List UInt8 := dkwX0_piece_2 ++ dktX0_piece_3
def dkwX0_piece_1 : List UInt8 := [180, 0, 199, 4, 96, 181, 0, 199, 42, 182, 0, 166, 42, 43, 182, 0, 193, 43, 6, 3, 182, 0, 180, 42]
abbrev dktX0_piece_1 : List UInt8 := dkwX0_piece_1 ++ dktX0_piece_2
def dkwX0_piece_0 : List UInt8 := [42, 16, 33, 182, 0, 177, 153, 0, 54, 42, 180, 0, 199, 16, 8, 160, 0, 7, 42, 182, 0, 153, 42, 89]
abbrev dktX0_piece_0 : List UInt8 := dkwX0_piece_0 ++ dktX0_piece_1
theorem dksX0_piece_0 : cX0_piece.data.toList.drop 0 = dktX0_piece_0 := by decide +kernel
theorem dksX0_piece_1 : cX0_piece.data.toList.drop 24 = dktX0_piece_1 := dk_seg dksX0_piece_0 24 rfl rfl
theorem dksX0_piece_2 : cX0_piece.data.toList.drop 48 = dktX0_piece_2 := dk_seg dksX0_piece_1 24 rfl rfl
theorem dksX0_piece_3 : cX0_piece.data.toList.drop 70 = dktX0_piece_3 := dk_seg dksX0_piece_2 22 rfl rfl
theorem dksX0_piece_4 : cX0_piece.data.toList.drop 93 = dktX0_piece_4 := dk_seg dksX0_piece_3 23 rfl rfl
theorem dksX0_piece_5 : cX0_piece.data.toList.drop 115 = dktX0_piece_5 := dk_seg dksX0_piece_4 22 rfl rfl
theorem dksX0_piece_6 : cX0_piece.data.toList.drop 139 = dktX0_piece_6 := dk_seg dksX0_piece_5 24 rfl rfl
theorem dksX0_piece_7 : cX0_piece.data.toList.drop 163 = dktX0_piece_7 := dk_seg dksX0_piece_6 24 rfl rfl
theorem dksX0_piece_8 : cX0_piece.data.toList.drop 187 = dktX0_piece_8 := dk_seg dksX0_piece_7 24 rfl rfl
theorem dksX0_piece_9 : cX0_piece.data.toList.drop 209 = dktX0_piece_9 := dk_seg dksX0_piece_8 22 rfl rfl
theorem dksX0_piece_10 : cX0_piece.data.toList.drop 233 = dktX0_piece_10 := dk_seg dksX0_piece_9 24 rfl rfl
theorem dX0_piece_0 : decode cX0_piece 0 = .ok (.aload_n 0, 1) := dk_42 (dk_at dksX0_piece_0 0 rfl rfl)
theorem dX0_piece_1 : decode cX0_piece 1 = .ok (.bipush 33, 2) := dk_16 33 (dk_at dksX0_piece_0 1 rfl rfl)
theorem dX0_piece_3 : decode cX0_piece 3 = .ok (.invokevirtual 177, 3) := dk_182 0 177 (dk_at dksX0_piece_0 3 rfl rfl)
theorem dX0_piece_6 : decode cX0_piece 6 = .ok (.ifCond .eq 54, 3) := dk_153 0 54 (dk_at dksX0_piece_0 6 rfl rfl)
theorem dX0_piece_9 : decode cX0_piece 9 = .ok (.aload_n 0, 1) := dk_42 (dk_at dksX0_piece_0 9 rfl rfl)
theorem dX0_piece_10 : decode cX0_piece 10 = .ok (.getfield 199, 3) := dk_180 0 199 (dk_at dksX0_piece_0 10 rfl rfl)
theorem dX0_piece_13 : decode cX0_piece 13 = .ok (.bipush 8, 2) := dk_16 8 (dk_at dksX0_piece_0 13 rfl rfl)
theorem dX0_piece_15 : decode cX0_piece 15 = .ok (.if_icmp .ne 7, 3) := dk_160 0 7 (dk_at dksX0_piece_0 15 rfl rfl)
theorem dX0_piece_18 : decode cX0_piece 18 = .ok (.aload_n 0, 1) := dk_42 (dk_at dksX0_piece_0 18 rfl rfl)
theorem dX0_piece_19 : decode cX0_piece 19 = .ok (.invokevirtual 153, 3) := dk_182 0 153 (dk_at dksX0_piece_0 19 rfl rfl)
theorem dX0_piece_22 : decode cX0_piece 22 = .ok (.aload_n 0, 1) := dk_42 (dk_at dksX0_piece_0 22 rfl rfl)
theorem dX0_piece_23 : decode cX0_piece 23 = .ok (.dup, 1) := dk_89 (dk_at dksX0_piece_0 23 rfl rfl)
theorem dX0_piece_24 : decode cX0_piece 24 = .ok (.getfield 199, 3) := dk_180 0 199 (dk_at dksX0_piece_1 0 rfl rfl)
theorem dX0_piece_27 : decode cX0_piece 27 = .ok (.iconst 1, 1) := dk_4 (dk_at dksX0_piece_1 3 rfl rfl)
theorem dX0_piece_28 : decode cX0_piece 28 = .ok (.iadd, 1) := dk_96 (dk_at dksX0_piece_1 4 rfl rfl)
theorem dX0_piece_29 : decode cX0_piece 29 = .ok (.putfield 199, 3) := dk_181 0 199 (dk_at dksX0_piece_1 5 rfl rfl)
theorem dX0_piece_32 : decode cX0_piece 32 = .ok (.aload_n 0, 1) := dk_42 (dk_at dksX0_piece_1 8 rfl rfl)
theorem dX0_piece_33 : decode cX0_piece 33 = .ok (.invokevirtual 166, 3) := dk_182 0 166 (dk_at dksX0_piece_1 9 rfl rfl)
theorem dX0_piece_36 : decode cX0_piece 36 = .ok (.aload_n 0, 1) := dk_42 (dk_at dksX0_piece_1 12 rfl rfl)
theorem dX0_piece_37 : decode cX0_piece 37 = .ok (.aload_n 1, 1) := dk_43 (dk_at dksX0_piece_1 13 rfl rfl)
theorem dX0_piece_38 : decode cX0_piece 38 = .ok (.invokevirtual 193, 3) := dk_182 0 193 (dk_at dksX0_piece_1 14 rfl rfl)
theorem dX0_piece_41 : decode cX0_piece 41 = .ok (.aload_n 1, 1) := dk_43 (dk_at dksX0_piece_1 17 rfl rfl)
theorem dX0_piece_42 : decode cX0_piece 42 = .ok (.iconst 3, 1) := dk_6 (dk_at dksX0_piece_1 18 rfl rfl)
theorem dX0_piece_43 : decode cX0_piece 43 = .ok (.iconst 0, 1) := dk_3 (dk_at dksX0_piece_1 19 rfl rfl)
theorem dX0_piece_44 : decode cX0_piece 44 = .ok (.invokevirtual 180, 3) := dk_182 0 180 (dk_at dksX0_piece_1 20 rfl rfl)
theorem dX0_piece_47 : decode cX0_piece 47 = .ok (.aload_n 0, 1) := dk_42 (dk_at dksX0_piece_1 23 rfl rfl)
theorem dX0_piece_48 : decode cX0_piece 48 = .ok (.dup, 1) := dk_89 (dk_at dksX0_piece_2 0 rfl rfl)
theorem dX0_piece_49 : decode cX0_piece 49 = .ok (.getfield 199, 3) := dk_180 0 199 (dk_at dksX0_piece_2 1 rfl rfl)
theorem dX0_piece_52 : decode cX0_piece 52 = .ok (.iconst 1, 1) := dk_4 (dk_at dksX0_piece_2 4 rfl rfl)
theorem dX0_piece_53 : decode cX0_piece 53 = .ok (.isub, 1) := dk_100 (dk_at dksX0_piece_2 5 rfl rfl)
theorem dX0_piece_54 : decode cX0_piece 54 = .ok (.putfield 199, 3) := dk_181 0 199 (dk_at dksX0_piece_2 6 rfl rfl)
theorem dX0_piece_57 : decode cX0_piece 57 = .ok (.goto 194, 3) := dk_167 0 194 (dk_at dksX0_piece_2 9 rfl rfl)
theorem dX0_piece_60 : decode cX0_piece 60 = .ok (.aload_n 0, 1) := dk_42 (dk_at dksX0_piece_2 12 rfl rfl)
theorem dX0_piece_61 : decode cX0_piece 61 = .ok (.bipush 40, 2) := dk_16 40 (dk_at dksX0_piece_2 13 rfl rfl)
theorem dX0_piece_63 : decode cX0_piece 63 = .ok (.invokevirtual 177, 3) := dk_182 0 177 (dk_at dksX0_piece_2 15 rfl rfl)
theorem dX0_piece_66 : decode cX0_piece 66 = .ok (.ifCond .eq 65, 3) := dk_153 0 65 (dk_at dksX0_piece_2 18 rfl rfl)
theorem dX0_piece_69 : decode cX0_piece 69 = .ok (.aload_n 0, 1) := dk_42 (dk_at dksX0_piece_2 21 rfl rfl)
theorem dX0_piece_70 : decode cX0_piece 70 = .ok (.getfield 202, 3) := dk_180 0 202 (dk_at dksX0_piece_3 0 rfl rfl)
theorem dX0_piece_73 : decode cX0_piece 73 = .ok (.bipush 8, 2) := dk_16 8 (dk_at dksX0_piece_3 3 rfl rfl)
theorem dX0_piece_75 : decode cX0_piece 75 = .ok (.if_icmp .ne 7, 3) := dk_160 0 7 (dk_at dksX0_piece_3 5 rfl rfl)
theorem dX0_piece_78 : decode cX0_piece 78 = .ok (.aload_n 0, 1) := dk_42 (dk_at dksX0_piece_3 8 rfl rfl)
theorem dX0_piece_79 : decode cX0_piece 79 = .ok (.invokevirtual 153, 3) := dk_182 0 153 (dk_at dksX0_piece_3 9 rfl rfl)
theorem dX0_piece_82 : decode cX0_piece 82 = .ok (.aload_n 0, 1) := dk_42 (dk_at dksX0_piece_3 12 rfl rfl)
theorem dX0_piece_83 : decode cX0_piece 83 = .ok (.dup, 1) := dk_89 (dk_at dksX0_piece_3 13 rfl rfl)
theorem dX0_piece_84 : decode cX0_piece 84 = .ok (.getfield 202, 3) := dk_180 0 202 (dk_at dksX0_piece_3 14 rfl rfl)
theorem dX0_piece_87 : decode cX0_piece 87 = .ok (.iconst 1, 1) := dk_4 (dk_at dksX0_piece_3 17 rfl rfl)
theorem dX0_piece_88 : decode cX0_piece 88 = .ok (.iadd, 1) := dk_96 (dk_at dksX0_piece_3 18 rfl rfl)
theorem dX0_piece_89 : decode cX0_piece 89 = .ok (.putfield 202, 3) := dk_181 0 202 (dk_at dksX0_piece_3 19 rfl rfl)
theorem dX0_piece_92 : decode cX0_piece 92 = .ok (.aload_n 0, 1) := dk_42 (dk_at dksX0_piece_3 22 rfl rfl)
theorem dX0_piece_93 : decode cX0_piece 93 = .ok (.invokevirtual 166, 3) := dk_182 0 166 (dk_at dksX0_piece_4 0 rfl rfl)
theorem dX0_piece_96 : decode cX0_piece 96 = .ok (.aload_n 0, 1) := dk_42 (dk_at dksX0_piece_4 3 rfl rfl)
theorem dX0_piece_97 : decode cX0_piece 97 = .ok (.aload_n 1, 1) := dk_43 (dk_at dksX0_piece_4 4 rfl rfl)
theorem dX0_piece_98 : decode cX0_piece 98 = .ok (.invokevirtual 170, 3) := dk_182 0 170 (dk_at dksX0_piece_4 5 rfl rfl)
theorem dX0_piece_101 : decode cX0_piece 101 = .ok (.aload_n 0, 1) := dk_42 (dk_at dksX0_piece_4 8 rfl rfl)
theorem dX0_piece_102 : decode cX0_piece 102 = .ok (.bipush 41, 2) := dk_16 41 (dk_at dksX0_piece_4 9 rfl rfl)
theorem dX0_piece_104 : decode cX0_piece 104 = .ok (.invokevirtual 177, 3) := dk_182 0 177 (dk_at dksX0_piece_4 11 rfl rfl)
theorem dX0_piece_107 : decode cX0_piece 107 = .ok (.ifCond .ne 7, 3) := dk_154 0 7 (dk_at dksX0_piece_4 14 rfl rfl)
theorem dX0_piece_110 : decode cX0_piece 110 = .ok (.aload_n 0, 1) := dk_42 (dk_at dksX0_piece_4 17 rfl rfl)
theorem dX0_piece_111 : decode cX0_piece 111 = .ok (.invokevirtual 153, 3) := dk_182 0 153 (dk_at dksX0_piece_4 18 rfl rfl)
theorem dX0_piece_114 : decode cX0_piece 114 = .ok (.aload_n 0, 1) := dk_42 (dk_at dksX0_piece_4 21 rfl rfl)
theorem dX0_piece_115 : decode cX0_piece 115 = .ok (.invokevirtual 166, 3) := dk_182 0 166 (dk_at dksX0_piece_5 0 rfl rfl)
theorem dX0_piece_118 : decode cX0_piece 118 = .ok (.aload_n 0, 1) := dk_42 (dk_at dksX0_piece_5 3 rfl rfl)
theorem dX0_piece_119 : decode cX0_piece 119 = .ok (.dup, 1) := dk_89 (dk_at dksX0_piece_5 4 rfl rfl)
theorem dX0_piece_120 : decode cX0_piece 120 = .ok (.getfield 202, 3) := dk_180 0 202 (dk_at dksX0_piece_5 5 rfl rfl)
theorem dX0_piece_123 : decode cX0_piece 123 = .ok (.iconst 1, 1) := dk_4 (dk_at dksX0_piece_5 8 rfl rfl)
theorem dX0_piece_124 : decode cX0_piece 124 = .ok (.isub, 1) := dk_100 (dk_at dksX0_piece_5 9 rfl rfl)
theorem dX0_piece_125 : decode cX0_piece 125 = .ok (.putfield 202, 3) := dk_181 0 202 (dk_at dksX0_piece_5 10 rfl rfl)
theorem dX0_piece_128 : decode cX0_piece 128 = .ok (.goto 123, 3) := dk_167 0 123 (dk_at dksX0_piece_5 13 rfl rfl)
theorem dX0_piece_131 : decode cX0_piece 131 = .ok (.aload_n 0, 1) := dk_42 (dk_at dksX0_piece_5 16 rfl rfl)
theorem dX0_piece_132 : decode cX0_piece 132 = .ok (.getfield 134, 3) := dk_180 0 134 (dk_at dksX0_piece_5 17 rfl rfl)
theorem dX0_piece_135 : decode cX0_piece 135 = .ok (.aload_n 0, 1) := dk_42 (dk_at dksX0_piece_5 20 rfl rfl)
theorem dX0_piece_136 : decode cX0_piece 136 = .ok (.getfield 143, 3) := dk_180 0 143 (dk_at dksX0_piece_5 21 rfl rfl)
theorem dX0_piece_139 : decode cX0_piece 139 = .ok (.if_icmp .ge 40, 3) := dk_162 0 40 (dk_at dksX0_piece_6 0 rfl rfl)
theorem dX0_piece_142 : decode cX0_piece 142 = .ok (.aload_n 0, 1) := dk_42 (dk_at dksX0_piece_6 3 rfl rfl)
theorem dX0_piece_143 : decode cX0_piece 143 = .ok (.getfield 63, 3) := dk_180 0 63 (dk_at dksX0_piece_6 4 rfl rfl)
theorem dX0_piece_146 : decode cX0_piece 146 = .ok (.aload_n 0, 1) := dk_42 (dk_at dksX0_piece_6 7 rfl rfl)
theorem dX0_piece_147 : decode cX0_piece 147 = .ok (.getfield 134, 3) := dk_180 0 134 (dk_at dksX0_piece_6 8 rfl rfl)
theorem dX0_piece_150 : decode cX0_piece 150 = .ok (.baload, 1) := dk_51 (dk_at dksX0_piece_6 11 rfl rfl)
theorem dX0_piece_151 : decode cX0_piece 151 = .ok (.invokestatic 150, 3) := dk_184 0 150 (dk_at dksX0_piece_6 12 rfl rfl)
theorem dX0_piece_154 : decode cX0_piece 154 = .ok (.ifCond .eq 25, 3) := dk_153 0 25 (dk_at dksX0_piece_6 15 rfl rfl)
theorem dX0_piece_157 : decode cX0_piece 157 = .ok (.aload_n 0, 1) := dk_42 (dk_at dksX0_piece_6 18 rfl rfl)
theorem dX0_piece_158 : decode cX0_piece 158 = .ok (.dup, 1) := dk_89 (dk_at dksX0_piece_6 19 rfl rfl)
theorem dX0_piece_159 : decode cX0_piece 159 = .ok (.getfield 205, 3) := dk_180 0 205 (dk_at dksX0_piece_6 20 rfl rfl)
theorem dX0_piece_162 : decode cX0_piece 162 = .ok (.iconst 1, 1) := dk_4 (dk_at dksX0_piece_6 23 rfl rfl)
theorem dX0_piece_163 : decode cX0_piece 163 = .ok (.iadd, 1) := dk_96 (dk_at dksX0_piece_7 0 rfl rfl)
theorem dX0_piece_164 : decode cX0_piece 164 = .ok (.putfield 205, 3) := dk_181 0 205 (dk_at dksX0_piece_7 1 rfl rfl)
theorem dX0_piece_167 : decode cX0_piece 167 = .ok (.aload_n 1, 1) := dk_43 (dk_at dksX0_piece_7 4 rfl rfl)
theorem dX0_piece_168 : decode cX0_piece 168 = .ok (.iconst 1, 1) := dk_4 (dk_at dksX0_piece_7 5 rfl rfl)
theorem dX0_piece_169 : decode cX0_piece 169 = .ok (.aload_n 0, 1) := dk_42 (dk_at dksX0_piece_7 6 rfl rfl)
theorem dX0_piece_170 : decode cX0_piece 170 = .ok (.invokevirtual 208, 3) := dk_182 0 208 (dk_at dksX0_piece_7 7 rfl rfl)
theorem dX0_piece_173 : decode cX0_piece 173 = .ok (.invokevirtual 180, 3) := dk_182 0 180 (dk_at dksX0_piece_7 10 rfl rfl)
theorem dX0_piece_176 : decode cX0_piece 176 = .ok (.goto 75, 3) := dk_167 0 75 (dk_at dksX0_piece_7 13 rfl rfl)
theorem dX0_piece_179 : decode cX0_piece 179 = .ok (.aload_n 0, 1) := dk_42 (dk_at dksX0_piece_7 16 rfl rfl)
theorem dX0_piece_180 : decode cX0_piece 180 = .ok (.getfield 134, 3) := dk_180 0 134 (dk_at dksX0_piece_7 17 rfl rfl)
theorem dX0_piece_183 : decode cX0_piece 183 = .ok (.aload_n 0, 1) := dk_42 (dk_at dksX0_piece_7 20 rfl rfl)
theorem dX0_piece_184 : decode cX0_piece 184 = .ok (.getfield 143, 3) := dk_180 0 143 (dk_at dksX0_piece_7 21 rfl rfl)
theorem dX0_piece_187 : decode cX0_piece 187 = .ok (.if_icmp .eq 32, 3) := dk_159 0 32 (dk_at dksX0_piece_8 0 rfl rfl)
theorem dX0_piece_190 : decode cX0_piece 190 = .ok (.aload_n 0, 1) := dk_42 (dk_at dksX0_piece_8 3 rfl rfl)
theorem dX0_piece_191 : decode cX0_piece 191 = .ok (.getfield 140, 3) := dk_180 0 140 (dk_at dksX0_piece_8 4 rfl rfl)
theorem dX0_piece_194 : decode cX0_piece 194 = .ok (.aload_n 0, 1) := dk_42 (dk_at dksX0_piece_8 7 rfl rfl)
theorem dX0_piece_195 : decode cX0_piece 195 = .ok (.getfield 134, 3) := dk_180 0 134 (dk_at dksX0_piece_8 8 rfl rfl)
theorem dX0_piece_198 : decode cX0_piece 198 = .ok (.isub, 1) := dk_100 (dk_at dksX0_piece_8 11 rfl rfl)
theorem dX0_piece_199 : decode cX0_piece 199 = .ok (.iconst 1, 1) := dk_4 (dk_at dksX0_piece_8 12 rfl rfl)
theorem dX0_piece_200 : decode cX0_piece 200 = .ok (.if_icmp .ne 19, 3) := dk_160 0 19 (dk_at dksX0_piece_8 13 rfl rfl)
theorem dX0_piece_203 : decode cX0_piece 203 = .ok (.aload_n 0, 1) := dk_42 (dk_at dksX0_piece_8 16 rfl rfl)
theorem dX0_piece_204 : decode cX0_piece 204 = .ok (.aload_n 0, 1) := dk_42 (dk_at dksX0_piece_8 17 rfl rfl)
theorem dX0_piece_205 : decode cX0_piece 205 = .ok (.getfield 63, 3) := dk_180 0 63 (dk_at dksX0_piece_8 18 rfl rfl)
theorem dX0_piece_208 : decode cX0_piece 208 = .ok (.aload_n 0, 1) := dk_42 (dk_at dksX0_piece_8 21 rfl rfl)
theorem dX0_piece_209 : decode cX0_piece 209 = .ok (.getfield 134, 3) := dk_180 0 134 (dk_at dksX0_piece_9 0 rfl rfl)
theorem dX0_piece_212 : decode cX0_piece 212 = .ok (.baload, 1) := dk_51 (dk_at dksX0_piece_9 3 rfl rfl)
theorem dX0_piece_213 : decode cX0_piece 213 = .ok (.invokevirtual 211, 3) := dk_182 0 211 (dk_at dksX0_piece_9 4 rfl rfl)
theorem dX0_piece_216 : decode cX0_piece 216 = .ok (.ifCond .ne 7, 3) := dk_154 0 7 (dk_at dksX0_piece_9 7 rfl rfl)
theorem dX0_piece_219 : decode cX0_piece 219 = .ok (.aload_n 0, 1) := dk_42 (dk_at dksX0_piece_9 10 rfl rfl)
theorem dX0_piece_220 : decode cX0_piece 220 = .ok (.invokevirtual 153, 3) := dk_182 0 153 (dk_at dksX0_piece_9 11 rfl rfl)
theorem dX0_piece_223 : decode cX0_piece 223 = .ok (.aload_n 0, 1) := dk_42 (dk_at dksX0_piece_9 14 rfl rfl)
theorem dX0_piece_224 : decode cX0_piece 224 = .ok (.dup, 1) := dk_89 (dk_at dksX0_piece_9 15 rfl rfl)
theorem dX0_piece_225 : decode cX0_piece 225 = .ok (.getfield 205, 3) := dk_180 0 205 (dk_at dksX0_piece_9 16 rfl rfl)
theorem dX0_piece_228 : decode cX0_piece 228 = .ok (.iconst 1, 1) := dk_4 (dk_at dksX0_piece_9 19 rfl rfl)
theorem dX0_piece_229 : decode cX0_piece 229 = .ok (.iadd, 1) := dk_96 (dk_at dksX0_piece_9 20 rfl rfl)
theorem dX0_piece_230 : decode cX0_piece 230 = .ok (.putfield 205, 3) := dk_181 0 205 (dk_at dksX0_piece_9 21 rfl rfl)
theorem dX0_piece_233 : decode cX0_piece 233 = .ok (.aload_n 1, 1) := dk_43 (dk_at dksX0_piece_10 0 rfl rfl)
theorem dX0_piece_234 : decode cX0_piece 234 = .ok (.iconst 2, 1) := dk_5 (dk_at dksX0_piece_10 1 rfl rfl)
theorem dX0_piece_235 : decode cX0_piece 235 = .ok (.aload_n 0, 1) := dk_42 (dk_at dksX0_piece_10 2 rfl rfl)
theorem dX0_piece_236 : decode cX0_piece 236 = .ok (.getfield 63, 3) := dk_180 0 63 (dk_at dksX0_piece_10 3 rfl rfl)
theorem dX0_piece_239 : decode cX0_piece 239 = .ok (.aload_n 0, 1) := dk_42 (dk_at dksX0_piece_10 6 rfl rfl)
theorem dX0_piece_240 : decode cX0_piece 240 = .ok (.getfield 134, 3) := dk_180 0 134 (dk_at dksX0_piece_10 7 rfl rfl)
theorem dX0_piece_243 : decode cX0_piece 243 = .ok (.baload, 1) := dk_51 (dk_at dksX0_piece_10 10 rfl rfl)
theorem dX0_piece_244 : decode cX0_piece 244 = .ok (.invokevirtual 180, 3) := dk_182 0 180 (dk_at dksX0_piece_10 11 rfl rfl)
theorem dX0_piece_247 : decode cX0_piece 247 = .ok (.aload_n 0, 1) := dk_42 (dk_at dksX0_piece_10 14 rfl rfl)
theorem dX0_piece_248 : decode cX0_piece 248 = .ok (.invokevirtual 166, 3) := dk_182 0 166 (dk_at dksX0_piece_10 15 rfl rfl)
theorem dX0_piece_251 : decode cX0_piece 251 = .ok (.return_, 1) := dk_177 (dk_at dksX0_piece_10 18 rfl rfl)
abbrev cX0_isSign : ByteArray := prog_1_method_18_code
def yX0_isSign : MethodName := ⟨RX0, "isSign", "(I)Z"⟩
def dkwX0_isSign_1 : List UInt8 := [42, 180, 0, 63, 42, 180, 0, 134, 51, 27, 160, 0, 7, 4, 167, 0, 4, 3, 172]
abbrev dktX0_isSign_1 : List UInt8 := dkwX0_isSign_1 ++ []
def dkwX0_isSign_0 : List UInt8 := [42, 180, 0, 134, 42, 180, 0, 143, 162, 0, 33, 42, 180, 0, 140, 42, 180, 0, 134, 100, 4, 160, 0, 20]
abbrev dktX0_isSign_0 : List UInt8 := dkwX0_isSign_0 ++ dktX0_isSign_1
theorem dksX0_isSign_0 : cX0_isSign.data.toList.drop 0 = dktX0_isSign_0 := by decide +kernel
theorem dksX0_isSign_1 : cX0_isSign.data.toList.drop 24 = dktX0_isSign_1 := dk_seg dksX0_isSign_0 24 rfl rfl
theorem dX0_isSign_0 : decode cX0_isSign 0 = .ok (.aload_n 0, 1) := dk_42 (dk_at dksX0_isSign_0 0 rfl rfl)
theorem dX0_isSign_1 : decode cX0_isSign 1 = .ok (.getfield 134, 3) := dk_180 0 134 (dk_at dksX0_isSign_0 1 rfl rfl)
theorem dX0_isSign_4 : decode cX0_isSign 4 = .ok (.aload_n 0, 1) := dk_42 (dk_at dksX0_isSign_0 4 rfl rfl)
theorem dX0_isSign_5 : decode cX0_isSign 5 = .ok (.getfield 143, 3) := dk_180 0 143 (dk_at dksX0_isSign_0 5 rfl rfl)
theorem dX0_isSign_8 : decode cX0_isSign 8 = .ok (.if_icmp .ge 33, 3) := dk_162 0 33 (dk_at dksX0_isSign_0 8 rfl rfl)
theorem dX0_isSign_11 : decode cX0_isSign 11 = .ok (.aload_n 0, 1) := dk_42 (dk_at dksX0_isSign_0 11 rfl rfl)
theorem dX0_isSign_12 : decode cX0_isSign 12 = .ok (.getfield 140, 3) := dk_180 0 140 (dk_at dksX0_isSign_0 12 rfl rfl)
theorem dX0_isSign_15 : decode cX0_isSign 15 = .ok (.aload_n 0, 1) := dk_42 (dk_at dksX0_isSign_0 15 rfl rfl)
theorem dX0_isSign_16 : decode cX0_isSign 16 = .ok (.getfield 134, 3) := dk_180 0 134 (dk_at dksX0_isSign_0 16 rfl rfl)
theorem dX0_isSign_19 : decode cX0_isSign 19 = .ok (.isub, 1) := dk_100 (dk_at dksX0_isSign_0 19 rfl rfl)
theorem dX0_isSign_20 : decode cX0_isSign 20 = .ok (.iconst 1, 1) := dk_4 (dk_at dksX0_isSign_0 20 rfl rfl)
theorem dX0_isSign_21 : decode cX0_isSign 21 = .ok (.if_icmp .ne 20, 3) := dk_160 0 20 (dk_at dksX0_isSign_0 21 rfl rfl)
theorem dX0_isSign_24 : decode cX0_isSign 24 = .ok (.aload_n 0, 1) := dk_42 (dk_at dksX0_isSign_1 0 rfl rfl)
theorem dX0_isSign_25 : decode cX0_isSign 25 = .ok (.getfield 63, 3) := dk_180 0 63 (dk_at dksX0_isSign_1 1 rfl rfl)
theorem dX0_isSign_28 : decode cX0_isSign 28 = .ok (.aload_n 0, 1) := dk_42 (dk_at dksX0_isSign_1 4 rfl rfl)
theorem dX0_isSign_29 : decode cX0_isSign 29 = .ok (.getfield 134, 3) := dk_180 0 134 (dk_at dksX0_isSign_1 5 rfl rfl)
theorem dX0_isSign_32 : decode cX0_isSign 32 = .ok (.baload, 1) := dk_51 (dk_at dksX0_isSign_1 8 rfl rfl)
theorem dX0_isSign_33 : decode cX0_isSign 33 = .ok (.iload_n 1, 1) := dk_27 (dk_at dksX0_isSign_1 9 rfl rfl)
theorem dX0_isSign_34 : decode cX0_isSign 34 = .ok (.if_icmp .ne 7, 3) := dk_160 0 7 (dk_at dksX0_isSign_1 10 rfl rfl)
theorem dX0_isSign_37 : decode cX0_isSign 37 = .ok (.iconst 1, 1) := dk_4 (dk_at dksX0_isSign_1 13 rfl rfl)
theorem dX0_isSign_38 : decode cX0_isSign 38 = .ok (.goto 4, 3) := dk_167 0 4 (dk_at dksX0_isSign_1 14 rfl rfl)
theorem dX0_isSign_41 : decode cX0_isSign 41 = .ok (.iconst 0, 1) := dk_3 (dk_at dksX0_isSign_1 17 rfl rfl)
theorem dX0_isSign_42 : decode cX0_isSign 42 = .ok (.ireturn, 1) := dk_172 (dk_at dksX0_isSign_1 18 rfl rfl)
abbrev cX0_number : ByteArray := prog_1_method_19_code
def yX0_number : MethodName := ⟨RX0, "number", "()I"⟩
def dkwX0_number_3 : List UInt8 := [16, 48, 100, 60, 132, 2, 1, 167, 255, 230, 42, 182, 0, 166, 27, 172]
abbrev dktX0_number_3 : List UInt8 := dkwX0_number_3 ++ []
def dkwX0_number_2 : List UInt8 := [180, 0, 134, 61, 28, 42, 180, 0, 140, 162, 0, 24, 16, 10, 27, 104, 42, 180, 0, 63, 28, 51, 96]
abbrev dktX0_number_2 : List UInt8 := dkwX0_number_2 ++ dktX0_number_3
def dkwX0_number_1 : List UInt8 := [153, 0, 16, 42, 180, 0, 140, 42, 180, 0, 134, 100, 7, 164, 0, 7, 42, 182, 0, 153, 3, 60, 42]
abbrev dktX0_number_1 : List UInt8 := dkwX0_number_1 ++ dktX0_number_2
def dkwX0_number_0 : List UInt8 := [42, 180, 0, 134, 42, 180, 0, 143, 159, 0, 31, 42, 180, 0, 63, 42, 180, 0, 134, 51, 184, 0, 150]
abbrev dktX0_number_0 : List UInt8 := dkwX0_number_0 ++ dktX0_number_1
theorem dksX0_number_0 : cX0_number.data.toList.drop 0 = dktX0_number_0 := by decide +kernel
theorem dksX0_number_1 : cX0_number.data.toList.drop 23 = dktX0_number_1 := dk_seg dksX0_number_0 23 rfl rfl
theorem dksX0_number_2 : cX0_number.data.toList.drop 46 = dktX0_number_2 := dk_seg dksX0_number_1 23 rfl rfl
theorem dksX0_number_3 : cX0_number.data.toList.drop 69 = dktX0_number_3 := dk_seg dksX0_number_2 23 rfl rfl
theorem dX0_number_0 : decode cX0_number 0 = .ok (.aload_n 0, 1) := dk_42 (dk_at dksX0_number_0 0 rfl rfl)
theorem dX0_number_1 : decode cX0_number 1 = .ok (.getfield 134, 3) := dk_180 0 134 (dk_at dksX0_number_0 1 rfl rfl)
theorem dX0_number_4 : decode cX0_number 4 = .ok (.aload_n 0, 1) := dk_42 (dk_at dksX0_number_0 4 rfl rfl)
theorem dX0_number_5 : decode cX0_number 5 = .ok (.getfield 143, 3) := dk_180 0 143 (dk_at dksX0_number_0 5 rfl rfl)
theorem dX0_number_8 : decode cX0_number 8 = .ok (.if_icmp .eq 31, 3) := dk_159 0 31 (dk_at dksX0_number_0 8 rfl rfl)
theorem dX0_number_11 : decode cX0_number 11 = .ok (.aload_n 0, 1) := dk_42 (dk_at dksX0_number_0 11 rfl rfl)
theorem dX0_number_12 : decode cX0_number 12 = .ok (.getfield 63, 3) := dk_180 0 63 (dk_at dksX0_number_0 12 rfl rfl)
theorem dX0_number_15 : decode cX0_number 15 = .ok (.aload_n 0, 1) := dk_42 (dk_at dksX0_number_0 15 rfl rfl)
theorem dX0_number_16 : decode cX0_number 16 = .ok (.getfield 134, 3) := dk_180 0 134 (dk_at dksX0_number_0 16 rfl rfl)
theorem dX0_number_19 : decode cX0_number 19 = .ok (.baload, 1) := dk_51 (dk_at dksX0_number_0 19 rfl rfl)
theorem dX0_number_20 : decode cX0_number 20 = .ok (.invokestatic 150, 3) := dk_184 0 150 (dk_at dksX0_number_0 20 rfl rfl)
theorem dX0_number_23 : decode cX0_number 23 = .ok (.ifCond .eq 16, 3) := dk_153 0 16 (dk_at dksX0_number_1 0 rfl rfl)
theorem dX0_number_26 : decode cX0_number 26 = .ok (.aload_n 0, 1) := dk_42 (dk_at dksX0_number_1 3 rfl rfl)
theorem dX0_number_27 : decode cX0_number 27 = .ok (.getfield 140, 3) := dk_180 0 140 (dk_at dksX0_number_1 4 rfl rfl)
theorem dX0_number_30 : decode cX0_number 30 = .ok (.aload_n 0, 1) := dk_42 (dk_at dksX0_number_1 7 rfl rfl)
theorem dX0_number_31 : decode cX0_number 31 = .ok (.getfield 134, 3) := dk_180 0 134 (dk_at dksX0_number_1 8 rfl rfl)
theorem dX0_number_34 : decode cX0_number 34 = .ok (.isub, 1) := dk_100 (dk_at dksX0_number_1 11 rfl rfl)
theorem dX0_number_35 : decode cX0_number 35 = .ok (.iconst 4, 1) := dk_7 (dk_at dksX0_number_1 12 rfl rfl)
theorem dX0_number_36 : decode cX0_number 36 = .ok (.if_icmp .le 7, 3) := dk_164 0 7 (dk_at dksX0_number_1 13 rfl rfl)
theorem dX0_number_39 : decode cX0_number 39 = .ok (.aload_n 0, 1) := dk_42 (dk_at dksX0_number_1 16 rfl rfl)
theorem dX0_number_40 : decode cX0_number 40 = .ok (.invokevirtual 153, 3) := dk_182 0 153 (dk_at dksX0_number_1 17 rfl rfl)
theorem dX0_number_43 : decode cX0_number 43 = .ok (.iconst 0, 1) := dk_3 (dk_at dksX0_number_1 20 rfl rfl)
theorem dX0_number_44 : decode cX0_number 44 = .ok (.istore_n 1, 1) := dk_60 (dk_at dksX0_number_1 21 rfl rfl)
theorem dX0_number_45 : decode cX0_number 45 = .ok (.aload_n 0, 1) := dk_42 (dk_at dksX0_number_1 22 rfl rfl)
theorem dX0_number_46 : decode cX0_number 46 = .ok (.getfield 134, 3) := dk_180 0 134 (dk_at dksX0_number_2 0 rfl rfl)
theorem dX0_number_49 : decode cX0_number 49 = .ok (.istore_n 2, 1) := dk_61 (dk_at dksX0_number_2 3 rfl rfl)
theorem dX0_number_50 : decode cX0_number 50 = .ok (.iload_n 2, 1) := dk_28 (dk_at dksX0_number_2 4 rfl rfl)
theorem dX0_number_51 : decode cX0_number 51 = .ok (.aload_n 0, 1) := dk_42 (dk_at dksX0_number_2 5 rfl rfl)
theorem dX0_number_52 : decode cX0_number 52 = .ok (.getfield 140, 3) := dk_180 0 140 (dk_at dksX0_number_2 6 rfl rfl)
theorem dX0_number_55 : decode cX0_number 55 = .ok (.if_icmp .ge 24, 3) := dk_162 0 24 (dk_at dksX0_number_2 9 rfl rfl)
theorem dX0_number_58 : decode cX0_number 58 = .ok (.bipush 10, 2) := dk_16 10 (dk_at dksX0_number_2 12 rfl rfl)
theorem dX0_number_60 : decode cX0_number 60 = .ok (.iload_n 1, 1) := dk_27 (dk_at dksX0_number_2 14 rfl rfl)
theorem dX0_number_61 : decode cX0_number 61 = .ok (.imul, 1) := dk_104 (dk_at dksX0_number_2 15 rfl rfl)
theorem dX0_number_62 : decode cX0_number 62 = .ok (.aload_n 0, 1) := dk_42 (dk_at dksX0_number_2 16 rfl rfl)
theorem dX0_number_63 : decode cX0_number 63 = .ok (.getfield 63, 3) := dk_180 0 63 (dk_at dksX0_number_2 17 rfl rfl)
theorem dX0_number_66 : decode cX0_number 66 = .ok (.iload_n 2, 1) := dk_28 (dk_at dksX0_number_2 20 rfl rfl)
theorem dX0_number_67 : decode cX0_number 67 = .ok (.baload, 1) := dk_51 (dk_at dksX0_number_2 21 rfl rfl)
theorem dX0_number_68 : decode cX0_number 68 = .ok (.iadd, 1) := dk_96 (dk_at dksX0_number_2 22 rfl rfl)
theorem dX0_number_69 : decode cX0_number 69 = .ok (.bipush 48, 2) := dk_16 48 (dk_at dksX0_number_3 0 rfl rfl)
theorem dX0_number_71 : decode cX0_number 71 = .ok (.isub, 1) := dk_100 (dk_at dksX0_number_3 2 rfl rfl)
theorem dX0_number_72 : decode cX0_number 72 = .ok (.istore_n 1, 1) := dk_60 (dk_at dksX0_number_3 3 rfl rfl)
theorem dX0_number_73 : decode cX0_number 73 = .ok (.iinc 2 1, 3) := dk_132 2 1 (dk_at dksX0_number_3 4 rfl rfl)
theorem dX0_number_76 : decode cX0_number 76 = .ok (.goto (-26), 3) := dk_167 255 230 (dk_at dksX0_number_3 7 rfl rfl)
theorem dX0_number_79 : decode cX0_number 79 = .ok (.aload_n 0, 1) := dk_42 (dk_at dksX0_number_3 10 rfl rfl)
theorem dX0_number_80 : decode cX0_number 80 = .ok (.invokevirtual 166, 3) := dk_182 0 166 (dk_at dksX0_number_3 11 rfl rfl)
theorem dX0_number_83 : decode cX0_number 83 = .ok (.iload_n 1, 1) := dk_27 (dk_at dksX0_number_3 14 rfl rfl)
theorem dX0_number_84 : decode cX0_number 84 = .ok (.ireturn, 1) := dk_172 (dk_at dksX0_number_3 15 rfl rfl)
abbrev cX0_isName : ByteArray := prog_1_method_26_code
def yX0_isName : MethodName := ⟨RX0, "isName", "(I)Z"⟩
def dkwX0_isName_5 : List UInt8 := [172]
abbrev dktX0_isName_5 : List UInt8 := dkwX0_isName_5 ++ []
def dkwX0_isName_4 : List UInt8 := [160, 0, 7, 4, 167, 0, 4, 3, 172, 42, 180, 0, 196, 4, 160, 0, 7, 4, 167, 0, 4, 3, 172, 3]
abbrev dktX0_isName_4 : List UInt8 := dkwX0_isName_4 ++ dktX0_isName_5
def dkwX0_isName_3 : List UInt8 := [167, 0, 4, 3, 172, 42, 180, 0, 196, 154, 0, 7, 4, 167, 0, 4, 3, 172, 42, 180, 0, 196, 4]
abbrev dktX0_isName_3 : List UInt8 := dkwX0_isName_3 ++ dktX0_isName_4
def dkwX0_isName_2 : List UInt8 := [42, 180, 0, 196, 4, 159, 0, 7, 4, 167, 0, 4, 3, 172, 42, 180, 0, 196, 4, 159, 0, 7, 4]
abbrev dktX0_isName_2 : List UInt8 := dkwX0_isName_2 ++ dktX0_isName_3
def dkwX0_isName_1 : List UInt8 := [171, 0, 0, 0, 0, 0, 120, 0, 0, 0, 5, 0, 0, 0, 101, 0, 0, 0, 92, 0, 0, 0, 104, 0, 0, 0, 79, 0, 0, 0, 109, 0, 0, 0, 106, 0, 0, 0, 111, 0, 0, 0, 51, 0, 0, 0, 116, 0, 0, 0, 65]
abbrev dktX0_isName_1 : List UInt8 := dkwX0_isName_1 ++ dktX0_isName_2
def dkwX0_isName_0 : List UInt8 := [27]
abbrev dktX0_isName_0 : List UInt8 := dkwX0_isName_0 ++ dktX0_isName_1
theorem dksX0_isName_0 : cX0_isName.data.toList.drop 0 = dktX0_isName_0 := by decide +kernel
theorem dksX0_isName_1 : cX0_isName.data.toList.drop 1 = dktX0_isName_1 := dk_seg dksX0_isName_0 1 rfl rfl
theorem dksX0_isName_2 : cX0_isName.data.toList.drop 52 = dktX0_isName_2 := dk_seg dksX0_isName_1 51 rfl rfl
theorem dksX0_isName_3 : cX0_isName.data.toList.drop 75 = dktX0_isName_3 := dk_seg dksX0_isName_2 23 rfl rfl
theorem dksX0_isName_4 : cX0_isName.data.toList.drop 98 = dktX0_isName_4 := dk_seg dksX0_isName_3 23 rfl rfl
theorem dksX0_isName_5 : cX0_isName.data.toList.drop 122 = dktX0_isName_5 := dk_seg dksX0_isName_4 24 rfl rfl
theorem dX0_isName_0 : decode cX0_isName 0 = .ok (.iload_n 1, 1) := dk_27 (dk_at dksX0_isName_0 0 rfl rfl)
theorem dX0_isName_1 : decode cX0_isName 1 = .ok (.lookupswitch 120 #[(101, 92), (104, 79), (109, 106), (111, 51), (116, 65)], 51) := by decide +kernel
theorem dX0_isName_52 : decode cX0_isName 52 = .ok (.aload_n 0, 1) := dk_42 (dk_at dksX0_isName_2 0 rfl rfl)
theorem dX0_isName_53 : decode cX0_isName 53 = .ok (.getfield 196, 3) := dk_180 0 196 (dk_at dksX0_isName_2 1 rfl rfl)
theorem dX0_isName_56 : decode cX0_isName 56 = .ok (.iconst 1, 1) := dk_4 (dk_at dksX0_isName_2 4 rfl rfl)
theorem dX0_isName_57 : decode cX0_isName 57 = .ok (.if_icmp .eq 7, 3) := dk_159 0 7 (dk_at dksX0_isName_2 5 rfl rfl)
theorem dX0_isName_60 : decode cX0_isName 60 = .ok (.iconst 1, 1) := dk_4 (dk_at dksX0_isName_2 8 rfl rfl)
theorem dX0_isName_61 : decode cX0_isName 61 = .ok (.goto 4, 3) := dk_167 0 4 (dk_at dksX0_isName_2 9 rfl rfl)
theorem dX0_isName_64 : decode cX0_isName 64 = .ok (.iconst 0, 1) := dk_3 (dk_at dksX0_isName_2 12 rfl rfl)
theorem dX0_isName_65 : decode cX0_isName 65 = .ok (.ireturn, 1) := dk_172 (dk_at dksX0_isName_2 13 rfl rfl)
theorem dX0_isName_66 : decode cX0_isName 66 = .ok (.aload_n 0, 1) := dk_42 (dk_at dksX0_isName_2 14 rfl rfl)
theorem dX0_isName_67 : decode cX0_isName 67 = .ok (.getfield 196, 3) := dk_180 0 196 (dk_at dksX0_isName_2 15 rfl rfl)
theorem dX0_isName_70 : decode cX0_isName 70 = .ok (.iconst 1, 1) := dk_4 (dk_at dksX0_isName_2 18 rfl rfl)
theorem dX0_isName_71 : decode cX0_isName 71 = .ok (.if_icmp .eq 7, 3) := dk_159 0 7 (dk_at dksX0_isName_2 19 rfl rfl)
theorem dX0_isName_74 : decode cX0_isName 74 = .ok (.iconst 1, 1) := dk_4 (dk_at dksX0_isName_2 22 rfl rfl)
theorem dX0_isName_75 : decode cX0_isName 75 = .ok (.goto 4, 3) := dk_167 0 4 (dk_at dksX0_isName_3 0 rfl rfl)
theorem dX0_isName_78 : decode cX0_isName 78 = .ok (.iconst 0, 1) := dk_3 (dk_at dksX0_isName_3 3 rfl rfl)
theorem dX0_isName_79 : decode cX0_isName 79 = .ok (.ireturn, 1) := dk_172 (dk_at dksX0_isName_3 4 rfl rfl)
theorem dX0_isName_80 : decode cX0_isName 80 = .ok (.aload_n 0, 1) := dk_42 (dk_at dksX0_isName_3 5 rfl rfl)
theorem dX0_isName_81 : decode cX0_isName 81 = .ok (.getfield 196, 3) := dk_180 0 196 (dk_at dksX0_isName_3 6 rfl rfl)
theorem dX0_isName_84 : decode cX0_isName 84 = .ok (.ifCond .ne 7, 3) := dk_154 0 7 (dk_at dksX0_isName_3 9 rfl rfl)
theorem dX0_isName_87 : decode cX0_isName 87 = .ok (.iconst 1, 1) := dk_4 (dk_at dksX0_isName_3 12 rfl rfl)
theorem dX0_isName_88 : decode cX0_isName 88 = .ok (.goto 4, 3) := dk_167 0 4 (dk_at dksX0_isName_3 13 rfl rfl)
theorem dX0_isName_91 : decode cX0_isName 91 = .ok (.iconst 0, 1) := dk_3 (dk_at dksX0_isName_3 16 rfl rfl)
theorem dX0_isName_92 : decode cX0_isName 92 = .ok (.ireturn, 1) := dk_172 (dk_at dksX0_isName_3 17 rfl rfl)
theorem dX0_isName_93 : decode cX0_isName 93 = .ok (.aload_n 0, 1) := dk_42 (dk_at dksX0_isName_3 18 rfl rfl)
theorem dX0_isName_94 : decode cX0_isName 94 = .ok (.getfield 196, 3) := dk_180 0 196 (dk_at dksX0_isName_3 19 rfl rfl)
theorem dX0_isName_97 : decode cX0_isName 97 = .ok (.iconst 1, 1) := dk_4 (dk_at dksX0_isName_3 22 rfl rfl)
theorem dX0_isName_98 : decode cX0_isName 98 = .ok (.if_icmp .ne 7, 3) := dk_160 0 7 (dk_at dksX0_isName_4 0 rfl rfl)
theorem dX0_isName_101 : decode cX0_isName 101 = .ok (.iconst 1, 1) := dk_4 (dk_at dksX0_isName_4 3 rfl rfl)
theorem dX0_isName_102 : decode cX0_isName 102 = .ok (.goto 4, 3) := dk_167 0 4 (dk_at dksX0_isName_4 4 rfl rfl)
theorem dX0_isName_105 : decode cX0_isName 105 = .ok (.iconst 0, 1) := dk_3 (dk_at dksX0_isName_4 7 rfl rfl)
theorem dX0_isName_106 : decode cX0_isName 106 = .ok (.ireturn, 1) := dk_172 (dk_at dksX0_isName_4 8 rfl rfl)
theorem dX0_isName_107 : decode cX0_isName 107 = .ok (.aload_n 0, 1) := dk_42 (dk_at dksX0_isName_4 9 rfl rfl)
theorem dX0_isName_108 : decode cX0_isName 108 = .ok (.getfield 196, 3) := dk_180 0 196 (dk_at dksX0_isName_4 10 rfl rfl)
theorem dX0_isName_111 : decode cX0_isName 111 = .ok (.iconst 1, 1) := dk_4 (dk_at dksX0_isName_4 13 rfl rfl)
theorem dX0_isName_112 : decode cX0_isName 112 = .ok (.if_icmp .ne 7, 3) := dk_160 0 7 (dk_at dksX0_isName_4 14 rfl rfl)
theorem dX0_isName_115 : decode cX0_isName 115 = .ok (.iconst 1, 1) := dk_4 (dk_at dksX0_isName_4 17 rfl rfl)
theorem dX0_isName_116 : decode cX0_isName 116 = .ok (.goto 4, 3) := dk_167 0 4 (dk_at dksX0_isName_4 18 rfl rfl)
theorem dX0_isName_119 : decode cX0_isName 119 = .ok (.iconst 0, 1) := dk_3 (dk_at dksX0_isName_4 21 rfl rfl)
theorem dX0_isName_120 : decode cX0_isName 120 = .ok (.ireturn, 1) := dk_172 (dk_at dksX0_isName_4 22 rfl rfl)
theorem dX0_isName_121 : decode cX0_isName 121 = .ok (.iconst 0, 1) := dk_3 (dk_at dksX0_isName_4 23 rfl rfl)
theorem dX0_isName_122 : decode cX0_isName 122 = .ok (.ireturn, 1) := dk_172 (dk_at dksX0_isName_5 0 rfl rfl)
abbrev cX0_textTold : ByteArray := prog_1_method_31_code
def yX0_textTold : MethodName := ⟨RX0, "textTold", "(II)I"⟩
def dkwX0_textTold_2 : List UInt8 := [167, 0, 15, 42, 180, 0, 46, 180, 0, 243, 27, 50, 180, 0, 249, 172]
abbrev dktX0_textTold_2 : List UInt8 := dkwX0_textTold_2 ++ []
def dkwX0_textTold_1 : List UInt8 := [154, 0, 6, 18, 133, 172, 28, 154, 0, 18, 42, 180, 0, 46, 180, 0, 243, 27, 50, 180, 0, 247]
abbrev dktX0_textTold_1 : List UInt8 := dkwX0_textTold_1 ++ dktX0_textTold_2
def dkwX0_textTold_0 : List UInt8 := [27, 3, 42, 180, 0, 46, 180, 0, 240, 4, 100, 184, 0, 108, 153, 0, 12, 28, 3, 4, 184, 0, 108]
abbrev dktX0_textTold_0 : List UInt8 := dkwX0_textTold_0 ++ dktX0_textTold_1
theorem dksX0_textTold_0 : cX0_textTold.data.toList.drop 0 = dktX0_textTold_0 := by decide +kernel
theorem dksX0_textTold_1 : cX0_textTold.data.toList.drop 23 = dktX0_textTold_1 := dk_seg dksX0_textTold_0 23 rfl rfl
theorem dksX0_textTold_2 : cX0_textTold.data.toList.drop 45 = dktX0_textTold_2 := dk_seg dksX0_textTold_1 22 rfl rfl
theorem dX0_textTold_0 : decode cX0_textTold 0 = .ok (.iload_n 1, 1) := dk_27 (dk_at dksX0_textTold_0 0 rfl rfl)
theorem dX0_textTold_1 : decode cX0_textTold 1 = .ok (.iconst 0, 1) := dk_3 (dk_at dksX0_textTold_0 1 rfl rfl)
theorem dX0_textTold_2 : decode cX0_textTold 2 = .ok (.aload_n 0, 1) := dk_42 (dk_at dksX0_textTold_0 2 rfl rfl)
theorem dX0_textTold_3 : decode cX0_textTold 3 = .ok (.getfield 46, 3) := dk_180 0 46 (dk_at dksX0_textTold_0 3 rfl rfl)
theorem dX0_textTold_6 : decode cX0_textTold 6 = .ok (.getfield 240, 3) := dk_180 0 240 (dk_at dksX0_textTold_0 6 rfl rfl)
theorem dX0_textTold_9 : decode cX0_textTold 9 = .ok (.iconst 1, 1) := dk_4 (dk_at dksX0_textTold_0 9 rfl rfl)
theorem dX0_textTold_10 : decode cX0_textTold 10 = .ok (.isub, 1) := dk_100 (dk_at dksX0_textTold_0 10 rfl rfl)
theorem dX0_textTold_11 : decode cX0_textTold 11 = .ok (.invokestatic 108, 3) := dk_184 0 108 (dk_at dksX0_textTold_0 11 rfl rfl)
theorem dX0_textTold_14 : decode cX0_textTold 14 = .ok (.ifCond .eq 12, 3) := dk_153 0 12 (dk_at dksX0_textTold_0 14 rfl rfl)
theorem dX0_textTold_17 : decode cX0_textTold 17 = .ok (.iload_n 2, 1) := dk_28 (dk_at dksX0_textTold_0 17 rfl rfl)
theorem dX0_textTold_18 : decode cX0_textTold 18 = .ok (.iconst 0, 1) := dk_3 (dk_at dksX0_textTold_0 18 rfl rfl)
theorem dX0_textTold_19 : decode cX0_textTold 19 = .ok (.iconst 1, 1) := dk_4 (dk_at dksX0_textTold_0 19 rfl rfl)
theorem dX0_textTold_20 : decode cX0_textTold 20 = .ok (.invokestatic 108, 3) := dk_184 0 108 (dk_at dksX0_textTold_0 20 rfl rfl)
theorem dX0_textTold_23 : decode cX0_textTold 23 = .ok (.ifCond .ne 6, 3) := dk_154 0 6 (dk_at dksX0_textTold_1 0 rfl rfl)
theorem dX0_textTold_26 : decode cX0_textTold 26 = .ok (.ldc 133, 2) := dk_18 133 (dk_at dksX0_textTold_1 3 rfl rfl)
theorem dX0_textTold_28 : decode cX0_textTold 28 = .ok (.ireturn, 1) := dk_172 (dk_at dksX0_textTold_1 5 rfl rfl)
theorem dX0_textTold_29 : decode cX0_textTold 29 = .ok (.iload_n 2, 1) := dk_28 (dk_at dksX0_textTold_1 6 rfl rfl)
theorem dX0_textTold_30 : decode cX0_textTold 30 = .ok (.ifCond .ne 18, 3) := dk_154 0 18 (dk_at dksX0_textTold_1 7 rfl rfl)
theorem dX0_textTold_33 : decode cX0_textTold 33 = .ok (.aload_n 0, 1) := dk_42 (dk_at dksX0_textTold_1 10 rfl rfl)
theorem dX0_textTold_34 : decode cX0_textTold 34 = .ok (.getfield 46, 3) := dk_180 0 46 (dk_at dksX0_textTold_1 11 rfl rfl)
theorem dX0_textTold_37 : decode cX0_textTold 37 = .ok (.getfield 243, 3) := dk_180 0 243 (dk_at dksX0_textTold_1 14 rfl rfl)
theorem dX0_textTold_40 : decode cX0_textTold 40 = .ok (.iload_n 1, 1) := dk_27 (dk_at dksX0_textTold_1 17 rfl rfl)
theorem dX0_textTold_41 : decode cX0_textTold 41 = .ok (.aaload, 1) := dk_50 (dk_at dksX0_textTold_1 18 rfl rfl)
theorem dX0_textTold_42 : decode cX0_textTold 42 = .ok (.getfield 247, 3) := dk_180 0 247 (dk_at dksX0_textTold_1 19 rfl rfl)
theorem dX0_textTold_45 : decode cX0_textTold 45 = .ok (.goto 15, 3) := dk_167 0 15 (dk_at dksX0_textTold_2 0 rfl rfl)
theorem dX0_textTold_48 : decode cX0_textTold 48 = .ok (.aload_n 0, 1) := dk_42 (dk_at dksX0_textTold_2 3 rfl rfl)
theorem dX0_textTold_49 : decode cX0_textTold 49 = .ok (.getfield 46, 3) := dk_180 0 46 (dk_at dksX0_textTold_2 4 rfl rfl)
theorem dX0_textTold_52 : decode cX0_textTold 52 = .ok (.getfield 243, 3) := dk_180 0 243 (dk_at dksX0_textTold_2 7 rfl rfl)
theorem dX0_textTold_55 : decode cX0_textTold 55 = .ok (.iload_n 1, 1) := dk_27 (dk_at dksX0_textTold_2 10 rfl rfl)
theorem dX0_textTold_56 : decode cX0_textTold 56 = .ok (.aaload, 1) := dk_50 (dk_at dksX0_textTold_2 11 rfl rfl)
theorem dX0_textTold_57 : decode cX0_textTold 57 = .ok (.getfield 249, 3) := dk_180 0 249 (dk_at dksX0_textTold_2 12 rfl rfl)
theorem dX0_textTold_60 : decode cX0_textTold 60 = .ok (.ireturn, 1) := dk_172 (dk_at dksX0_textTold_2 15 rfl rfl)
abbrev cX0_why : ByteArray := prog_1_method_33_code
def yX0_why : MethodName := ⟨RX0, "why", "(I)I"⟩
def dkwX0_why_0 : List UInt8 := [27, 3, 5, 184, 0, 108, 153, 0, 14, 42, 27, 182, 0, 250, 184, 0, 254, 167, 0, 5, 18, 133, 172]
abbrev dktX0_why_0 : List UInt8 := dkwX0_why_0 ++ []
theorem dksX0_why_0 : cX0_why.data.toList.drop 0 = dktX0_why_0 := by decide +kernel
theorem dX0_why_0 : decode cX0_why 0 = .ok (.iload_n 1, 1) := dk_27 (dk_at dksX0_why_0 0 rfl rfl)
theorem dX0_why_1 : decode cX0_why 1 = .ok (.iconst 0, 1) := dk_3 (dk_at dksX0_why_0 1 rfl rfl)
theorem dX0_why_2 : decode cX0_why 2 = .ok (.iconst 2, 1) := dk_5 (dk_at dksX0_why_0 2 rfl rfl)
theorem dX0_why_3 : decode cX0_why 3 = .ok (.invokestatic 108, 3) := dk_184 0 108 (dk_at dksX0_why_0 3 rfl rfl)
theorem dX0_why_6 : decode cX0_why 6 = .ok (.ifCond .eq 14, 3) := dk_153 0 14 (dk_at dksX0_why_0 6 rfl rfl)
theorem dX0_why_9 : decode cX0_why 9 = .ok (.aload_n 0, 1) := dk_42 (dk_at dksX0_why_0 9 rfl rfl)
theorem dX0_why_10 : decode cX0_why 10 = .ok (.iload_n 1, 1) := dk_27 (dk_at dksX0_why_0 10 rfl rfl)
theorem dX0_why_11 : decode cX0_why 11 = .ok (.invokevirtual 250, 3) := dk_182 0 250 (dk_at dksX0_why_0 11 rfl rfl)
theorem dX0_why_14 : decode cX0_why 14 = .ok (.invokestatic 254, 3) := dk_184 0 254 (dk_at dksX0_why_0 14 rfl rfl)
theorem dX0_why_17 : decode cX0_why 17 = .ok (.goto 5, 3) := dk_167 0 5 (dk_at dksX0_why_0 17 rfl rfl)
theorem dX0_why_20 : decode cX0_why 20 = .ok (.ldc 133, 2) := dk_18 133 (dk_at dksX0_why_0 20 rfl rfl)
theorem dX0_why_22 : decode cX0_why 22 = .ok (.ireturn, 1) := dk_172 (dk_at dksX0_why_0 22 rfl rfl)
abbrev cX0_counts : ByteArray := prog_1_method_32_code
def yX0_counts : MethodName := ⟨RX0, "counts", "(I)I"⟩
def dkwX0_counts_1 : List UInt8 := [180, 0, 247, 27, 160, 0, 7, 29, 167, 0, 4, 28, 61, 132, 3, 1, 167, 255, 220, 28, 172]
abbrev dktX0_counts_1 : List UInt8 := dkwX0_counts_1 ++ []
def dkwX0_counts_0 : List UInt8 := [2, 61, 3, 62, 29, 42, 180, 0, 46, 180, 0, 240, 162, 0, 31, 42, 180, 0, 46, 180, 0, 243, 29, 50]
abbrev dktX0_counts_0 : List UInt8 := dkwX0_counts_0 ++ dktX0_counts_1
theorem dksX0_counts_0 : cX0_counts.data.toList.drop 0 = dktX0_counts_0 := by decide +kernel
theorem dksX0_counts_1 : cX0_counts.data.toList.drop 24 = dktX0_counts_1 := dk_seg dksX0_counts_0 24 rfl rfl
theorem dX0_counts_0 : decode cX0_counts 0 = .ok (.iconst (-1), 1) := dk_2 (dk_at dksX0_counts_0 0 rfl rfl)
theorem dX0_counts_1 : decode cX0_counts 1 = .ok (.istore_n 2, 1) := dk_61 (dk_at dksX0_counts_0 1 rfl rfl)
theorem dX0_counts_2 : decode cX0_counts 2 = .ok (.iconst 0, 1) := dk_3 (dk_at dksX0_counts_0 2 rfl rfl)
theorem dX0_counts_3 : decode cX0_counts 3 = .ok (.istore_n 3, 1) := dk_62 (dk_at dksX0_counts_0 3 rfl rfl)
theorem dX0_counts_4 : decode cX0_counts 4 = .ok (.iload_n 3, 1) := dk_29 (dk_at dksX0_counts_0 4 rfl rfl)
theorem dX0_counts_5 : decode cX0_counts 5 = .ok (.aload_n 0, 1) := dk_42 (dk_at dksX0_counts_0 5 rfl rfl)
theorem dX0_counts_6 : decode cX0_counts 6 = .ok (.getfield 46, 3) := dk_180 0 46 (dk_at dksX0_counts_0 6 rfl rfl)
theorem dX0_counts_9 : decode cX0_counts 9 = .ok (.getfield 240, 3) := dk_180 0 240 (dk_at dksX0_counts_0 9 rfl rfl)
theorem dX0_counts_12 : decode cX0_counts 12 = .ok (.if_icmp .ge 31, 3) := dk_162 0 31 (dk_at dksX0_counts_0 12 rfl rfl)
theorem dX0_counts_15 : decode cX0_counts 15 = .ok (.aload_n 0, 1) := dk_42 (dk_at dksX0_counts_0 15 rfl rfl)
theorem dX0_counts_16 : decode cX0_counts 16 = .ok (.getfield 46, 3) := dk_180 0 46 (dk_at dksX0_counts_0 16 rfl rfl)
theorem dX0_counts_19 : decode cX0_counts 19 = .ok (.getfield 243, 3) := dk_180 0 243 (dk_at dksX0_counts_0 19 rfl rfl)
theorem dX0_counts_22 : decode cX0_counts 22 = .ok (.iload_n 3, 1) := dk_29 (dk_at dksX0_counts_0 22 rfl rfl)
theorem dX0_counts_23 : decode cX0_counts 23 = .ok (.aaload, 1) := dk_50 (dk_at dksX0_counts_0 23 rfl rfl)
theorem dX0_counts_24 : decode cX0_counts 24 = .ok (.getfield 247, 3) := dk_180 0 247 (dk_at dksX0_counts_1 0 rfl rfl)
theorem dX0_counts_27 : decode cX0_counts 27 = .ok (.iload_n 1, 1) := dk_27 (dk_at dksX0_counts_1 3 rfl rfl)
theorem dX0_counts_28 : decode cX0_counts 28 = .ok (.if_icmp .ne 7, 3) := dk_160 0 7 (dk_at dksX0_counts_1 4 rfl rfl)
theorem dX0_counts_31 : decode cX0_counts 31 = .ok (.iload_n 3, 1) := dk_29 (dk_at dksX0_counts_1 7 rfl rfl)
theorem dX0_counts_32 : decode cX0_counts 32 = .ok (.goto 4, 3) := dk_167 0 4 (dk_at dksX0_counts_1 8 rfl rfl)
theorem dX0_counts_35 : decode cX0_counts 35 = .ok (.iload_n 2, 1) := dk_28 (dk_at dksX0_counts_1 11 rfl rfl)
theorem dX0_counts_36 : decode cX0_counts 36 = .ok (.istore_n 2, 1) := dk_61 (dk_at dksX0_counts_1 12 rfl rfl)
theorem dX0_counts_37 : decode cX0_counts 37 = .ok (.iinc 3 1, 3) := dk_132 3 1 (dk_at dksX0_counts_1 13 rfl rfl)
theorem dX0_counts_40 : decode cX0_counts 40 = .ok (.goto (-36), 3) := dk_167 255 220 (dk_at dksX0_counts_1 16 rfl rfl)
theorem dX0_counts_43 : decode cX0_counts 43 = .ok (.iload_n 2, 1) := dk_28 (dk_at dksX0_counts_1 19 rfl rfl)
theorem dX0_counts_44 : decode cX0_counts 44 = .ok (.ireturn, 1) := dk_172 (dk_at dksX0_counts_1 20 rfl rfl)
abbrev cX0_orNone : ByteArray := prog_1_method_2_code
def yX0_orNone : MethodName := ⟨RX0, "orNone", "(I)I"⟩
def dkwX0_orNone_0 : List UInt8 := [26, 2, 160, 0, 8, 18, 3, 167, 0, 4, 26, 172]
abbrev dktX0_orNone_0 : List UInt8 := dkwX0_orNone_0 ++ []
theorem dksX0_orNone_0 : cX0_orNone.data.toList.drop 0 = dktX0_orNone_0 := by decide +kernel
theorem dX0_orNone_0 : decode cX0_orNone 0 = .ok (.iload_n 0, 1) := dk_26 (dk_at dksX0_orNone_0 0 rfl rfl)
theorem dX0_orNone_1 : decode cX0_orNone 1 = .ok (.iconst (-1), 1) := dk_2 (dk_at dksX0_orNone_0 1 rfl rfl)
theorem dX0_orNone_2 : decode cX0_orNone 2 = .ok (.if_icmp .ne 8, 3) := dk_160 0 8 (dk_at dksX0_orNone_0 2 rfl rfl)
theorem dX0_orNone_5 : decode cX0_orNone 5 = .ok (.ldc 3, 2) := dk_18 3 (dk_at dksX0_orNone_0 5 rfl rfl)
theorem dX0_orNone_7 : decode cX0_orNone 7 = .ok (.goto 4, 3) := dk_167 0 4 (dk_at dksX0_orNone_0 7 rfl rfl)
theorem dX0_orNone_10 : decode cX0_orNone 10 = .ok (.iload_n 0, 1) := dk_26 (dk_at dksX0_orNone_0 10 rfl rfl)
theorem dX0_orNone_11 : decode cX0_orNone 11 = .ok (.ireturn, 1) := dk_172 (dk_at dksX0_orNone_0 11 rfl rfl)
abbrev cX0_clock : ByteArray := prog_1_method_36_code
def yX0_clock : MethodName := ⟨RX0, "clock", "(III)I"⟩
def dkwX0_clock_2 : List UInt8 := [27, 28, 29, 182, 1, 19, 172]
abbrev dktX0_clock_2 : List UInt8 := dkwX0_clock_2 ++ []
def dkwX0_clock_1 : List UInt8 := [154, 0, 6, 18, 133, 172, 42, 180, 0, 46, 180, 0, 104, 16, 6, 160, 0, 8, 18, 128, 167, 0, 10, 42]
abbrev dktX0_clock_1 : List UInt8 := dkwX0_clock_1 ++ dktX0_clock_2
def dkwX0_clock_0 : List UInt8 := [27, 3, 8, 184, 0, 108, 153, 0, 19, 4, 28, 184, 1, 15, 153, 0, 11, 5, 29, 184, 1, 15]
abbrev dktX0_clock_0 : List UInt8 := dkwX0_clock_0 ++ dktX0_clock_1
theorem dksX0_clock_0 : cX0_clock.data.toList.drop 0 = dktX0_clock_0 := by decide +kernel
theorem dksX0_clock_1 : cX0_clock.data.toList.drop 22 = dktX0_clock_1 := dk_seg dksX0_clock_0 22 rfl rfl
theorem dksX0_clock_2 : cX0_clock.data.toList.drop 46 = dktX0_clock_2 := dk_seg dksX0_clock_1 24 rfl rfl
theorem dX0_clock_0 : decode cX0_clock 0 = .ok (.iload_n 1, 1) := dk_27 (dk_at dksX0_clock_0 0 rfl rfl)
theorem dX0_clock_1 : decode cX0_clock 1 = .ok (.iconst 0, 1) := dk_3 (dk_at dksX0_clock_0 1 rfl rfl)
theorem dX0_clock_2 : decode cX0_clock 2 = .ok (.iconst 5, 1) := dk_8 (dk_at dksX0_clock_0 2 rfl rfl)
theorem dX0_clock_3 : decode cX0_clock 3 = .ok (.invokestatic 108, 3) := dk_184 0 108 (dk_at dksX0_clock_0 3 rfl rfl)
theorem dX0_clock_6 : decode cX0_clock 6 = .ok (.ifCond .eq 19, 3) := dk_153 0 19 (dk_at dksX0_clock_0 6 rfl rfl)
theorem dX0_clock_9 : decode cX0_clock 9 = .ok (.iconst 1, 1) := dk_4 (dk_at dksX0_clock_0 9 rfl rfl)
theorem dX0_clock_10 : decode cX0_clock 10 = .ok (.iload_n 2, 1) := dk_28 (dk_at dksX0_clock_0 10 rfl rfl)
theorem dX0_clock_11 : decode cX0_clock 11 = .ok (.invokestatic 271, 3) := dk_184 1 15 (dk_at dksX0_clock_0 11 rfl rfl)
theorem dX0_clock_14 : decode cX0_clock 14 = .ok (.ifCond .eq 11, 3) := dk_153 0 11 (dk_at dksX0_clock_0 14 rfl rfl)
theorem dX0_clock_17 : decode cX0_clock 17 = .ok (.iconst 2, 1) := dk_5 (dk_at dksX0_clock_0 17 rfl rfl)
theorem dX0_clock_18 : decode cX0_clock 18 = .ok (.iload_n 3, 1) := dk_29 (dk_at dksX0_clock_0 18 rfl rfl)
theorem dX0_clock_19 : decode cX0_clock 19 = .ok (.invokestatic 271, 3) := dk_184 1 15 (dk_at dksX0_clock_0 19 rfl rfl)
theorem dX0_clock_22 : decode cX0_clock 22 = .ok (.ifCond .ne 6, 3) := dk_154 0 6 (dk_at dksX0_clock_1 0 rfl rfl)
theorem dX0_clock_25 : decode cX0_clock 25 = .ok (.ldc 133, 2) := dk_18 133 (dk_at dksX0_clock_1 3 rfl rfl)
theorem dX0_clock_27 : decode cX0_clock 27 = .ok (.ireturn, 1) := dk_172 (dk_at dksX0_clock_1 5 rfl rfl)
theorem dX0_clock_28 : decode cX0_clock 28 = .ok (.aload_n 0, 1) := dk_42 (dk_at dksX0_clock_1 6 rfl rfl)
theorem dX0_clock_29 : decode cX0_clock 29 = .ok (.getfield 46, 3) := dk_180 0 46 (dk_at dksX0_clock_1 7 rfl rfl)
theorem dX0_clock_32 : decode cX0_clock 32 = .ok (.getfield 104, 3) := dk_180 0 104 (dk_at dksX0_clock_1 10 rfl rfl)
theorem dX0_clock_35 : decode cX0_clock 35 = .ok (.bipush 6, 2) := dk_16 6 (dk_at dksX0_clock_1 13 rfl rfl)
theorem dX0_clock_37 : decode cX0_clock 37 = .ok (.if_icmp .ne 8, 3) := dk_160 0 8 (dk_at dksX0_clock_1 15 rfl rfl)
theorem dX0_clock_40 : decode cX0_clock 40 = .ok (.ldc 128, 2) := dk_18 128 (dk_at dksX0_clock_1 18 rfl rfl)
theorem dX0_clock_42 : decode cX0_clock 42 = .ok (.goto 10, 3) := dk_167 0 10 (dk_at dksX0_clock_1 20 rfl rfl)
theorem dX0_clock_45 : decode cX0_clock 45 = .ok (.aload_n 0, 1) := dk_42 (dk_at dksX0_clock_1 23 rfl rfl)
theorem dX0_clock_46 : decode cX0_clock 46 = .ok (.iload_n 1, 1) := dk_27 (dk_at dksX0_clock_2 0 rfl rfl)
theorem dX0_clock_47 : decode cX0_clock 47 = .ok (.iload_n 2, 1) := dk_28 (dk_at dksX0_clock_2 1 rfl rfl)
theorem dX0_clock_48 : decode cX0_clock 48 = .ok (.iload_n 3, 1) := dk_29 (dk_at dksX0_clock_2 2 rfl rfl)
theorem dX0_clock_49 : decode cX0_clock 49 = .ok (.invokevirtual 275, 3) := dk_182 1 19 (dk_at dksX0_clock_2 3 rfl rfl)
theorem dX0_clock_52 : decode cX0_clock 52 = .ok (.ireturn, 1) := dk_172 (dk_at dksX0_clock_2 6 rfl rfl)
abbrev cX0_isOf : ByteArray := prog_1_method_35_code
def yX0_isOf : MethodName := ⟨RX0, "isOf", "(II)Z"⟩
def dkwX0_isOf_0 : List UInt8 := [27, 3, 26, 4, 160, 0, 8, 16, 59, 167, 0, 5, 16, 9, 184, 0, 108, 172]
abbrev dktX0_isOf_0 : List UInt8 := dkwX0_isOf_0 ++ []
theorem dksX0_isOf_0 : cX0_isOf.data.toList.drop 0 = dktX0_isOf_0 := by decide +kernel
theorem dX0_isOf_0 : decode cX0_isOf 0 = .ok (.iload_n 1, 1) := dk_27 (dk_at dksX0_isOf_0 0 rfl rfl)
theorem dX0_isOf_1 : decode cX0_isOf 1 = .ok (.iconst 0, 1) := dk_3 (dk_at dksX0_isOf_0 1 rfl rfl)
theorem dX0_isOf_2 : decode cX0_isOf 2 = .ok (.iload_n 0, 1) := dk_26 (dk_at dksX0_isOf_0 2 rfl rfl)
theorem dX0_isOf_3 : decode cX0_isOf 3 = .ok (.iconst 1, 1) := dk_4 (dk_at dksX0_isOf_0 3 rfl rfl)
theorem dX0_isOf_4 : decode cX0_isOf 4 = .ok (.if_icmp .ne 8, 3) := dk_160 0 8 (dk_at dksX0_isOf_0 4 rfl rfl)
theorem dX0_isOf_7 : decode cX0_isOf 7 = .ok (.bipush 59, 2) := dk_16 59 (dk_at dksX0_isOf_0 7 rfl rfl)
theorem dX0_isOf_9 : decode cX0_isOf 9 = .ok (.goto 5, 3) := dk_167 0 5 (dk_at dksX0_isOf_0 9 rfl rfl)
theorem dX0_isOf_12 : decode cX0_isOf 12 = .ok (.bipush 9, 2) := dk_16 9 (dk_at dksX0_isOf_0 12 rfl rfl)
theorem dX0_isOf_14 : decode cX0_isOf 14 = .ok (.invokestatic 108, 3) := dk_184 0 108 (dk_at dksX0_isOf_0 14 rfl rfl)
theorem dX0_isOf_17 : decode cX0_isOf 17 = .ok (.ireturn, 1) := dk_172 (dk_at dksX0_isOf_0 17 rfl rfl)
abbrev cX0_comes : ByteArray := prog_1_method_34_code
def yX0_comes : MethodName := ⟨RX0, "comes", "(III)I"⟩
def dkwX0_comes_2 : List UInt8 := [96, 181, 0, 104, 21, 4, 172]
abbrev dktX0_comes_2 : List UInt8 := dkwX0_comes_2 ++ []
def dkwX0_comes_1 : List UInt8 := [181, 1, 8, 42, 180, 0, 46, 180, 1, 11, 21, 4, 25, 5, 83, 42, 180, 0, 46, 89, 180, 0, 104, 4]
abbrev dktX0_comes_1 : List UInt8 := dkwX0_comes_1 ++ dktX0_comes_2
def dkwX0_comes_0 : List UInt8 := [42, 180, 0, 46, 180, 0, 104, 54, 4, 27, 184, 1, 1, 58, 5, 25, 5, 28, 181, 1, 5, 25, 5, 29]
abbrev dktX0_comes_0 : List UInt8 := dkwX0_comes_0 ++ dktX0_comes_1
theorem dksX0_comes_0 : cX0_comes.data.toList.drop 0 = dktX0_comes_0 := by decide +kernel
theorem dksX0_comes_1 : cX0_comes.data.toList.drop 24 = dktX0_comes_1 := dk_seg dksX0_comes_0 24 rfl rfl
theorem dksX0_comes_2 : cX0_comes.data.toList.drop 48 = dktX0_comes_2 := dk_seg dksX0_comes_1 24 rfl rfl
theorem dX0_comes_0 : decode cX0_comes 0 = .ok (.aload_n 0, 1) := dk_42 (dk_at dksX0_comes_0 0 rfl rfl)
theorem dX0_comes_1 : decode cX0_comes 1 = .ok (.getfield 46, 3) := dk_180 0 46 (dk_at dksX0_comes_0 1 rfl rfl)
theorem dX0_comes_4 : decode cX0_comes 4 = .ok (.getfield 104, 3) := dk_180 0 104 (dk_at dksX0_comes_0 4 rfl rfl)
theorem dX0_comes_7 : decode cX0_comes 7 = .ok (.istore 4, 2) := dk_54 4 (dk_at dksX0_comes_0 7 rfl rfl)
theorem dX0_comes_9 : decode cX0_comes 9 = .ok (.iload_n 1, 1) := dk_27 (dk_at dksX0_comes_0 9 rfl rfl)
theorem dX0_comes_10 : decode cX0_comes 10 = .ok (.invokestatic 257, 3) := dk_184 1 1 (dk_at dksX0_comes_0 10 rfl rfl)
theorem dX0_comes_13 : decode cX0_comes 13 = .ok (.astore 5, 2) := dk_58 5 (dk_at dksX0_comes_0 13 rfl rfl)
theorem dX0_comes_15 : decode cX0_comes 15 = .ok (.aload 5, 2) := dk_25 5 (dk_at dksX0_comes_0 15 rfl rfl)
theorem dX0_comes_17 : decode cX0_comes 17 = .ok (.iload_n 2, 1) := dk_28 (dk_at dksX0_comes_0 17 rfl rfl)
theorem dX0_comes_18 : decode cX0_comes 18 = .ok (.putfield 261, 3) := dk_181 1 5 (dk_at dksX0_comes_0 18 rfl rfl)
theorem dX0_comes_21 : decode cX0_comes 21 = .ok (.aload 5, 2) := dk_25 5 (dk_at dksX0_comes_0 21 rfl rfl)
theorem dX0_comes_23 : decode cX0_comes 23 = .ok (.iload_n 3, 1) := dk_29 (dk_at dksX0_comes_0 23 rfl rfl)
theorem dX0_comes_24 : decode cX0_comes 24 = .ok (.putfield 264, 3) := dk_181 1 8 (dk_at dksX0_comes_1 0 rfl rfl)
theorem dX0_comes_27 : decode cX0_comes 27 = .ok (.aload_n 0, 1) := dk_42 (dk_at dksX0_comes_1 3 rfl rfl)
theorem dX0_comes_28 : decode cX0_comes 28 = .ok (.getfield 46, 3) := dk_180 0 46 (dk_at dksX0_comes_1 4 rfl rfl)
theorem dX0_comes_31 : decode cX0_comes 31 = .ok (.getfield 267, 3) := dk_180 1 11 (dk_at dksX0_comes_1 7 rfl rfl)
theorem dX0_comes_34 : decode cX0_comes 34 = .ok (.iload 4, 2) := dk_21 4 (dk_at dksX0_comes_1 10 rfl rfl)
theorem dX0_comes_36 : decode cX0_comes 36 = .ok (.aload 5, 2) := dk_25 5 (dk_at dksX0_comes_1 12 rfl rfl)
theorem dX0_comes_38 : decode cX0_comes 38 = .ok (.aastore, 1) := dk_83 (dk_at dksX0_comes_1 14 rfl rfl)
theorem dX0_comes_39 : decode cX0_comes 39 = .ok (.aload_n 0, 1) := dk_42 (dk_at dksX0_comes_1 15 rfl rfl)
theorem dX0_comes_40 : decode cX0_comes 40 = .ok (.getfield 46, 3) := dk_180 0 46 (dk_at dksX0_comes_1 16 rfl rfl)
theorem dX0_comes_43 : decode cX0_comes 43 = .ok (.dup, 1) := dk_89 (dk_at dksX0_comes_1 19 rfl rfl)
theorem dX0_comes_44 : decode cX0_comes 44 = .ok (.getfield 104, 3) := dk_180 0 104 (dk_at dksX0_comes_1 20 rfl rfl)
theorem dX0_comes_47 : decode cX0_comes 47 = .ok (.iconst 1, 1) := dk_4 (dk_at dksX0_comes_1 23 rfl rfl)
theorem dX0_comes_48 : decode cX0_comes 48 = .ok (.iadd, 1) := dk_96 (dk_at dksX0_comes_2 0 rfl rfl)
theorem dX0_comes_49 : decode cX0_comes 49 = .ok (.putfield 104, 3) := dk_181 0 104 (dk_at dksX0_comes_2 1 rfl rfl)
theorem dX0_comes_52 : decode cX0_comes 52 = .ok (.iload 4, 2) := dk_21 4 (dk_at dksX0_comes_2 4 rfl rfl)
theorem dX0_comes_54 : decode cX0_comes 54 = .ok (.ireturn, 1) := dk_172 (dk_at dksX0_comes_2 6 rfl rfl)
abbrev cX0_clockOf : ByteArray := prog_1_method_4_code
def yX0_clockOf : MethodName := ⟨RX0, "clockOf", "(I)LStrokesHeard$Ringer;"⟩
def dkwX0_clockOf_3 : List UInt8 := [187, 0, 25, 89, 183, 0, 27, 176, 187, 0, 28, 89, 183, 0, 30, 176, 187, 0, 31, 89, 183, 0, 33, 176]
abbrev dktX0_clockOf_3 : List UInt8 := dkwX0_clockOf_3 ++ []
def dkwX0_clockOf_2 : List UInt8 := [187, 0, 13, 89, 183, 0, 15, 176, 187, 0, 19, 89, 183, 0, 21, 176, 187, 0, 22, 89, 183, 0, 24, 176]
abbrev dktX0_clockOf_2 : List UInt8 := dkwX0_clockOf_2 ++ dktX0_clockOf_3
def dkwX0_clockOf_1 : List UInt8 := [170, 0, 0, 0, 0, 0, 75, 0, 0, 0, 1, 0, 0, 0, 5, 0, 0, 0, 35, 0, 0, 0, 43, 0, 0, 0, 51, 0, 0, 0, 59, 0, 0, 0, 67]
abbrev dktX0_clockOf_1 : List UInt8 := dkwX0_clockOf_1 ++ dktX0_clockOf_2
def dkwX0_clockOf_0 : List UInt8 := [26]
abbrev dktX0_clockOf_0 : List UInt8 := dkwX0_clockOf_0 ++ dktX0_clockOf_1
theorem dksX0_clockOf_0 : cX0_clockOf.data.toList.drop 0 = dktX0_clockOf_0 := by decide +kernel
theorem dksX0_clockOf_1 : cX0_clockOf.data.toList.drop 1 = dktX0_clockOf_1 := dk_seg dksX0_clockOf_0 1 rfl rfl
theorem dksX0_clockOf_2 : cX0_clockOf.data.toList.drop 36 = dktX0_clockOf_2 := dk_seg dksX0_clockOf_1 35 rfl rfl
theorem dksX0_clockOf_3 : cX0_clockOf.data.toList.drop 60 = dktX0_clockOf_3 := dk_seg dksX0_clockOf_2 24 rfl rfl
theorem dX0_clockOf_0 : decode cX0_clockOf 0 = .ok (.iload_n 0, 1) := dk_26 (dk_at dksX0_clockOf_0 0 rfl rfl)
theorem dX0_clockOf_1 : decode cX0_clockOf 1 = .ok (.tableswitch 75 1 5 #[35, 43, 51, 59, 67], 35) := by decide +kernel
theorem dX0_clockOf_36 : decode cX0_clockOf 36 = .ok (.new 13, 3) := dk_187 0 13 (dk_at dksX0_clockOf_2 0 rfl rfl)
theorem dX0_clockOf_39 : decode cX0_clockOf 39 = .ok (.dup, 1) := dk_89 (dk_at dksX0_clockOf_2 3 rfl rfl)
theorem dX0_clockOf_40 : decode cX0_clockOf 40 = .ok (.invokespecial 15, 3) := dk_183 0 15 (dk_at dksX0_clockOf_2 4 rfl rfl)
theorem dX0_clockOf_43 : decode cX0_clockOf 43 = .ok (.areturn, 1) := dk_176 (dk_at dksX0_clockOf_2 7 rfl rfl)
theorem dX0_clockOf_44 : decode cX0_clockOf 44 = .ok (.new 19, 3) := dk_187 0 19 (dk_at dksX0_clockOf_2 8 rfl rfl)
theorem dX0_clockOf_47 : decode cX0_clockOf 47 = .ok (.dup, 1) := dk_89 (dk_at dksX0_clockOf_2 11 rfl rfl)
theorem dX0_clockOf_48 : decode cX0_clockOf 48 = .ok (.invokespecial 21, 3) := dk_183 0 21 (dk_at dksX0_clockOf_2 12 rfl rfl)
theorem dX0_clockOf_51 : decode cX0_clockOf 51 = .ok (.areturn, 1) := dk_176 (dk_at dksX0_clockOf_2 15 rfl rfl)
theorem dX0_clockOf_52 : decode cX0_clockOf 52 = .ok (.new 22, 3) := dk_187 0 22 (dk_at dksX0_clockOf_2 16 rfl rfl)
theorem dX0_clockOf_55 : decode cX0_clockOf 55 = .ok (.dup, 1) := dk_89 (dk_at dksX0_clockOf_2 19 rfl rfl)
theorem dX0_clockOf_56 : decode cX0_clockOf 56 = .ok (.invokespecial 24, 3) := dk_183 0 24 (dk_at dksX0_clockOf_2 20 rfl rfl)
theorem dX0_clockOf_59 : decode cX0_clockOf 59 = .ok (.areturn, 1) := dk_176 (dk_at dksX0_clockOf_2 23 rfl rfl)
theorem dX0_clockOf_60 : decode cX0_clockOf 60 = .ok (.new 25, 3) := dk_187 0 25 (dk_at dksX0_clockOf_3 0 rfl rfl)
theorem dX0_clockOf_63 : decode cX0_clockOf 63 = .ok (.dup, 1) := dk_89 (dk_at dksX0_clockOf_3 3 rfl rfl)
theorem dX0_clockOf_64 : decode cX0_clockOf 64 = .ok (.invokespecial 27, 3) := dk_183 0 27 (dk_at dksX0_clockOf_3 4 rfl rfl)
theorem dX0_clockOf_67 : decode cX0_clockOf 67 = .ok (.areturn, 1) := dk_176 (dk_at dksX0_clockOf_3 7 rfl rfl)
theorem dX0_clockOf_68 : decode cX0_clockOf 68 = .ok (.new 28, 3) := dk_187 0 28 (dk_at dksX0_clockOf_3 8 rfl rfl)
theorem dX0_clockOf_71 : decode cX0_clockOf 71 = .ok (.dup, 1) := dk_89 (dk_at dksX0_clockOf_3 11 rfl rfl)
theorem dX0_clockOf_72 : decode cX0_clockOf 72 = .ok (.invokespecial 30, 3) := dk_183 0 30 (dk_at dksX0_clockOf_3 12 rfl rfl)
theorem dX0_clockOf_75 : decode cX0_clockOf 75 = .ok (.areturn, 1) := dk_176 (dk_at dksX0_clockOf_3 15 rfl rfl)
theorem dX0_clockOf_76 : decode cX0_clockOf 76 = .ok (.new 31, 3) := dk_187 0 31 (dk_at dksX0_clockOf_3 16 rfl rfl)
theorem dX0_clockOf_79 : decode cX0_clockOf 79 = .ok (.dup, 1) := dk_89 (dk_at dksX0_clockOf_3 19 rfl rfl)
theorem dX0_clockOf_80 : decode cX0_clockOf 80 = .ok (.invokespecial 33, 3) := dk_183 0 33 (dk_at dksX0_clockOf_3 20 rfl rfl)
theorem dX0_clockOf_83 : decode cX0_clockOf 83 = .ok (.areturn, 1) := dk_176 (dk_at dksX0_clockOf_3 23 rfl rfl)
abbrev cX0_told : ByteArray := prog_1_method_41_code
def yX0_told : MethodName := ⟨RX0, "told", "(II)I"⟩
def dkwX0_told_3 : List UInt8 := [172, 42, 45, 182, 1, 58, 172, 45, 182, 1, 62, 172, 18, 133, 172]
abbrev dktX0_told_3 : List UInt8 := dkwX0_told_3 ++ []
def dkwX0_told_2 : List UInt8 := [45, 182, 1, 52, 172, 45, 180, 1, 5, 172, 45, 180, 1, 8, 172, 42, 45, 42, 182, 1, 55, 182, 1, 43]
abbrev dktX0_told_2 : List UInt8 := dkwX0_told_2 ++ dktX0_told_3
def dkwX0_told_1 : List UInt8 := [170, 0, 0, 0, 0, 74, 0, 0, 0, 0, 0, 0, 0, 5, 0, 0, 0, 38, 0, 0, 0, 43, 0, 0, 0, 48, 0, 0, 0, 53, 0, 0, 0, 63, 0, 0, 0, 69]
abbrev dktX0_told_1 : List UInt8 := dkwX0_told_1 ++ dktX0_told_2
def dkwX0_told_0 : List UInt8 := [42, 27, 182, 1, 49, 154, 0, 6, 18, 133, 172, 42, 180, 0, 46, 180, 1, 11, 27, 50, 78, 28]
abbrev dktX0_told_0 : List UInt8 := dkwX0_told_0 ++ dktX0_told_1
theorem dksX0_told_0 : cX0_told.data.toList.drop 0 = dktX0_told_0 := by decide +kernel
theorem dksX0_told_1 : cX0_told.data.toList.drop 22 = dktX0_told_1 := dk_seg dksX0_told_0 22 rfl rfl
theorem dksX0_told_2 : cX0_told.data.toList.drop 60 = dktX0_told_2 := dk_seg dksX0_told_1 38 rfl rfl
theorem dksX0_told_3 : cX0_told.data.toList.drop 84 = dktX0_told_3 := dk_seg dksX0_told_2 24 rfl rfl
theorem dX0_told_0 : decode cX0_told 0 = .ok (.aload_n 0, 1) := dk_42 (dk_at dksX0_told_0 0 rfl rfl)
theorem dX0_told_1 : decode cX0_told 1 = .ok (.iload_n 1, 1) := dk_27 (dk_at dksX0_told_0 1 rfl rfl)
theorem dX0_told_2 : decode cX0_told 2 = .ok (.invokevirtual 305, 3) := dk_182 1 49 (dk_at dksX0_told_0 2 rfl rfl)
theorem dX0_told_5 : decode cX0_told 5 = .ok (.ifCond .ne 6, 3) := dk_154 0 6 (dk_at dksX0_told_0 5 rfl rfl)
theorem dX0_told_8 : decode cX0_told 8 = .ok (.ldc 133, 2) := dk_18 133 (dk_at dksX0_told_0 8 rfl rfl)
theorem dX0_told_10 : decode cX0_told 10 = .ok (.ireturn, 1) := dk_172 (dk_at dksX0_told_0 10 rfl rfl)
theorem dX0_told_11 : decode cX0_told 11 = .ok (.aload_n 0, 1) := dk_42 (dk_at dksX0_told_0 11 rfl rfl)
theorem dX0_told_12 : decode cX0_told 12 = .ok (.getfield 46, 3) := dk_180 0 46 (dk_at dksX0_told_0 12 rfl rfl)
theorem dX0_told_15 : decode cX0_told 15 = .ok (.getfield 267, 3) := dk_180 1 11 (dk_at dksX0_told_0 15 rfl rfl)
theorem dX0_told_18 : decode cX0_told 18 = .ok (.iload_n 1, 1) := dk_27 (dk_at dksX0_told_0 18 rfl rfl)
theorem dX0_told_19 : decode cX0_told 19 = .ok (.aaload, 1) := dk_50 (dk_at dksX0_told_0 19 rfl rfl)
theorem dX0_told_20 : decode cX0_told 20 = .ok (.astore_n 3, 1) := dk_78 (dk_at dksX0_told_0 20 rfl rfl)
theorem dX0_told_21 : decode cX0_told 21 = .ok (.iload_n 2, 1) := dk_28 (dk_at dksX0_told_0 21 rfl rfl)
theorem dX0_told_22 : decode cX0_told 22 = .ok (.tableswitch 74 0 5 #[38, 43, 48, 53, 63, 69], 38) := by decide +kernel
theorem dX0_told_60 : decode cX0_told 60 = .ok (.aload_n 3, 1) := dk_45 (dk_at dksX0_told_2 0 rfl rfl)
theorem dX0_told_61 : decode cX0_told 61 = .ok (.invokevirtual 308, 3) := dk_182 1 52 (dk_at dksX0_told_2 1 rfl rfl)
theorem dX0_told_64 : decode cX0_told 64 = .ok (.ireturn, 1) := dk_172 (dk_at dksX0_told_2 4 rfl rfl)
theorem dX0_told_65 : decode cX0_told 65 = .ok (.aload_n 3, 1) := dk_45 (dk_at dksX0_told_2 5 rfl rfl)
theorem dX0_told_66 : decode cX0_told 66 = .ok (.getfield 261, 3) := dk_180 1 5 (dk_at dksX0_told_2 6 rfl rfl)
theorem dX0_told_69 : decode cX0_told 69 = .ok (.ireturn, 1) := dk_172 (dk_at dksX0_told_2 9 rfl rfl)
theorem dX0_told_70 : decode cX0_told 70 = .ok (.aload_n 3, 1) := dk_45 (dk_at dksX0_told_2 10 rfl rfl)
theorem dX0_told_71 : decode cX0_told 71 = .ok (.getfield 264, 3) := dk_180 1 8 (dk_at dksX0_told_2 11 rfl rfl)
theorem dX0_told_74 : decode cX0_told 74 = .ok (.ireturn, 1) := dk_172 (dk_at dksX0_told_2 14 rfl rfl)
theorem dX0_told_75 : decode cX0_told 75 = .ok (.aload_n 0, 1) := dk_42 (dk_at dksX0_told_2 15 rfl rfl)
theorem dX0_told_76 : decode cX0_told 76 = .ok (.aload_n 3, 1) := dk_45 (dk_at dksX0_told_2 16 rfl rfl)
theorem dX0_told_77 : decode cX0_told 77 = .ok (.aload_n 0, 1) := dk_42 (dk_at dksX0_told_2 17 rfl rfl)
theorem dX0_told_78 : decode cX0_told 78 = .ok (.invokevirtual 311, 3) := dk_182 1 55 (dk_at dksX0_told_2 18 rfl rfl)
theorem dX0_told_81 : decode cX0_told 81 = .ok (.invokevirtual 299, 3) := dk_182 1 43 (dk_at dksX0_told_2 21 rfl rfl)
theorem dX0_told_84 : decode cX0_told 84 = .ok (.ireturn, 1) := dk_172 (dk_at dksX0_told_3 0 rfl rfl)
theorem dX0_told_85 : decode cX0_told 85 = .ok (.aload_n 0, 1) := dk_42 (dk_at dksX0_told_3 1 rfl rfl)
theorem dX0_told_86 : decode cX0_told 86 = .ok (.aload_n 3, 1) := dk_45 (dk_at dksX0_told_3 2 rfl rfl)
theorem dX0_told_87 : decode cX0_told 87 = .ok (.invokevirtual 314, 3) := dk_182 1 58 (dk_at dksX0_told_3 3 rfl rfl)
theorem dX0_told_90 : decode cX0_told 90 = .ok (.ireturn, 1) := dk_172 (dk_at dksX0_told_3 6 rfl rfl)
theorem dX0_told_91 : decode cX0_told 91 = .ok (.aload_n 3, 1) := dk_45 (dk_at dksX0_told_3 7 rfl rfl)
theorem dX0_told_92 : decode cX0_told 92 = .ok (.invokevirtual 318, 3) := dk_182 1 62 (dk_at dksX0_told_3 8 rfl rfl)
theorem dX0_told_95 : decode cX0_told 95 = .ok (.ireturn, 1) := dk_172 (dk_at dksX0_told_3 11 rfl rfl)
theorem dX0_told_96 : decode cX0_told 96 = .ok (.ldc 133, 2) := dk_18 133 (dk_at dksX0_told_3 12 rfl rfl)
theorem dX0_told_98 : decode cX0_told 98 = .ok (.ireturn, 1) := dk_172 (dk_at dksX0_told_3 14 rfl rfl)
abbrev cX0_isClock : ByteArray := prog_1_method_7_code
def yX0_isClock : MethodName := ⟨RX0, "isClock", "(I)Z"⟩
def dkwX0_isClock_0 : List UInt8 := [27, 3, 42, 180, 0, 46, 180, 0, 104, 4, 100, 184, 0, 108, 172]
abbrev dktX0_isClock_0 : List UInt8 := dkwX0_isClock_0 ++ []
theorem dksX0_isClock_0 : cX0_isClock.data.toList.drop 0 = dktX0_isClock_0 := by decide +kernel
theorem dX0_isClock_0 : decode cX0_isClock 0 = .ok (.iload_n 1, 1) := dk_27 (dk_at dksX0_isClock_0 0 rfl rfl)
theorem dX0_isClock_1 : decode cX0_isClock 1 = .ok (.iconst 0, 1) := dk_3 (dk_at dksX0_isClock_0 1 rfl rfl)
theorem dX0_isClock_2 : decode cX0_isClock 2 = .ok (.aload_n 0, 1) := dk_42 (dk_at dksX0_isClock_0 2 rfl rfl)
theorem dX0_isClock_3 : decode cX0_isClock 3 = .ok (.getfield 46, 3) := dk_180 0 46 (dk_at dksX0_isClock_0 3 rfl rfl)
theorem dX0_isClock_6 : decode cX0_isClock 6 = .ok (.getfield 104, 3) := dk_180 0 104 (dk_at dksX0_isClock_0 6 rfl rfl)
theorem dX0_isClock_9 : decode cX0_isClock 9 = .ok (.iconst 1, 1) := dk_4 (dk_at dksX0_isClock_0 9 rfl rfl)
theorem dX0_isClock_10 : decode cX0_isClock 10 = .ok (.isub, 1) := dk_100 (dk_at dksX0_isClock_0 10 rfl rfl)
theorem dX0_isClock_11 : decode cX0_isClock 11 = .ok (.invokestatic 108, 3) := dk_184 0 108 (dk_at dksX0_isClock_0 11 rfl rfl)
theorem dX0_isClock_14 : decode cX0_isClock 14 = .ok (.ireturn, 1) := dk_172 (dk_at dksX0_isClock_0 14 rfl rfl)
abbrev cX0_timeNow : ByteArray := prog_1_method_40_code
def yX0_timeNow : MethodName := ⟨RX0, "timeNow", "()I"⟩
def dkwX0_timeNow_0 : List UInt8 := [42, 180, 0, 46, 180, 1, 46, 17, 2, 208, 112, 172]
abbrev dktX0_timeNow_0 : List UInt8 := dkwX0_timeNow_0 ++ []
theorem dksX0_timeNow_0 : cX0_timeNow.data.toList.drop 0 = dktX0_timeNow_0 := by decide +kernel
theorem dX0_timeNow_0 : decode cX0_timeNow 0 = .ok (.aload_n 0, 1) := dk_42 (dk_at dksX0_timeNow_0 0 rfl rfl)
theorem dX0_timeNow_1 : decode cX0_timeNow 1 = .ok (.getfield 46, 3) := dk_180 0 46 (dk_at dksX0_timeNow_0 1 rfl rfl)
theorem dX0_timeNow_4 : decode cX0_timeNow 4 = .ok (.getfield 302, 3) := dk_180 1 46 (dk_at dksX0_timeNow_0 4 rfl rfl)
theorem dX0_timeNow_7 : decode cX0_timeNow 7 = .ok (.sipush 720, 3) := dk_17 2 208 (dk_at dksX0_timeNow_0 7 rfl rfl)
theorem dX0_timeNow_10 : decode cX0_timeNow 10 = .ok (.irem, 1) := dk_112 (dk_at dksX0_timeNow_0 10 rfl rfl)
theorem dX0_timeNow_11 : decode cX0_timeNow 11 = .ok (.ireturn, 1) := dk_172 (dk_at dksX0_timeNow_0 11 rfl rfl)
abbrev cX0_strokesOf : ByteArray := prog_1_method_38_code
def yX0_strokesOf : MethodName := ⟨RX0, "strokesOf", "(LStrokesHeard$Ringer;I)I"⟩
def dkwX0_strokesOf_2 : List UInt8 := [42, 43, 21, 4, 182, 1, 36, 167, 0, 4, 3, 182, 1, 40, 172]
abbrev dktX0_strokesOf_2 : List UInt8 := dkwX0_strokesOf_2 ++ []
def dkwX0_strokesOf_1 : List UInt8 := [167, 0, 7, 29, 16, 60, 108, 54, 4, 43, 29, 29, 16, 60, 112, 4, 16, 14, 184, 0, 108, 153, 0, 13]
abbrev dktX0_strokesOf_1 : List UInt8 := dkwX0_strokesOf_1 ++ dktX0_strokesOf_2
def dkwX0_strokesOf_0 : List UInt8 := [28, 43, 180, 1, 5, 100, 17, 2, 208, 184, 1, 33, 62, 29, 16, 60, 108, 154, 0, 8, 16, 12]
abbrev dktX0_strokesOf_0 : List UInt8 := dkwX0_strokesOf_0 ++ dktX0_strokesOf_1
theorem dksX0_strokesOf_0 : cX0_strokesOf.data.toList.drop 0 = dktX0_strokesOf_0 := by decide +kernel
theorem dksX0_strokesOf_1 : cX0_strokesOf.data.toList.drop 22 = dktX0_strokesOf_1 := dk_seg dksX0_strokesOf_0 22 rfl rfl
theorem dksX0_strokesOf_2 : cX0_strokesOf.data.toList.drop 46 = dktX0_strokesOf_2 := dk_seg dksX0_strokesOf_1 24 rfl rfl
theorem dX0_strokesOf_0 : decode cX0_strokesOf 0 = .ok (.iload_n 2, 1) := dk_28 (dk_at dksX0_strokesOf_0 0 rfl rfl)
theorem dX0_strokesOf_1 : decode cX0_strokesOf 1 = .ok (.aload_n 1, 1) := dk_43 (dk_at dksX0_strokesOf_0 1 rfl rfl)
theorem dX0_strokesOf_2 : decode cX0_strokesOf 2 = .ok (.getfield 261, 3) := dk_180 1 5 (dk_at dksX0_strokesOf_0 2 rfl rfl)
theorem dX0_strokesOf_5 : decode cX0_strokesOf 5 = .ok (.isub, 1) := dk_100 (dk_at dksX0_strokesOf_0 5 rfl rfl)
theorem dX0_strokesOf_6 : decode cX0_strokesOf 6 = .ok (.sipush 720, 3) := dk_17 2 208 (dk_at dksX0_strokesOf_0 6 rfl rfl)
theorem dX0_strokesOf_9 : decode cX0_strokesOf 9 = .ok (.invokestatic 289, 3) := dk_184 1 33 (dk_at dksX0_strokesOf_0 9 rfl rfl)
theorem dX0_strokesOf_12 : decode cX0_strokesOf 12 = .ok (.istore_n 3, 1) := dk_62 (dk_at dksX0_strokesOf_0 12 rfl rfl)
theorem dX0_strokesOf_13 : decode cX0_strokesOf 13 = .ok (.iload_n 3, 1) := dk_29 (dk_at dksX0_strokesOf_0 13 rfl rfl)
theorem dX0_strokesOf_14 : decode cX0_strokesOf 14 = .ok (.bipush 60, 2) := dk_16 60 (dk_at dksX0_strokesOf_0 14 rfl rfl)
theorem dX0_strokesOf_16 : decode cX0_strokesOf 16 = .ok (.idiv, 1) := dk_108 (dk_at dksX0_strokesOf_0 16 rfl rfl)
theorem dX0_strokesOf_17 : decode cX0_strokesOf 17 = .ok (.ifCond .ne 8, 3) := dk_154 0 8 (dk_at dksX0_strokesOf_0 17 rfl rfl)
theorem dX0_strokesOf_20 : decode cX0_strokesOf 20 = .ok (.bipush 12, 2) := dk_16 12 (dk_at dksX0_strokesOf_0 20 rfl rfl)
theorem dX0_strokesOf_22 : decode cX0_strokesOf 22 = .ok (.goto 7, 3) := dk_167 0 7 (dk_at dksX0_strokesOf_1 0 rfl rfl)
theorem dX0_strokesOf_25 : decode cX0_strokesOf 25 = .ok (.iload_n 3, 1) := dk_29 (dk_at dksX0_strokesOf_1 3 rfl rfl)
theorem dX0_strokesOf_26 : decode cX0_strokesOf 26 = .ok (.bipush 60, 2) := dk_16 60 (dk_at dksX0_strokesOf_1 4 rfl rfl)
theorem dX0_strokesOf_28 : decode cX0_strokesOf 28 = .ok (.idiv, 1) := dk_108 (dk_at dksX0_strokesOf_1 6 rfl rfl)
theorem dX0_strokesOf_29 : decode cX0_strokesOf 29 = .ok (.istore 4, 2) := dk_54 4 (dk_at dksX0_strokesOf_1 7 rfl rfl)
theorem dX0_strokesOf_31 : decode cX0_strokesOf 31 = .ok (.aload_n 1, 1) := dk_43 (dk_at dksX0_strokesOf_1 9 rfl rfl)
theorem dX0_strokesOf_32 : decode cX0_strokesOf 32 = .ok (.iload_n 3, 1) := dk_29 (dk_at dksX0_strokesOf_1 10 rfl rfl)
theorem dX0_strokesOf_33 : decode cX0_strokesOf 33 = .ok (.iload_n 3, 1) := dk_29 (dk_at dksX0_strokesOf_1 11 rfl rfl)
theorem dX0_strokesOf_34 : decode cX0_strokesOf 34 = .ok (.bipush 60, 2) := dk_16 60 (dk_at dksX0_strokesOf_1 12 rfl rfl)
theorem dX0_strokesOf_36 : decode cX0_strokesOf 36 = .ok (.irem, 1) := dk_112 (dk_at dksX0_strokesOf_1 14 rfl rfl)
theorem dX0_strokesOf_37 : decode cX0_strokesOf 37 = .ok (.iconst 1, 1) := dk_4 (dk_at dksX0_strokesOf_1 15 rfl rfl)
theorem dX0_strokesOf_38 : decode cX0_strokesOf 38 = .ok (.bipush 14, 2) := dk_16 14 (dk_at dksX0_strokesOf_1 16 rfl rfl)
theorem dX0_strokesOf_40 : decode cX0_strokesOf 40 = .ok (.invokestatic 108, 3) := dk_184 0 108 (dk_at dksX0_strokesOf_1 18 rfl rfl)
theorem dX0_strokesOf_43 : decode cX0_strokesOf 43 = .ok (.ifCond .eq 13, 3) := dk_153 0 13 (dk_at dksX0_strokesOf_1 21 rfl rfl)
theorem dX0_strokesOf_46 : decode cX0_strokesOf 46 = .ok (.aload_n 0, 1) := dk_42 (dk_at dksX0_strokesOf_2 0 rfl rfl)
theorem dX0_strokesOf_47 : decode cX0_strokesOf 47 = .ok (.aload_n 1, 1) := dk_43 (dk_at dksX0_strokesOf_2 1 rfl rfl)
theorem dX0_strokesOf_48 : decode cX0_strokesOf 48 = .ok (.iload 4, 2) := dk_21 4 (dk_at dksX0_strokesOf_2 2 rfl rfl)
theorem dX0_strokesOf_50 : decode cX0_strokesOf 50 = .ok (.invokevirtual 292, 3) := dk_182 1 36 (dk_at dksX0_strokesOf_2 4 rfl rfl)
theorem dX0_strokesOf_53 : decode cX0_strokesOf 53 = .ok (.goto 4, 3) := dk_167 0 4 (dk_at dksX0_strokesOf_2 7 rfl rfl)
theorem dX0_strokesOf_56 : decode cX0_strokesOf 56 = .ok (.iconst 0, 1) := dk_3 (dk_at dksX0_strokesOf_2 10 rfl rfl)
theorem dX0_strokesOf_57 : decode cX0_strokesOf 57 = .ok (.invokevirtual 296, 3) := dk_182 1 40 (dk_at dksX0_strokesOf_2 11 rfl rfl)
theorem dX0_strokesOf_60 : decode cX0_strokesOf 60 = .ok (.ireturn, 1) := dk_172 (dk_at dksX0_strokesOf_2 14 rfl rfl)
abbrev cX0_againAt : ByteArray := prog_1_method_37_code
def yX0_againAt : MethodName := ⟨RX0, "againAt", "(LStrokesHeard$Ringer;I)I"⟩
def dkwX0_againAt_2 : List UInt8 := [180, 0, 243, 29, 50, 180, 1, 22, 182, 1, 26, 4, 16, 14, 184, 1, 30, 172]
abbrev dktX0_againAt_2 : List UInt8 := dkwX0_againAt_2 ++ []
def dkwX0_againAt_1 : List UInt8 := [42, 180, 0, 74, 16, 116, 43, 180, 1, 8, 79, 42, 180, 0, 74, 16, 104, 28, 79, 42, 42, 180, 0, 46]
abbrev dktX0_againAt_1 : List UInt8 := dkwX0_againAt_1 ++ dktX0_againAt_2
def dkwX0_againAt_0 : List UInt8 := [42, 3, 182, 0, 250, 62, 29, 2, 160, 0, 5, 5, 172, 42, 180, 0, 74, 16, 111, 43, 180, 1, 5, 79]
abbrev dktX0_againAt_0 : List UInt8 := dkwX0_againAt_0 ++ dktX0_againAt_1
theorem dksX0_againAt_0 : cX0_againAt.data.toList.drop 0 = dktX0_againAt_0 := by decide +kernel
theorem dksX0_againAt_1 : cX0_againAt.data.toList.drop 24 = dktX0_againAt_1 := dk_seg dksX0_againAt_0 24 rfl rfl
theorem dksX0_againAt_2 : cX0_againAt.data.toList.drop 48 = dktX0_againAt_2 := dk_seg dksX0_againAt_1 24 rfl rfl
theorem dX0_againAt_0 : decode cX0_againAt 0 = .ok (.aload_n 0, 1) := dk_42 (dk_at dksX0_againAt_0 0 rfl rfl)
theorem dX0_againAt_1 : decode cX0_againAt 1 = .ok (.iconst 0, 1) := dk_3 (dk_at dksX0_againAt_0 1 rfl rfl)
theorem dX0_againAt_2 : decode cX0_againAt 2 = .ok (.invokevirtual 250, 3) := dk_182 0 250 (dk_at dksX0_againAt_0 2 rfl rfl)
theorem dX0_againAt_5 : decode cX0_againAt 5 = .ok (.istore_n 3, 1) := dk_62 (dk_at dksX0_againAt_0 5 rfl rfl)
theorem dX0_againAt_6 : decode cX0_againAt 6 = .ok (.iload_n 3, 1) := dk_29 (dk_at dksX0_againAt_0 6 rfl rfl)
theorem dX0_againAt_7 : decode cX0_againAt 7 = .ok (.iconst (-1), 1) := dk_2 (dk_at dksX0_againAt_0 7 rfl rfl)
theorem dX0_againAt_8 : decode cX0_againAt 8 = .ok (.if_icmp .ne 5, 3) := dk_160 0 5 (dk_at dksX0_againAt_0 8 rfl rfl)
theorem dX0_againAt_11 : decode cX0_againAt 11 = .ok (.iconst 2, 1) := dk_5 (dk_at dksX0_againAt_0 11 rfl rfl)
theorem dX0_againAt_12 : decode cX0_againAt 12 = .ok (.ireturn, 1) := dk_172 (dk_at dksX0_againAt_0 12 rfl rfl)
theorem dX0_againAt_13 : decode cX0_againAt 13 = .ok (.aload_n 0, 1) := dk_42 (dk_at dksX0_againAt_0 13 rfl rfl)
theorem dX0_againAt_14 : decode cX0_againAt 14 = .ok (.getfield 74, 3) := dk_180 0 74 (dk_at dksX0_againAt_0 14 rfl rfl)
theorem dX0_againAt_17 : decode cX0_againAt 17 = .ok (.bipush 111, 2) := dk_16 111 (dk_at dksX0_againAt_0 17 rfl rfl)
theorem dX0_againAt_19 : decode cX0_againAt 19 = .ok (.aload_n 1, 1) := dk_43 (dk_at dksX0_againAt_0 19 rfl rfl)
theorem dX0_againAt_20 : decode cX0_againAt 20 = .ok (.getfield 261, 3) := dk_180 1 5 (dk_at dksX0_againAt_0 20 rfl rfl)
theorem dX0_againAt_23 : decode cX0_againAt 23 = .ok (.iastore, 1) := dk_79 (dk_at dksX0_againAt_0 23 rfl rfl)
theorem dX0_againAt_24 : decode cX0_againAt 24 = .ok (.aload_n 0, 1) := dk_42 (dk_at dksX0_againAt_1 0 rfl rfl)
theorem dX0_againAt_25 : decode cX0_againAt 25 = .ok (.getfield 74, 3) := dk_180 0 74 (dk_at dksX0_againAt_1 1 rfl rfl)
theorem dX0_againAt_28 : decode cX0_againAt 28 = .ok (.bipush 116, 2) := dk_16 116 (dk_at dksX0_againAt_1 4 rfl rfl)
theorem dX0_againAt_30 : decode cX0_againAt 30 = .ok (.aload_n 1, 1) := dk_43 (dk_at dksX0_againAt_1 6 rfl rfl)
theorem dX0_againAt_31 : decode cX0_againAt 31 = .ok (.getfield 264, 3) := dk_180 1 8 (dk_at dksX0_againAt_1 7 rfl rfl)
theorem dX0_againAt_34 : decode cX0_againAt 34 = .ok (.iastore, 1) := dk_79 (dk_at dksX0_againAt_1 10 rfl rfl)
theorem dX0_againAt_35 : decode cX0_againAt 35 = .ok (.aload_n 0, 1) := dk_42 (dk_at dksX0_againAt_1 11 rfl rfl)
theorem dX0_againAt_36 : decode cX0_againAt 36 = .ok (.getfield 74, 3) := dk_180 0 74 (dk_at dksX0_againAt_1 12 rfl rfl)
theorem dX0_againAt_39 : decode cX0_againAt 39 = .ok (.bipush 104, 2) := dk_16 104 (dk_at dksX0_againAt_1 15 rfl rfl)
theorem dX0_againAt_41 : decode cX0_againAt 41 = .ok (.iload_n 2, 1) := dk_28 (dk_at dksX0_againAt_1 17 rfl rfl)
theorem dX0_againAt_42 : decode cX0_againAt 42 = .ok (.iastore, 1) := dk_79 (dk_at dksX0_againAt_1 18 rfl rfl)
theorem dX0_againAt_43 : decode cX0_againAt 43 = .ok (.aload_n 0, 1) := dk_42 (dk_at dksX0_againAt_1 19 rfl rfl)
theorem dX0_againAt_44 : decode cX0_againAt 44 = .ok (.aload_n 0, 1) := dk_42 (dk_at dksX0_againAt_1 20 rfl rfl)
theorem dX0_againAt_45 : decode cX0_againAt 45 = .ok (.getfield 46, 3) := dk_180 0 46 (dk_at dksX0_againAt_1 21 rfl rfl)
theorem dX0_againAt_48 : decode cX0_againAt 48 = .ok (.getfield 243, 3) := dk_180 0 243 (dk_at dksX0_againAt_2 0 rfl rfl)
theorem dX0_againAt_51 : decode cX0_againAt 51 = .ok (.iload_n 3, 1) := dk_29 (dk_at dksX0_againAt_2 3 rfl rfl)
theorem dX0_againAt_52 : decode cX0_againAt 52 = .ok (.aaload, 1) := dk_50 (dk_at dksX0_againAt_2 4 rfl rfl)
theorem dX0_againAt_53 : decode cX0_againAt 53 = .ok (.getfield 278, 3) := dk_180 1 22 (dk_at dksX0_againAt_2 5 rfl rfl)
theorem dX0_againAt_56 : decode cX0_againAt 56 = .ok (.invokevirtual 282, 3) := dk_182 1 26 (dk_at dksX0_againAt_2 8 rfl rfl)
theorem dX0_againAt_59 : decode cX0_againAt 59 = .ok (.iconst 1, 1) := dk_4 (dk_at dksX0_againAt_2 11 rfl rfl)
theorem dX0_againAt_60 : decode cX0_againAt 60 = .ok (.bipush 14, 2) := dk_16 14 (dk_at dksX0_againAt_2 12 rfl rfl)
theorem dX0_againAt_62 : decode cX0_againAt 62 = .ok (.invokestatic 286, 3) := dk_184 1 30 (dk_at dksX0_againAt_2 14 rfl rfl)
theorem dX0_againAt_65 : decode cX0_againAt 65 = .ok (.ireturn, 1) := dk_172 (dk_at dksX0_againAt_2 17 rfl rfl)
abbrev cX0_reckon : ByteArray := prog_1_method_9_code
def yX0_reckon : MethodName := ⟨RX0, "reckon", "(LStrokesHeard$Words;)I"⟩
def dkwX0_reckon_6 : List UInt8 := [180, 0, 59, 3, 46, 172]
abbrev dktX0_reckon_6 : List UInt8 := dkwX0_reckon_6 ++ []
def dkwX0_reckon_5 : List UInt8 := [180, 0, 59, 28, 4, 100, 46, 42, 180, 0, 59, 28, 46, 184, 0, 121, 79, 132, 3, 1, 167, 255, 124, 42]
abbrev dktX0_reckon_5 : List UInt8 := dkwX0_reckon_5 ++ dktX0_reckon_6
def dkwX0_reckon_4 : List UInt8 := [4, 167, 0, 4, 3, 79, 167, 0, 33, 132, 2, 255, 42, 180, 0, 59, 28, 4, 100, 21, 4, 42]
abbrev dktX0_reckon_4 : List UInt8 := dkwX0_reckon_4 ++ dktX0_reckon_5
def dkwX0_reckon_3 : List UInt8 := [21, 4, 6, 160, 0, 30, 42, 180, 0, 59, 28, 4, 100, 42, 180, 0, 59, 28, 4, 100, 46, 154, 0, 7]
abbrev dktX0_reckon_3 : List UInt8 := dkwX0_reckon_3 ++ dktX0_reckon_4
def dkwX0_reckon_2 : List UInt8 := [29, 46, 167, 0, 14, 42, 180, 0, 74, 43, 180, 0, 118, 29, 46, 46, 79, 132, 2, 1, 167, 0, 66]
abbrev dktX0_reckon_2 : List UInt8 := dkwX0_reckon_2 ++ dktX0_reckon_3
def dkwX0_reckon_1 : List UInt8 := [159, 0, 9, 21, 4, 5, 160, 0, 41, 42, 180, 0, 59, 28, 21, 4, 4, 160, 0, 12, 43, 180, 0, 118]
abbrev dktX0_reckon_1 : List UInt8 := dkwX0_reckon_1 ++ dktX0_reckon_2
def dkwX0_reckon_0 : List UInt8 := [3, 61, 3, 62, 29, 43, 180, 0, 112, 162, 0, 130, 43, 180, 0, 115, 29, 46, 54, 4, 21, 4, 4]
abbrev dktX0_reckon_0 : List UInt8 := dkwX0_reckon_0 ++ dktX0_reckon_1
theorem dksX0_reckon_0 : cX0_reckon.data.toList.drop 0 = dktX0_reckon_0 := by decide +kernel
theorem dksX0_reckon_1 : cX0_reckon.data.toList.drop 23 = dktX0_reckon_1 := dk_seg dksX0_reckon_0 23 rfl rfl
theorem dksX0_reckon_2 : cX0_reckon.data.toList.drop 47 = dktX0_reckon_2 := dk_seg dksX0_reckon_1 24 rfl rfl
theorem dksX0_reckon_3 : cX0_reckon.data.toList.drop 70 = dktX0_reckon_3 := dk_seg dksX0_reckon_2 23 rfl rfl
theorem dksX0_reckon_4 : cX0_reckon.data.toList.drop 94 = dktX0_reckon_4 := dk_seg dksX0_reckon_3 24 rfl rfl
theorem dksX0_reckon_5 : cX0_reckon.data.toList.drop 116 = dktX0_reckon_5 := dk_seg dksX0_reckon_4 22 rfl rfl
theorem dksX0_reckon_6 : cX0_reckon.data.toList.drop 140 = dktX0_reckon_6 := dk_seg dksX0_reckon_5 24 rfl rfl
theorem dX0_reckon_0 : decode cX0_reckon 0 = .ok (.iconst 0, 1) := dk_3 (dk_at dksX0_reckon_0 0 rfl rfl)
theorem dX0_reckon_1 : decode cX0_reckon 1 = .ok (.istore_n 2, 1) := dk_61 (dk_at dksX0_reckon_0 1 rfl rfl)
theorem dX0_reckon_2 : decode cX0_reckon 2 = .ok (.iconst 0, 1) := dk_3 (dk_at dksX0_reckon_0 2 rfl rfl)
theorem dX0_reckon_3 : decode cX0_reckon 3 = .ok (.istore_n 3, 1) := dk_62 (dk_at dksX0_reckon_0 3 rfl rfl)
theorem dX0_reckon_4 : decode cX0_reckon 4 = .ok (.iload_n 3, 1) := dk_29 (dk_at dksX0_reckon_0 4 rfl rfl)
theorem dX0_reckon_5 : decode cX0_reckon 5 = .ok (.aload_n 1, 1) := dk_43 (dk_at dksX0_reckon_0 5 rfl rfl)
theorem dX0_reckon_6 : decode cX0_reckon 6 = .ok (.getfield 112, 3) := dk_180 0 112 (dk_at dksX0_reckon_0 6 rfl rfl)
theorem dX0_reckon_9 : decode cX0_reckon 9 = .ok (.if_icmp .ge 130, 3) := dk_162 0 130 (dk_at dksX0_reckon_0 9 rfl rfl)
theorem dX0_reckon_12 : decode cX0_reckon 12 = .ok (.aload_n 1, 1) := dk_43 (dk_at dksX0_reckon_0 12 rfl rfl)
theorem dX0_reckon_13 : decode cX0_reckon 13 = .ok (.getfield 115, 3) := dk_180 0 115 (dk_at dksX0_reckon_0 13 rfl rfl)
theorem dX0_reckon_16 : decode cX0_reckon 16 = .ok (.iload_n 3, 1) := dk_29 (dk_at dksX0_reckon_0 16 rfl rfl)
theorem dX0_reckon_17 : decode cX0_reckon 17 = .ok (.iaload, 1) := dk_46 (dk_at dksX0_reckon_0 17 rfl rfl)
theorem dX0_reckon_18 : decode cX0_reckon 18 = .ok (.istore 4, 2) := dk_54 4 (dk_at dksX0_reckon_0 18 rfl rfl)
theorem dX0_reckon_20 : decode cX0_reckon 20 = .ok (.iload 4, 2) := dk_21 4 (dk_at dksX0_reckon_0 20 rfl rfl)
theorem dX0_reckon_22 : decode cX0_reckon 22 = .ok (.iconst 1, 1) := dk_4 (dk_at dksX0_reckon_0 22 rfl rfl)
theorem dX0_reckon_23 : decode cX0_reckon 23 = .ok (.if_icmp .eq 9, 3) := dk_159 0 9 (dk_at dksX0_reckon_1 0 rfl rfl)
theorem dX0_reckon_26 : decode cX0_reckon 26 = .ok (.iload 4, 2) := dk_21 4 (dk_at dksX0_reckon_1 3 rfl rfl)
theorem dX0_reckon_28 : decode cX0_reckon 28 = .ok (.iconst 2, 1) := dk_5 (dk_at dksX0_reckon_1 5 rfl rfl)
theorem dX0_reckon_29 : decode cX0_reckon 29 = .ok (.if_icmp .ne 41, 3) := dk_160 0 41 (dk_at dksX0_reckon_1 6 rfl rfl)
theorem dX0_reckon_32 : decode cX0_reckon 32 = .ok (.aload_n 0, 1) := dk_42 (dk_at dksX0_reckon_1 9 rfl rfl)
theorem dX0_reckon_33 : decode cX0_reckon 33 = .ok (.getfield 59, 3) := dk_180 0 59 (dk_at dksX0_reckon_1 10 rfl rfl)
theorem dX0_reckon_36 : decode cX0_reckon 36 = .ok (.iload_n 2, 1) := dk_28 (dk_at dksX0_reckon_1 13 rfl rfl)
theorem dX0_reckon_37 : decode cX0_reckon 37 = .ok (.iload 4, 2) := dk_21 4 (dk_at dksX0_reckon_1 14 rfl rfl)
theorem dX0_reckon_39 : decode cX0_reckon 39 = .ok (.iconst 1, 1) := dk_4 (dk_at dksX0_reckon_1 16 rfl rfl)
theorem dX0_reckon_40 : decode cX0_reckon 40 = .ok (.if_icmp .ne 12, 3) := dk_160 0 12 (dk_at dksX0_reckon_1 17 rfl rfl)
theorem dX0_reckon_43 : decode cX0_reckon 43 = .ok (.aload_n 1, 1) := dk_43 (dk_at dksX0_reckon_1 20 rfl rfl)
theorem dX0_reckon_44 : decode cX0_reckon 44 = .ok (.getfield 118, 3) := dk_180 0 118 (dk_at dksX0_reckon_1 21 rfl rfl)
theorem dX0_reckon_47 : decode cX0_reckon 47 = .ok (.iload_n 3, 1) := dk_29 (dk_at dksX0_reckon_2 0 rfl rfl)
theorem dX0_reckon_48 : decode cX0_reckon 48 = .ok (.iaload, 1) := dk_46 (dk_at dksX0_reckon_2 1 rfl rfl)
theorem dX0_reckon_49 : decode cX0_reckon 49 = .ok (.goto 14, 3) := dk_167 0 14 (dk_at dksX0_reckon_2 2 rfl rfl)
theorem dX0_reckon_52 : decode cX0_reckon 52 = .ok (.aload_n 0, 1) := dk_42 (dk_at dksX0_reckon_2 5 rfl rfl)
theorem dX0_reckon_53 : decode cX0_reckon 53 = .ok (.getfield 74, 3) := dk_180 0 74 (dk_at dksX0_reckon_2 6 rfl rfl)
theorem dX0_reckon_56 : decode cX0_reckon 56 = .ok (.aload_n 1, 1) := dk_43 (dk_at dksX0_reckon_2 9 rfl rfl)
theorem dX0_reckon_57 : decode cX0_reckon 57 = .ok (.getfield 118, 3) := dk_180 0 118 (dk_at dksX0_reckon_2 10 rfl rfl)
theorem dX0_reckon_60 : decode cX0_reckon 60 = .ok (.iload_n 3, 1) := dk_29 (dk_at dksX0_reckon_2 13 rfl rfl)
theorem dX0_reckon_61 : decode cX0_reckon 61 = .ok (.iaload, 1) := dk_46 (dk_at dksX0_reckon_2 14 rfl rfl)
theorem dX0_reckon_62 : decode cX0_reckon 62 = .ok (.iaload, 1) := dk_46 (dk_at dksX0_reckon_2 15 rfl rfl)
theorem dX0_reckon_63 : decode cX0_reckon 63 = .ok (.iastore, 1) := dk_79 (dk_at dksX0_reckon_2 16 rfl rfl)
theorem dX0_reckon_64 : decode cX0_reckon 64 = .ok (.iinc 2 1, 3) := dk_132 2 1 (dk_at dksX0_reckon_2 17 rfl rfl)
theorem dX0_reckon_67 : decode cX0_reckon 67 = .ok (.goto 66, 3) := dk_167 0 66 (dk_at dksX0_reckon_2 20 rfl rfl)
theorem dX0_reckon_70 : decode cX0_reckon 70 = .ok (.iload 4, 2) := dk_21 4 (dk_at dksX0_reckon_3 0 rfl rfl)
theorem dX0_reckon_72 : decode cX0_reckon 72 = .ok (.iconst 3, 1) := dk_6 (dk_at dksX0_reckon_3 2 rfl rfl)
theorem dX0_reckon_73 : decode cX0_reckon 73 = .ok (.if_icmp .ne 30, 3) := dk_160 0 30 (dk_at dksX0_reckon_3 3 rfl rfl)
theorem dX0_reckon_76 : decode cX0_reckon 76 = .ok (.aload_n 0, 1) := dk_42 (dk_at dksX0_reckon_3 6 rfl rfl)
theorem dX0_reckon_77 : decode cX0_reckon 77 = .ok (.getfield 59, 3) := dk_180 0 59 (dk_at dksX0_reckon_3 7 rfl rfl)
theorem dX0_reckon_80 : decode cX0_reckon 80 = .ok (.iload_n 2, 1) := dk_28 (dk_at dksX0_reckon_3 10 rfl rfl)
theorem dX0_reckon_81 : decode cX0_reckon 81 = .ok (.iconst 1, 1) := dk_4 (dk_at dksX0_reckon_3 11 rfl rfl)
theorem dX0_reckon_82 : decode cX0_reckon 82 = .ok (.isub, 1) := dk_100 (dk_at dksX0_reckon_3 12 rfl rfl)
theorem dX0_reckon_83 : decode cX0_reckon 83 = .ok (.aload_n 0, 1) := dk_42 (dk_at dksX0_reckon_3 13 rfl rfl)
theorem dX0_reckon_84 : decode cX0_reckon 84 = .ok (.getfield 59, 3) := dk_180 0 59 (dk_at dksX0_reckon_3 14 rfl rfl)
theorem dX0_reckon_87 : decode cX0_reckon 87 = .ok (.iload_n 2, 1) := dk_28 (dk_at dksX0_reckon_3 17 rfl rfl)
theorem dX0_reckon_88 : decode cX0_reckon 88 = .ok (.iconst 1, 1) := dk_4 (dk_at dksX0_reckon_3 18 rfl rfl)
theorem dX0_reckon_89 : decode cX0_reckon 89 = .ok (.isub, 1) := dk_100 (dk_at dksX0_reckon_3 19 rfl rfl)
theorem dX0_reckon_90 : decode cX0_reckon 90 = .ok (.iaload, 1) := dk_46 (dk_at dksX0_reckon_3 20 rfl rfl)
theorem dX0_reckon_91 : decode cX0_reckon 91 = .ok (.ifCond .ne 7, 3) := dk_154 0 7 (dk_at dksX0_reckon_3 21 rfl rfl)
theorem dX0_reckon_94 : decode cX0_reckon 94 = .ok (.iconst 1, 1) := dk_4 (dk_at dksX0_reckon_4 0 rfl rfl)
theorem dX0_reckon_95 : decode cX0_reckon 95 = .ok (.goto 4, 3) := dk_167 0 4 (dk_at dksX0_reckon_4 1 rfl rfl)
theorem dX0_reckon_98 : decode cX0_reckon 98 = .ok (.iconst 0, 1) := dk_3 (dk_at dksX0_reckon_4 4 rfl rfl)
theorem dX0_reckon_99 : decode cX0_reckon 99 = .ok (.iastore, 1) := dk_79 (dk_at dksX0_reckon_4 5 rfl rfl)
theorem dX0_reckon_100 : decode cX0_reckon 100 = .ok (.goto 33, 3) := dk_167 0 33 (dk_at dksX0_reckon_4 6 rfl rfl)
theorem dX0_reckon_103 : decode cX0_reckon 103 = .ok (.iinc 2 (-1), 3) := dk_132 2 255 (dk_at dksX0_reckon_4 9 rfl rfl)
theorem dX0_reckon_106 : decode cX0_reckon 106 = .ok (.aload_n 0, 1) := dk_42 (dk_at dksX0_reckon_4 12 rfl rfl)
theorem dX0_reckon_107 : decode cX0_reckon 107 = .ok (.getfield 59, 3) := dk_180 0 59 (dk_at dksX0_reckon_4 13 rfl rfl)
theorem dX0_reckon_110 : decode cX0_reckon 110 = .ok (.iload_n 2, 1) := dk_28 (dk_at dksX0_reckon_4 16 rfl rfl)
theorem dX0_reckon_111 : decode cX0_reckon 111 = .ok (.iconst 1, 1) := dk_4 (dk_at dksX0_reckon_4 17 rfl rfl)
theorem dX0_reckon_112 : decode cX0_reckon 112 = .ok (.isub, 1) := dk_100 (dk_at dksX0_reckon_4 18 rfl rfl)
theorem dX0_reckon_113 : decode cX0_reckon 113 = .ok (.iload 4, 2) := dk_21 4 (dk_at dksX0_reckon_4 19 rfl rfl)
theorem dX0_reckon_115 : decode cX0_reckon 115 = .ok (.aload_n 0, 1) := dk_42 (dk_at dksX0_reckon_4 21 rfl rfl)
theorem dX0_reckon_116 : decode cX0_reckon 116 = .ok (.getfield 59, 3) := dk_180 0 59 (dk_at dksX0_reckon_5 0 rfl rfl)
theorem dX0_reckon_119 : decode cX0_reckon 119 = .ok (.iload_n 2, 1) := dk_28 (dk_at dksX0_reckon_5 3 rfl rfl)
theorem dX0_reckon_120 : decode cX0_reckon 120 = .ok (.iconst 1, 1) := dk_4 (dk_at dksX0_reckon_5 4 rfl rfl)
theorem dX0_reckon_121 : decode cX0_reckon 121 = .ok (.isub, 1) := dk_100 (dk_at dksX0_reckon_5 5 rfl rfl)
theorem dX0_reckon_122 : decode cX0_reckon 122 = .ok (.iaload, 1) := dk_46 (dk_at dksX0_reckon_5 6 rfl rfl)
theorem dX0_reckon_123 : decode cX0_reckon 123 = .ok (.aload_n 0, 1) := dk_42 (dk_at dksX0_reckon_5 7 rfl rfl)
theorem dX0_reckon_124 : decode cX0_reckon 124 = .ok (.getfield 59, 3) := dk_180 0 59 (dk_at dksX0_reckon_5 8 rfl rfl)
theorem dX0_reckon_127 : decode cX0_reckon 127 = .ok (.iload_n 2, 1) := dk_28 (dk_at dksX0_reckon_5 11 rfl rfl)
theorem dX0_reckon_128 : decode cX0_reckon 128 = .ok (.iaload, 1) := dk_46 (dk_at dksX0_reckon_5 12 rfl rfl)
theorem dX0_reckon_129 : decode cX0_reckon 129 = .ok (.invokestatic 121, 3) := dk_184 0 121 (dk_at dksX0_reckon_5 13 rfl rfl)
theorem dX0_reckon_132 : decode cX0_reckon 132 = .ok (.iastore, 1) := dk_79 (dk_at dksX0_reckon_5 16 rfl rfl)
theorem dX0_reckon_133 : decode cX0_reckon 133 = .ok (.iinc 3 1, 3) := dk_132 3 1 (dk_at dksX0_reckon_5 17 rfl rfl)
theorem dX0_reckon_136 : decode cX0_reckon 136 = .ok (.goto (-132), 3) := dk_167 255 124 (dk_at dksX0_reckon_5 20 rfl rfl)
theorem dX0_reckon_139 : decode cX0_reckon 139 = .ok (.aload_n 0, 1) := dk_42 (dk_at dksX0_reckon_5 23 rfl rfl)
theorem dX0_reckon_140 : decode cX0_reckon 140 = .ok (.getfield 59, 3) := dk_180 0 59 (dk_at dksX0_reckon_6 0 rfl rfl)
theorem dX0_reckon_143 : decode cX0_reckon 143 = .ok (.iconst 0, 1) := dk_3 (dk_at dksX0_reckon_6 3 rfl rfl)
theorem dX0_reckon_144 : decode cX0_reckon 144 = .ok (.iaload, 1) := dk_46 (dk_at dksX0_reckon_6 4 rfl rfl)
theorem dX0_reckon_145 : decode cX0_reckon 145 = .ok (.ireturn, 1) := dk_172 (dk_at dksX0_reckon_6 5 rfl rfl)
abbrev cX0_both : ByteArray := prog_1_method_8_code
def yX0_both : MethodName := ⟨RX0, "both", "(III)I"⟩
def dkwX0_both_5 : List UInt8 := [154, 0, 7, 28, 153, 0, 7, 4, 167, 0, 4, 3, 172]
abbrev dktX0_both_5 : List UInt8 := dkwX0_both_5 ++ []
def dkwX0_both_4 : List UInt8 := [164, 0, 7, 4, 167, 0, 4, 3, 172, 27, 153, 0, 11, 28, 153, 0, 7, 4, 167, 0, 4, 3, 172, 27]
abbrev dktX0_both_4 : List UInt8 := dkwX0_both_4 ++ dktX0_both_5
def dkwX0_both_3 : List UInt8 := [27, 28, 162, 0, 7, 4, 167, 0, 4, 3, 172, 27, 28, 160, 0, 7, 4, 167, 0, 4, 3, 172, 27, 28]
abbrev dktX0_both_3 : List UInt8 := dkwX0_both_3 ++ dktX0_both_4
def dkwX0_both_2 : List UInt8 := [27, 28, 104, 172, 28, 154, 0, 7, 3, 167, 0, 6, 27, 28, 108, 172, 27, 28, 96, 172, 27, 28, 100, 172]
abbrev dktX0_both_2 : List UInt8 := dkwX0_both_2 ++ dktX0_both_3
def dkwX0_both_1 : List UInt8 := [170, 0, 0, 0, 0, 0, 122, 0, 0, 0, 4, 0, 0, 0, 12, 0, 0, 0, 51, 0, 0, 0, 67, 0, 0, 0, 71, 0, 0, 0, 75, 0, 0, 0, 86, 0, 0, 0, 97, 0, 0, 0, 108, 0, 0, 0, 122, 0, 0, 0, 55]
abbrev dktX0_both_1 : List UInt8 := dkwX0_both_1 ++ dktX0_both_2
def dkwX0_both_0 : List UInt8 := [26]
abbrev dktX0_both_0 : List UInt8 := dkwX0_both_0 ++ dktX0_both_1
theorem dksX0_both_0 : cX0_both.data.toList.drop 0 = dktX0_both_0 := by decide +kernel
theorem dksX0_both_1 : cX0_both.data.toList.drop 1 = dktX0_both_1 := dk_seg dksX0_both_0 1 rfl rfl
theorem dksX0_both_2 : cX0_both.data.toList.drop 52 = dktX0_both_2 := dk_seg dksX0_both_1 51 rfl rfl
theorem dksX0_both_3 : cX0_both.data.toList.drop 76 = dktX0_both_3 := dk_seg dksX0_both_2 24 rfl rfl
theorem dksX0_both_4 : cX0_both.data.toList.drop 100 = dktX0_both_4 := dk_seg dksX0_both_3 24 rfl rfl
theorem dksX0_both_5 : cX0_both.data.toList.drop 124 = dktX0_both_5 := dk_seg dksX0_both_4 24 rfl rfl
theorem dX0_both_0 : decode cX0_both 0 = .ok (.iload_n 0, 1) := dk_26 (dk_at dksX0_both_0 0 rfl rfl)
theorem dX0_both_1 : decode cX0_both 1 = .ok (.tableswitch 122 4 12 #[51, 67, 71, 75, 86, 97, 108, 122, 55], 51) := by decide +kernel
theorem dX0_both_52 : decode cX0_both 52 = .ok (.iload_n 1, 1) := dk_27 (dk_at dksX0_both_2 0 rfl rfl)
theorem dX0_both_53 : decode cX0_both 53 = .ok (.iload_n 2, 1) := dk_28 (dk_at dksX0_both_2 1 rfl rfl)
theorem dX0_both_54 : decode cX0_both 54 = .ok (.imul, 1) := dk_104 (dk_at dksX0_both_2 2 rfl rfl)
theorem dX0_both_55 : decode cX0_both 55 = .ok (.ireturn, 1) := dk_172 (dk_at dksX0_both_2 3 rfl rfl)
theorem dX0_both_56 : decode cX0_both 56 = .ok (.iload_n 2, 1) := dk_28 (dk_at dksX0_both_2 4 rfl rfl)
theorem dX0_both_57 : decode cX0_both 57 = .ok (.ifCond .ne 7, 3) := dk_154 0 7 (dk_at dksX0_both_2 5 rfl rfl)
theorem dX0_both_60 : decode cX0_both 60 = .ok (.iconst 0, 1) := dk_3 (dk_at dksX0_both_2 8 rfl rfl)
theorem dX0_both_61 : decode cX0_both 61 = .ok (.goto 6, 3) := dk_167 0 6 (dk_at dksX0_both_2 9 rfl rfl)
theorem dX0_both_64 : decode cX0_both 64 = .ok (.iload_n 1, 1) := dk_27 (dk_at dksX0_both_2 12 rfl rfl)
theorem dX0_both_65 : decode cX0_both 65 = .ok (.iload_n 2, 1) := dk_28 (dk_at dksX0_both_2 13 rfl rfl)
theorem dX0_both_66 : decode cX0_both 66 = .ok (.idiv, 1) := dk_108 (dk_at dksX0_both_2 14 rfl rfl)
theorem dX0_both_67 : decode cX0_both 67 = .ok (.ireturn, 1) := dk_172 (dk_at dksX0_both_2 15 rfl rfl)
theorem dX0_both_68 : decode cX0_both 68 = .ok (.iload_n 1, 1) := dk_27 (dk_at dksX0_both_2 16 rfl rfl)
theorem dX0_both_69 : decode cX0_both 69 = .ok (.iload_n 2, 1) := dk_28 (dk_at dksX0_both_2 17 rfl rfl)
theorem dX0_both_70 : decode cX0_both 70 = .ok (.iadd, 1) := dk_96 (dk_at dksX0_both_2 18 rfl rfl)
theorem dX0_both_71 : decode cX0_both 71 = .ok (.ireturn, 1) := dk_172 (dk_at dksX0_both_2 19 rfl rfl)
theorem dX0_both_72 : decode cX0_both 72 = .ok (.iload_n 1, 1) := dk_27 (dk_at dksX0_both_2 20 rfl rfl)
theorem dX0_both_73 : decode cX0_both 73 = .ok (.iload_n 2, 1) := dk_28 (dk_at dksX0_both_2 21 rfl rfl)
theorem dX0_both_74 : decode cX0_both 74 = .ok (.isub, 1) := dk_100 (dk_at dksX0_both_2 22 rfl rfl)
theorem dX0_both_75 : decode cX0_both 75 = .ok (.ireturn, 1) := dk_172 (dk_at dksX0_both_2 23 rfl rfl)
theorem dX0_both_76 : decode cX0_both 76 = .ok (.iload_n 1, 1) := dk_27 (dk_at dksX0_both_3 0 rfl rfl)
theorem dX0_both_77 : decode cX0_both 77 = .ok (.iload_n 2, 1) := dk_28 (dk_at dksX0_both_3 1 rfl rfl)
theorem dX0_both_78 : decode cX0_both 78 = .ok (.if_icmp .ge 7, 3) := dk_162 0 7 (dk_at dksX0_both_3 2 rfl rfl)
theorem dX0_both_81 : decode cX0_both 81 = .ok (.iconst 1, 1) := dk_4 (dk_at dksX0_both_3 5 rfl rfl)
theorem dX0_both_82 : decode cX0_both 82 = .ok (.goto 4, 3) := dk_167 0 4 (dk_at dksX0_both_3 6 rfl rfl)
theorem dX0_both_85 : decode cX0_both 85 = .ok (.iconst 0, 1) := dk_3 (dk_at dksX0_both_3 9 rfl rfl)
theorem dX0_both_86 : decode cX0_both 86 = .ok (.ireturn, 1) := dk_172 (dk_at dksX0_both_3 10 rfl rfl)
theorem dX0_both_87 : decode cX0_both 87 = .ok (.iload_n 1, 1) := dk_27 (dk_at dksX0_both_3 11 rfl rfl)
theorem dX0_both_88 : decode cX0_both 88 = .ok (.iload_n 2, 1) := dk_28 (dk_at dksX0_both_3 12 rfl rfl)
theorem dX0_both_89 : decode cX0_both 89 = .ok (.if_icmp .ne 7, 3) := dk_160 0 7 (dk_at dksX0_both_3 13 rfl rfl)
theorem dX0_both_92 : decode cX0_both 92 = .ok (.iconst 1, 1) := dk_4 (dk_at dksX0_both_3 16 rfl rfl)
theorem dX0_both_93 : decode cX0_both 93 = .ok (.goto 4, 3) := dk_167 0 4 (dk_at dksX0_both_3 17 rfl rfl)
theorem dX0_both_96 : decode cX0_both 96 = .ok (.iconst 0, 1) := dk_3 (dk_at dksX0_both_3 20 rfl rfl)
theorem dX0_both_97 : decode cX0_both 97 = .ok (.ireturn, 1) := dk_172 (dk_at dksX0_both_3 21 rfl rfl)
theorem dX0_both_98 : decode cX0_both 98 = .ok (.iload_n 1, 1) := dk_27 (dk_at dksX0_both_3 22 rfl rfl)
theorem dX0_both_99 : decode cX0_both 99 = .ok (.iload_n 2, 1) := dk_28 (dk_at dksX0_both_3 23 rfl rfl)
theorem dX0_both_100 : decode cX0_both 100 = .ok (.if_icmp .le 7, 3) := dk_164 0 7 (dk_at dksX0_both_4 0 rfl rfl)
theorem dX0_both_103 : decode cX0_both 103 = .ok (.iconst 1, 1) := dk_4 (dk_at dksX0_both_4 3 rfl rfl)
theorem dX0_both_104 : decode cX0_both 104 = .ok (.goto 4, 3) := dk_167 0 4 (dk_at dksX0_both_4 4 rfl rfl)
theorem dX0_both_107 : decode cX0_both 107 = .ok (.iconst 0, 1) := dk_3 (dk_at dksX0_both_4 7 rfl rfl)
theorem dX0_both_108 : decode cX0_both 108 = .ok (.ireturn, 1) := dk_172 (dk_at dksX0_both_4 8 rfl rfl)
theorem dX0_both_109 : decode cX0_both 109 = .ok (.iload_n 1, 1) := dk_27 (dk_at dksX0_both_4 9 rfl rfl)
theorem dX0_both_110 : decode cX0_both 110 = .ok (.ifCond .eq 11, 3) := dk_153 0 11 (dk_at dksX0_both_4 10 rfl rfl)
theorem dX0_both_113 : decode cX0_both 113 = .ok (.iload_n 2, 1) := dk_28 (dk_at dksX0_both_4 13 rfl rfl)
theorem dX0_both_114 : decode cX0_both 114 = .ok (.ifCond .eq 7, 3) := dk_153 0 7 (dk_at dksX0_both_4 14 rfl rfl)
theorem dX0_both_117 : decode cX0_both 117 = .ok (.iconst 1, 1) := dk_4 (dk_at dksX0_both_4 17 rfl rfl)
theorem dX0_both_118 : decode cX0_both 118 = .ok (.goto 4, 3) := dk_167 0 4 (dk_at dksX0_both_4 18 rfl rfl)
theorem dX0_both_121 : decode cX0_both 121 = .ok (.iconst 0, 1) := dk_3 (dk_at dksX0_both_4 21 rfl rfl)
theorem dX0_both_122 : decode cX0_both 122 = .ok (.ireturn, 1) := dk_172 (dk_at dksX0_both_4 22 rfl rfl)
theorem dX0_both_123 : decode cX0_both 123 = .ok (.iload_n 1, 1) := dk_27 (dk_at dksX0_both_4 23 rfl rfl)
theorem dX0_both_124 : decode cX0_both 124 = .ok (.ifCond .ne 7, 3) := dk_154 0 7 (dk_at dksX0_both_5 0 rfl rfl)
theorem dX0_both_127 : decode cX0_both 127 = .ok (.iload_n 2, 1) := dk_28 (dk_at dksX0_both_5 3 rfl rfl)
theorem dX0_both_128 : decode cX0_both 128 = .ok (.ifCond .eq 7, 3) := dk_153 0 7 (dk_at dksX0_both_5 4 rfl rfl)
theorem dX0_both_131 : decode cX0_both 131 = .ok (.iconst 1, 1) := dk_4 (dk_at dksX0_both_5 7 rfl rfl)
theorem dX0_both_132 : decode cX0_both 132 = .ok (.goto 4, 3) := dk_167 0 4 (dk_at dksX0_both_5 8 rfl rfl)
theorem dX0_both_135 : decode cX0_both 135 = .ok (.iconst 0, 1) := dk_3 (dk_at dksX0_both_5 11 rfl rfl)
theorem dX0_both_136 : decode cX0_both 136 = .ok (.ireturn, 1) := dk_172 (dk_at dksX0_both_5 12 rfl rfl)
abbrev cX0_within : ByteArray := prog_1_method_3_code
def yX0_within : MethodName := ⟨RX0, "within", "(III)I"⟩
def dkwX0_within_0 : List UInt8 := [27, 28, 26, 184, 0, 4, 184, 0, 10, 172]
abbrev dktX0_within_0 : List UInt8 := dkwX0_within_0 ++ []
theorem dksX0_within_0 : cX0_within.data.toList.drop 0 = dktX0_within_0 := by decide +kernel
theorem dX0_within_0 : decode cX0_within 0 = .ok (.iload_n 1, 1) := dk_27 (dk_at dksX0_within_0 0 rfl rfl)
theorem dX0_within_1 : decode cX0_within 1 = .ok (.iload_n 2, 1) := dk_28 (dk_at dksX0_within_0 1 rfl rfl)
theorem dX0_within_2 : decode cX0_within 2 = .ok (.iload_n 0, 1) := dk_26 (dk_at dksX0_within_0 2 rfl rfl)
theorem dX0_within_3 : decode cX0_within 3 = .ok (.invokestatic 4, 3) := dk_184 0 4 (dk_at dksX0_within_0 3 rfl rfl)
theorem dX0_within_6 : decode cX0_within 6 = .ok (.invokestatic 10, 3) := dk_184 0 10 (dk_at dksX0_within_0 6 rfl rfl)
theorem dX0_within_9 : decode cX0_within 9 = .ok (.ireturn, 1) := dk_172 (dk_at dksX0_within_0 9 rfl rfl)
abbrev cX0_inAll : ByteArray := prog_1_method_39_code
def yX0_inAll : MethodName := ⟨RX0, "inAll", "(LStrokesHeard$Ringer;)I"⟩
def dkwX0_inAll_1 : List UInt8 := [167, 255, 237, 28, 172]
abbrev dktX0_inAll_1 : List UInt8 := dkwX0_inAll_1 ++ []
def dkwX0_inAll_0 : List UInt8 := [3, 61, 3, 62, 29, 17, 2, 208, 162, 0, 18, 28, 42, 43, 29, 182, 1, 43, 96, 61, 132, 3, 1]
abbrev dktX0_inAll_0 : List UInt8 := dkwX0_inAll_0 ++ dktX0_inAll_1
theorem dksX0_inAll_0 : cX0_inAll.data.toList.drop 0 = dktX0_inAll_0 := by decide +kernel
theorem dksX0_inAll_1 : cX0_inAll.data.toList.drop 23 = dktX0_inAll_1 := dk_seg dksX0_inAll_0 23 rfl rfl
theorem dX0_inAll_0 : decode cX0_inAll 0 = .ok (.iconst 0, 1) := dk_3 (dk_at dksX0_inAll_0 0 rfl rfl)
theorem dX0_inAll_1 : decode cX0_inAll 1 = .ok (.istore_n 2, 1) := dk_61 (dk_at dksX0_inAll_0 1 rfl rfl)
theorem dX0_inAll_2 : decode cX0_inAll 2 = .ok (.iconst 0, 1) := dk_3 (dk_at dksX0_inAll_0 2 rfl rfl)
theorem dX0_inAll_3 : decode cX0_inAll 3 = .ok (.istore_n 3, 1) := dk_62 (dk_at dksX0_inAll_0 3 rfl rfl)
theorem dX0_inAll_4 : decode cX0_inAll 4 = .ok (.iload_n 3, 1) := dk_29 (dk_at dksX0_inAll_0 4 rfl rfl)
theorem dX0_inAll_5 : decode cX0_inAll 5 = .ok (.sipush 720, 3) := dk_17 2 208 (dk_at dksX0_inAll_0 5 rfl rfl)
theorem dX0_inAll_8 : decode cX0_inAll 8 = .ok (.if_icmp .ge 18, 3) := dk_162 0 18 (dk_at dksX0_inAll_0 8 rfl rfl)
theorem dX0_inAll_11 : decode cX0_inAll 11 = .ok (.iload_n 2, 1) := dk_28 (dk_at dksX0_inAll_0 11 rfl rfl)
theorem dX0_inAll_12 : decode cX0_inAll 12 = .ok (.aload_n 0, 1) := dk_42 (dk_at dksX0_inAll_0 12 rfl rfl)
theorem dX0_inAll_13 : decode cX0_inAll 13 = .ok (.aload_n 1, 1) := dk_43 (dk_at dksX0_inAll_0 13 rfl rfl)
theorem dX0_inAll_14 : decode cX0_inAll 14 = .ok (.iload_n 3, 1) := dk_29 (dk_at dksX0_inAll_0 14 rfl rfl)
theorem dX0_inAll_15 : decode cX0_inAll 15 = .ok (.invokevirtual 299, 3) := dk_182 1 43 (dk_at dksX0_inAll_0 15 rfl rfl)
theorem dX0_inAll_18 : decode cX0_inAll 18 = .ok (.iadd, 1) := dk_96 (dk_at dksX0_inAll_0 18 rfl rfl)
theorem dX0_inAll_19 : decode cX0_inAll 19 = .ok (.istore_n 2, 1) := dk_61 (dk_at dksX0_inAll_0 19 rfl rfl)
theorem dX0_inAll_20 : decode cX0_inAll 20 = .ok (.iinc 3 1, 3) := dk_132 3 1 (dk_at dksX0_inAll_0 20 rfl rfl)
theorem dX0_inAll_23 : decode cX0_inAll 23 = .ok (.goto (-19), 3) := dk_167 255 237 (dk_at dksX0_inAll_1 0 rfl rfl)
theorem dX0_inAll_26 : decode cX0_inAll 26 = .ok (.iload_n 2, 1) := dk_28 (dk_at dksX0_inAll_1 3 rfl rfl)
theorem dX0_inAll_27 : decode cX0_inAll 27 = .ok (.ireturn, 1) := dk_172 (dk_at dksX0_inAll_1 4 rfl rfl)
abbrev cX0_as : ByteArray := prog_1_method_43_code
def yX0_as : MethodName := ⟨RX0, "as", "(II)I"⟩
def dkwX0_as_1 : List UInt8 := [180, 1, 11, 27, 50, 78, 45, 28, 184, 1, 65, 180, 1, 8, 172, 58, 4, 19, 1, 71, 172]
abbrev dktX0_as_1 : List UInt8 := dkwX0_as_1 ++ []
def dkwX0_as_0 : List UInt8 := [42, 27, 182, 1, 49, 153, 0, 12, 28, 3, 8, 184, 0, 108, 154, 0, 6, 18, 133, 172, 42, 180, 0, 46]
abbrev dktX0_as_0 : List UInt8 := dkwX0_as_0 ++ dktX0_as_1
theorem dksX0_as_0 : cX0_as.data.toList.drop 0 = dktX0_as_0 := by decide +kernel
theorem dksX0_as_1 : cX0_as.data.toList.drop 24 = dktX0_as_1 := dk_seg dksX0_as_0 24 rfl rfl
theorem dX0_as_0 : decode cX0_as 0 = .ok (.aload_n 0, 1) := dk_42 (dk_at dksX0_as_0 0 rfl rfl)
theorem dX0_as_1 : decode cX0_as 1 = .ok (.iload_n 1, 1) := dk_27 (dk_at dksX0_as_0 1 rfl rfl)
theorem dX0_as_2 : decode cX0_as 2 = .ok (.invokevirtual 305, 3) := dk_182 1 49 (dk_at dksX0_as_0 2 rfl rfl)
theorem dX0_as_5 : decode cX0_as 5 = .ok (.ifCond .eq 12, 3) := dk_153 0 12 (dk_at dksX0_as_0 5 rfl rfl)
theorem dX0_as_8 : decode cX0_as 8 = .ok (.iload_n 2, 1) := dk_28 (dk_at dksX0_as_0 8 rfl rfl)
theorem dX0_as_9 : decode cX0_as 9 = .ok (.iconst 0, 1) := dk_3 (dk_at dksX0_as_0 9 rfl rfl)
theorem dX0_as_10 : decode cX0_as 10 = .ok (.iconst 5, 1) := dk_8 (dk_at dksX0_as_0 10 rfl rfl)
theorem dX0_as_11 : decode cX0_as 11 = .ok (.invokestatic 108, 3) := dk_184 0 108 (dk_at dksX0_as_0 11 rfl rfl)
theorem dX0_as_14 : decode cX0_as 14 = .ok (.ifCond .ne 6, 3) := dk_154 0 6 (dk_at dksX0_as_0 14 rfl rfl)
theorem dX0_as_17 : decode cX0_as 17 = .ok (.ldc 133, 2) := dk_18 133 (dk_at dksX0_as_0 17 rfl rfl)
theorem dX0_as_19 : decode cX0_as 19 = .ok (.ireturn, 1) := dk_172 (dk_at dksX0_as_0 19 rfl rfl)
theorem dX0_as_20 : decode cX0_as 20 = .ok (.aload_n 0, 1) := dk_42 (dk_at dksX0_as_0 20 rfl rfl)
theorem dX0_as_21 : decode cX0_as 21 = .ok (.getfield 46, 3) := dk_180 0 46 (dk_at dksX0_as_0 21 rfl rfl)
theorem dX0_as_24 : decode cX0_as 24 = .ok (.getfield 267, 3) := dk_180 1 11 (dk_at dksX0_as_1 0 rfl rfl)
theorem dX0_as_27 : decode cX0_as 27 = .ok (.iload_n 1, 1) := dk_27 (dk_at dksX0_as_1 3 rfl rfl)
theorem dX0_as_28 : decode cX0_as 28 = .ok (.aaload, 1) := dk_50 (dk_at dksX0_as_1 4 rfl rfl)
theorem dX0_as_29 : decode cX0_as 29 = .ok (.astore_n 3, 1) := dk_78 (dk_at dksX0_as_1 5 rfl rfl)
theorem dX0_as_30 : decode cX0_as 30 = .ok (.aload_n 3, 1) := dk_45 (dk_at dksX0_as_1 6 rfl rfl)
theorem dX0_as_31 : decode cX0_as 31 = .ok (.iload_n 2, 1) := dk_28 (dk_at dksX0_as_1 7 rfl rfl)
theorem dX0_as_32 : decode cX0_as 32 = .ok (.invokestatic 321, 3) := dk_184 1 65 (dk_at dksX0_as_1 8 rfl rfl)
theorem dX0_as_35 : decode cX0_as 35 = .ok (.getfield 264, 3) := dk_180 1 8 (dk_at dksX0_as_1 11 rfl rfl)
theorem dX0_as_38 : decode cX0_as 38 = .ok (.ireturn, 1) := dk_172 (dk_at dksX0_as_1 14 rfl rfl)
theorem dX0_as_39 : decode cX0_as 39 = .ok (.astore 4, 2) := dk_58 4 (dk_at dksX0_as_1 15 rfl rfl)
theorem dX0_as_41 : decode cX0_as 41 = .ok (.ldc_w 327, 3) := dk_19 1 71 (dk_at dksX0_as_1 17 rfl rfl)
theorem dX0_as_44 : decode cX0_as 44 = .ok (.ireturn, 1) := dk_172 (dk_at dksX0_as_1 20 rfl rfl)
abbrev cX0_takenFor : ByteArray := prog_1_method_42_code
def yX0_takenFor : MethodName := ⟨RX0, "takenFor", "(Ljava/lang/Object;I)LStrokesHeard$Ringer;"⟩
def dkwX0_takenFor_3 : List UInt8 := [176, 42, 192, 0, 31, 176]
abbrev dktX0_takenFor_3 : List UInt8 := dkwX0_takenFor_3 ++ []
def dkwX0_takenFor_2 : List UInt8 := [42, 192, 0, 13, 176, 42, 192, 0, 19, 176, 42, 192, 0, 22, 176, 42, 192, 0, 25, 176, 42, 192, 0, 28]
abbrev dktX0_takenFor_2 : List UInt8 := dkwX0_takenFor_2 ++ dktX0_takenFor_3
def dkwX0_takenFor_1 : List UInt8 := [170, 0, 0, 0, 0, 0, 60, 0, 0, 0, 1, 0, 0, 0, 5, 0, 0, 0, 35, 0, 0, 0, 40, 0, 0, 0, 45, 0, 0, 0, 50, 0, 0, 0, 55]
abbrev dktX0_takenFor_1 : List UInt8 := dkwX0_takenFor_1 ++ dktX0_takenFor_2
def dkwX0_takenFor_0 : List UInt8 := [27]
abbrev dktX0_takenFor_0 : List UInt8 := dkwX0_takenFor_0 ++ dktX0_takenFor_1
theorem dksX0_takenFor_0 : cX0_takenFor.data.toList.drop 0 = dktX0_takenFor_0 := by decide +kernel
theorem dksX0_takenFor_1 : cX0_takenFor.data.toList.drop 1 = dktX0_takenFor_1 := dk_seg dksX0_takenFor_0 1 rfl rfl
theorem dksX0_takenFor_2 : cX0_takenFor.data.toList.drop 36 = dktX0_takenFor_2 := dk_seg dksX0_takenFor_1 35 rfl rfl
theorem dksX0_takenFor_3 : cX0_takenFor.data.toList.drop 60 = dktX0_takenFor_3 := dk_seg dksX0_takenFor_2 24 rfl rfl
theorem dX0_takenFor_0 : decode cX0_takenFor 0 = .ok (.iload_n 1, 1) := dk_27 (dk_at dksX0_takenFor_0 0 rfl rfl)
theorem dX0_takenFor_1 : decode cX0_takenFor 1 = .ok (.tableswitch 60 1 5 #[35, 40, 45, 50, 55], 35) := by decide +kernel
theorem dX0_takenFor_36 : decode cX0_takenFor 36 = .ok (.aload_n 0, 1) := dk_42 (dk_at dksX0_takenFor_2 0 rfl rfl)
theorem dX0_takenFor_37 : decode cX0_takenFor 37 = .ok (.checkcast 13, 3) := dk_192 0 13 (dk_at dksX0_takenFor_2 1 rfl rfl)
theorem dX0_takenFor_40 : decode cX0_takenFor 40 = .ok (.areturn, 1) := dk_176 (dk_at dksX0_takenFor_2 4 rfl rfl)
theorem dX0_takenFor_41 : decode cX0_takenFor 41 = .ok (.aload_n 0, 1) := dk_42 (dk_at dksX0_takenFor_2 5 rfl rfl)
theorem dX0_takenFor_42 : decode cX0_takenFor 42 = .ok (.checkcast 19, 3) := dk_192 0 19 (dk_at dksX0_takenFor_2 6 rfl rfl)
theorem dX0_takenFor_45 : decode cX0_takenFor 45 = .ok (.areturn, 1) := dk_176 (dk_at dksX0_takenFor_2 9 rfl rfl)
theorem dX0_takenFor_46 : decode cX0_takenFor 46 = .ok (.aload_n 0, 1) := dk_42 (dk_at dksX0_takenFor_2 10 rfl rfl)
theorem dX0_takenFor_47 : decode cX0_takenFor 47 = .ok (.checkcast 22, 3) := dk_192 0 22 (dk_at dksX0_takenFor_2 11 rfl rfl)
theorem dX0_takenFor_50 : decode cX0_takenFor 50 = .ok (.areturn, 1) := dk_176 (dk_at dksX0_takenFor_2 14 rfl rfl)
theorem dX0_takenFor_51 : decode cX0_takenFor 51 = .ok (.aload_n 0, 1) := dk_42 (dk_at dksX0_takenFor_2 15 rfl rfl)
theorem dX0_takenFor_52 : decode cX0_takenFor 52 = .ok (.checkcast 25, 3) := dk_192 0 25 (dk_at dksX0_takenFor_2 16 rfl rfl)
theorem dX0_takenFor_55 : decode cX0_takenFor 55 = .ok (.areturn, 1) := dk_176 (dk_at dksX0_takenFor_2 19 rfl rfl)
theorem dX0_takenFor_56 : decode cX0_takenFor 56 = .ok (.aload_n 0, 1) := dk_42 (dk_at dksX0_takenFor_2 20 rfl rfl)
theorem dX0_takenFor_57 : decode cX0_takenFor 57 = .ok (.checkcast 28, 3) := dk_192 0 28 (dk_at dksX0_takenFor_2 21 rfl rfl)
theorem dX0_takenFor_60 : decode cX0_takenFor 60 = .ok (.areturn, 1) := dk_176 (dk_at dksX0_takenFor_3 0 rfl rfl)
theorem dX0_takenFor_61 : decode cX0_takenFor 61 = .ok (.aload_n 0, 1) := dk_42 (dk_at dksX0_takenFor_3 1 rfl rfl)
theorem dX0_takenFor_62 : decode cX0_takenFor 62 = .ok (.checkcast 31, 3) := dk_192 0 31 (dk_at dksX0_takenFor_3 2 rfl rfl)
theorem dX0_takenFor_65 : decode cX0_takenFor 65 = .ok (.areturn, 1) := dk_176 (dk_at dksX0_takenFor_3 5 rfl rfl)
abbrev cX0_turns : ByteArray := prog_1_method_44_code
def yX0_turns : MethodName := ⟨RX0, "turns", "(II)I"⟩
def dkwX0_turns_2 : List UInt8 := [180, 1, 11, 27, 50, 45, 182, 1, 72, 45, 182, 1, 52, 172]
abbrev dktX0_turns_2 : List UInt8 := dkwX0_turns_2 ++ []
def dkwX0_turns_1 : List UInt8 := [180, 1, 11, 27, 50, 78, 42, 180, 0, 46, 180, 1, 11, 27, 28, 184, 1, 1, 83, 42, 180, 0, 46]
abbrev dktX0_turns_1 : List UInt8 := dkwX0_turns_1 ++ dktX0_turns_2
def dkwX0_turns_0 : List UInt8 := [42, 27, 182, 1, 49, 153, 0, 12, 28, 3, 8, 184, 0, 108, 154, 0, 6, 18, 133, 172, 42, 180, 0, 46]
abbrev dktX0_turns_0 : List UInt8 := dkwX0_turns_0 ++ dktX0_turns_1
theorem dksX0_turns_0 : cX0_turns.data.toList.drop 0 = dktX0_turns_0 := by decide +kernel
theorem dksX0_turns_1 : cX0_turns.data.toList.drop 24 = dktX0_turns_1 := dk_seg dksX0_turns_0 24 rfl rfl
theorem dksX0_turns_2 : cX0_turns.data.toList.drop 47 = dktX0_turns_2 := dk_seg dksX0_turns_1 23 rfl rfl
theorem dX0_turns_0 : decode cX0_turns 0 = .ok (.aload_n 0, 1) := dk_42 (dk_at dksX0_turns_0 0 rfl rfl)
theorem dX0_turns_1 : decode cX0_turns 1 = .ok (.iload_n 1, 1) := dk_27 (dk_at dksX0_turns_0 1 rfl rfl)
theorem dX0_turns_2 : decode cX0_turns 2 = .ok (.invokevirtual 305, 3) := dk_182 1 49 (dk_at dksX0_turns_0 2 rfl rfl)
theorem dX0_turns_5 : decode cX0_turns 5 = .ok (.ifCond .eq 12, 3) := dk_153 0 12 (dk_at dksX0_turns_0 5 rfl rfl)
theorem dX0_turns_8 : decode cX0_turns 8 = .ok (.iload_n 2, 1) := dk_28 (dk_at dksX0_turns_0 8 rfl rfl)
theorem dX0_turns_9 : decode cX0_turns 9 = .ok (.iconst 0, 1) := dk_3 (dk_at dksX0_turns_0 9 rfl rfl)
theorem dX0_turns_10 : decode cX0_turns 10 = .ok (.iconst 5, 1) := dk_8 (dk_at dksX0_turns_0 10 rfl rfl)
theorem dX0_turns_11 : decode cX0_turns 11 = .ok (.invokestatic 108, 3) := dk_184 0 108 (dk_at dksX0_turns_0 11 rfl rfl)
theorem dX0_turns_14 : decode cX0_turns 14 = .ok (.ifCond .ne 6, 3) := dk_154 0 6 (dk_at dksX0_turns_0 14 rfl rfl)
theorem dX0_turns_17 : decode cX0_turns 17 = .ok (.ldc 133, 2) := dk_18 133 (dk_at dksX0_turns_0 17 rfl rfl)
theorem dX0_turns_19 : decode cX0_turns 19 = .ok (.ireturn, 1) := dk_172 (dk_at dksX0_turns_0 19 rfl rfl)
theorem dX0_turns_20 : decode cX0_turns 20 = .ok (.aload_n 0, 1) := dk_42 (dk_at dksX0_turns_0 20 rfl rfl)
theorem dX0_turns_21 : decode cX0_turns 21 = .ok (.getfield 46, 3) := dk_180 0 46 (dk_at dksX0_turns_0 21 rfl rfl)
theorem dX0_turns_24 : decode cX0_turns 24 = .ok (.getfield 267, 3) := dk_180 1 11 (dk_at dksX0_turns_1 0 rfl rfl)
theorem dX0_turns_27 : decode cX0_turns 27 = .ok (.iload_n 1, 1) := dk_27 (dk_at dksX0_turns_1 3 rfl rfl)
theorem dX0_turns_28 : decode cX0_turns 28 = .ok (.aaload, 1) := dk_50 (dk_at dksX0_turns_1 4 rfl rfl)
theorem dX0_turns_29 : decode cX0_turns 29 = .ok (.astore_n 3, 1) := dk_78 (dk_at dksX0_turns_1 5 rfl rfl)
theorem dX0_turns_30 : decode cX0_turns 30 = .ok (.aload_n 0, 1) := dk_42 (dk_at dksX0_turns_1 6 rfl rfl)
theorem dX0_turns_31 : decode cX0_turns 31 = .ok (.getfield 46, 3) := dk_180 0 46 (dk_at dksX0_turns_1 7 rfl rfl)
theorem dX0_turns_34 : decode cX0_turns 34 = .ok (.getfield 267, 3) := dk_180 1 11 (dk_at dksX0_turns_1 10 rfl rfl)
theorem dX0_turns_37 : decode cX0_turns 37 = .ok (.iload_n 1, 1) := dk_27 (dk_at dksX0_turns_1 13 rfl rfl)
theorem dX0_turns_38 : decode cX0_turns 38 = .ok (.iload_n 2, 1) := dk_28 (dk_at dksX0_turns_1 14 rfl rfl)
theorem dX0_turns_39 : decode cX0_turns 39 = .ok (.invokestatic 257, 3) := dk_184 1 1 (dk_at dksX0_turns_1 15 rfl rfl)
theorem dX0_turns_42 : decode cX0_turns 42 = .ok (.aastore, 1) := dk_83 (dk_at dksX0_turns_1 18 rfl rfl)
theorem dX0_turns_43 : decode cX0_turns 43 = .ok (.aload_n 0, 1) := dk_42 (dk_at dksX0_turns_1 19 rfl rfl)
theorem dX0_turns_44 : decode cX0_turns 44 = .ok (.getfield 46, 3) := dk_180 0 46 (dk_at dksX0_turns_1 20 rfl rfl)
theorem dX0_turns_47 : decode cX0_turns 47 = .ok (.getfield 267, 3) := dk_180 1 11 (dk_at dksX0_turns_2 0 rfl rfl)
theorem dX0_turns_50 : decode cX0_turns 50 = .ok (.iload_n 1, 1) := dk_27 (dk_at dksX0_turns_2 3 rfl rfl)
theorem dX0_turns_51 : decode cX0_turns 51 = .ok (.aaload, 1) := dk_50 (dk_at dksX0_turns_2 4 rfl rfl)
theorem dX0_turns_52 : decode cX0_turns 52 = .ok (.aload_n 3, 1) := dk_45 (dk_at dksX0_turns_2 5 rfl rfl)
theorem dX0_turns_53 : decode cX0_turns 53 = .ok (.invokevirtual 328, 3) := dk_182 1 72 (dk_at dksX0_turns_2 6 rfl rfl)
theorem dX0_turns_56 : decode cX0_turns 56 = .ok (.aload_n 3, 1) := dk_45 (dk_at dksX0_turns_2 9 rfl rfl)
theorem dX0_turns_57 : decode cX0_turns 57 = .ok (.invokevirtual 308, 3) := dk_182 1 52 (dk_at dksX0_turns_2 10 rfl rfl)
theorem dX0_turns_60 : decode cX0_turns 60 = .ok (.ireturn, 1) := dk_172 (dk_at dksX0_turns_2 13 rfl rfl)
abbrev cX0_set : ByteArray := prog_1_method_46_code
def yX0_set : MethodName := ⟨RX0, "set", "(III)I"⟩
def dkwX0_set_1 : List UInt8 := [153, 0, 20, 42, 180, 0, 46, 180, 1, 11, 27, 50, 28, 29, 184, 1, 76, 167, 0, 5, 18, 133, 172]
abbrev dktX0_set_1 : List UInt8 := dkwX0_set_1 ++ []
def dkwX0_set_0 : List UInt8 := [42, 27, 182, 1, 49, 153, 0, 37, 28, 4, 5, 184, 0, 108, 153, 0, 28, 28, 29, 184, 1, 15]
abbrev dktX0_set_0 : List UInt8 := dkwX0_set_0 ++ dktX0_set_1
theorem dksX0_set_0 : cX0_set.data.toList.drop 0 = dktX0_set_0 := by decide +kernel
theorem dksX0_set_1 : cX0_set.data.toList.drop 22 = dktX0_set_1 := dk_seg dksX0_set_0 22 rfl rfl
theorem dX0_set_0 : decode cX0_set 0 = .ok (.aload_n 0, 1) := dk_42 (dk_at dksX0_set_0 0 rfl rfl)
theorem dX0_set_1 : decode cX0_set 1 = .ok (.iload_n 1, 1) := dk_27 (dk_at dksX0_set_0 1 rfl rfl)
theorem dX0_set_2 : decode cX0_set 2 = .ok (.invokevirtual 305, 3) := dk_182 1 49 (dk_at dksX0_set_0 2 rfl rfl)
theorem dX0_set_5 : decode cX0_set 5 = .ok (.ifCond .eq 37, 3) := dk_153 0 37 (dk_at dksX0_set_0 5 rfl rfl)
theorem dX0_set_8 : decode cX0_set 8 = .ok (.iload_n 2, 1) := dk_28 (dk_at dksX0_set_0 8 rfl rfl)
theorem dX0_set_9 : decode cX0_set 9 = .ok (.iconst 1, 1) := dk_4 (dk_at dksX0_set_0 9 rfl rfl)
theorem dX0_set_10 : decode cX0_set 10 = .ok (.iconst 2, 1) := dk_5 (dk_at dksX0_set_0 10 rfl rfl)
theorem dX0_set_11 : decode cX0_set 11 = .ok (.invokestatic 108, 3) := dk_184 0 108 (dk_at dksX0_set_0 11 rfl rfl)
theorem dX0_set_14 : decode cX0_set 14 = .ok (.ifCond .eq 28, 3) := dk_153 0 28 (dk_at dksX0_set_0 14 rfl rfl)
theorem dX0_set_17 : decode cX0_set 17 = .ok (.iload_n 2, 1) := dk_28 (dk_at dksX0_set_0 17 rfl rfl)
theorem dX0_set_18 : decode cX0_set 18 = .ok (.iload_n 3, 1) := dk_29 (dk_at dksX0_set_0 18 rfl rfl)
theorem dX0_set_19 : decode cX0_set 19 = .ok (.invokestatic 271, 3) := dk_184 1 15 (dk_at dksX0_set_0 19 rfl rfl)
theorem dX0_set_22 : decode cX0_set 22 = .ok (.ifCond .eq 20, 3) := dk_153 0 20 (dk_at dksX0_set_1 0 rfl rfl)
theorem dX0_set_25 : decode cX0_set 25 = .ok (.aload_n 0, 1) := dk_42 (dk_at dksX0_set_1 3 rfl rfl)
theorem dX0_set_26 : decode cX0_set 26 = .ok (.getfield 46, 3) := dk_180 0 46 (dk_at dksX0_set_1 4 rfl rfl)
theorem dX0_set_29 : decode cX0_set 29 = .ok (.getfield 267, 3) := dk_180 1 11 (dk_at dksX0_set_1 7 rfl rfl)
theorem dX0_set_32 : decode cX0_set 32 = .ok (.iload_n 1, 1) := dk_27 (dk_at dksX0_set_1 10 rfl rfl)
theorem dX0_set_33 : decode cX0_set 33 = .ok (.aaload, 1) := dk_50 (dk_at dksX0_set_1 11 rfl rfl)
theorem dX0_set_34 : decode cX0_set 34 = .ok (.iload_n 2, 1) := dk_28 (dk_at dksX0_set_1 12 rfl rfl)
theorem dX0_set_35 : decode cX0_set 35 = .ok (.iload_n 3, 1) := dk_29 (dk_at dksX0_set_1 13 rfl rfl)
theorem dX0_set_36 : decode cX0_set 36 = .ok (.invokestatic 332, 3) := dk_184 1 76 (dk_at dksX0_set_1 14 rfl rfl)
theorem dX0_set_39 : decode cX0_set 39 = .ok (.goto 5, 3) := dk_167 0 5 (dk_at dksX0_set_1 17 rfl rfl)
theorem dX0_set_42 : decode cX0_set 42 = .ok (.ldc 133, 2) := dk_18 133 (dk_at dksX0_set_1 20 rfl rfl)
theorem dX0_set_44 : decode cX0_set 44 = .ok (.ireturn, 1) := dk_172 (dk_at dksX0_set_1 22 rfl rfl)
abbrev cX0_becomes : ByteArray := prog_1_method_45_code
def yX0_becomes : MethodName := ⟨RX0, "becomes", "(LStrokesHeard$Ringer;II)I"⟩
def dkwX0_becomes_1 : List UInt8 := [181, 1, 5, 167, 0, 8, 42, 28, 181, 1, 8, 29, 172]
abbrev dktX0_becomes_1 : List UInt8 := dkwX0_becomes_1 ++ []
def dkwX0_becomes_0 : List UInt8 := [27, 4, 160, 0, 10, 42, 180, 1, 5, 167, 0, 7, 42, 180, 1, 8, 62, 27, 4, 160, 0, 11, 42, 28]
abbrev dktX0_becomes_0 : List UInt8 := dkwX0_becomes_0 ++ dktX0_becomes_1
theorem dksX0_becomes_0 : cX0_becomes.data.toList.drop 0 = dktX0_becomes_0 := by decide +kernel
theorem dksX0_becomes_1 : cX0_becomes.data.toList.drop 24 = dktX0_becomes_1 := dk_seg dksX0_becomes_0 24 rfl rfl
theorem dX0_becomes_0 : decode cX0_becomes 0 = .ok (.iload_n 1, 1) := dk_27 (dk_at dksX0_becomes_0 0 rfl rfl)
theorem dX0_becomes_1 : decode cX0_becomes 1 = .ok (.iconst 1, 1) := dk_4 (dk_at dksX0_becomes_0 1 rfl rfl)
theorem dX0_becomes_2 : decode cX0_becomes 2 = .ok (.if_icmp .ne 10, 3) := dk_160 0 10 (dk_at dksX0_becomes_0 2 rfl rfl)
theorem dX0_becomes_5 : decode cX0_becomes 5 = .ok (.aload_n 0, 1) := dk_42 (dk_at dksX0_becomes_0 5 rfl rfl)
theorem dX0_becomes_6 : decode cX0_becomes 6 = .ok (.getfield 261, 3) := dk_180 1 5 (dk_at dksX0_becomes_0 6 rfl rfl)
theorem dX0_becomes_9 : decode cX0_becomes 9 = .ok (.goto 7, 3) := dk_167 0 7 (dk_at dksX0_becomes_0 9 rfl rfl)
theorem dX0_becomes_12 : decode cX0_becomes 12 = .ok (.aload_n 0, 1) := dk_42 (dk_at dksX0_becomes_0 12 rfl rfl)
theorem dX0_becomes_13 : decode cX0_becomes 13 = .ok (.getfield 264, 3) := dk_180 1 8 (dk_at dksX0_becomes_0 13 rfl rfl)
theorem dX0_becomes_16 : decode cX0_becomes 16 = .ok (.istore_n 3, 1) := dk_62 (dk_at dksX0_becomes_0 16 rfl rfl)
theorem dX0_becomes_17 : decode cX0_becomes 17 = .ok (.iload_n 1, 1) := dk_27 (dk_at dksX0_becomes_0 17 rfl rfl)
theorem dX0_becomes_18 : decode cX0_becomes 18 = .ok (.iconst 1, 1) := dk_4 (dk_at dksX0_becomes_0 18 rfl rfl)
theorem dX0_becomes_19 : decode cX0_becomes 19 = .ok (.if_icmp .ne 11, 3) := dk_160 0 11 (dk_at dksX0_becomes_0 19 rfl rfl)
theorem dX0_becomes_22 : decode cX0_becomes 22 = .ok (.aload_n 0, 1) := dk_42 (dk_at dksX0_becomes_0 22 rfl rfl)
theorem dX0_becomes_23 : decode cX0_becomes 23 = .ok (.iload_n 2, 1) := dk_28 (dk_at dksX0_becomes_0 23 rfl rfl)
theorem dX0_becomes_24 : decode cX0_becomes 24 = .ok (.putfield 261, 3) := dk_181 1 5 (dk_at dksX0_becomes_1 0 rfl rfl)
theorem dX0_becomes_27 : decode cX0_becomes 27 = .ok (.goto 8, 3) := dk_167 0 8 (dk_at dksX0_becomes_1 3 rfl rfl)
theorem dX0_becomes_30 : decode cX0_becomes 30 = .ok (.aload_n 0, 1) := dk_42 (dk_at dksX0_becomes_1 6 rfl rfl)
theorem dX0_becomes_31 : decode cX0_becomes 31 = .ok (.iload_n 2, 1) := dk_28 (dk_at dksX0_becomes_1 7 rfl rfl)
theorem dX0_becomes_32 : decode cX0_becomes 32 = .ok (.putfield 264, 3) := dk_181 1 8 (dk_at dksX0_becomes_1 8 rfl rfl)
theorem dX0_becomes_35 : decode cX0_becomes 35 = .ok (.iload_n 3, 1) := dk_29 (dk_at dksX0_becomes_1 11 rfl rfl)
theorem dX0_becomes_36 : decode cX0_becomes 36 = .ok (.ireturn, 1) := dk_172 (dk_at dksX0_becomes_1 12 rfl rfl)
abbrev cX0_strokes : ByteArray := prog_1_method_47_code
def yX0_strokes : MethodName := ⟨RX0, "strokes", "(II)I"⟩
def dkwX0_strokes_1 : List UInt8 := [180, 1, 11, 27, 50, 28, 182, 1, 43, 167, 0, 5, 18, 133, 172]
abbrev dktX0_strokes_1 : List UInt8 := dkwX0_strokes_1 ++ []
def dkwX0_strokes_0 : List UInt8 := [42, 27, 182, 1, 49, 153, 0, 31, 28, 3, 17, 2, 207, 184, 0, 108, 153, 0, 20, 42, 42, 180, 0, 46]
abbrev dktX0_strokes_0 : List UInt8 := dkwX0_strokes_0 ++ dktX0_strokes_1
theorem dksX0_strokes_0 : cX0_strokes.data.toList.drop 0 = dktX0_strokes_0 := by decide +kernel
theorem dksX0_strokes_1 : cX0_strokes.data.toList.drop 24 = dktX0_strokes_1 := dk_seg dksX0_strokes_0 24 rfl rfl
theorem dX0_strokes_0 : decode cX0_strokes 0 = .ok (.aload_n 0, 1) := dk_42 (dk_at dksX0_strokes_0 0 rfl rfl)
theorem dX0_strokes_1 : decode cX0_strokes 1 = .ok (.iload_n 1, 1) := dk_27 (dk_at dksX0_strokes_0 1 rfl rfl)
theorem dX0_strokes_2 : decode cX0_strokes 2 = .ok (.invokevirtual 305, 3) := dk_182 1 49 (dk_at dksX0_strokes_0 2 rfl rfl)
theorem dX0_strokes_5 : decode cX0_strokes 5 = .ok (.ifCond .eq 31, 3) := dk_153 0 31 (dk_at dksX0_strokes_0 5 rfl rfl)
theorem dX0_strokes_8 : decode cX0_strokes 8 = .ok (.iload_n 2, 1) := dk_28 (dk_at dksX0_strokes_0 8 rfl rfl)
theorem dX0_strokes_9 : decode cX0_strokes 9 = .ok (.iconst 0, 1) := dk_3 (dk_at dksX0_strokes_0 9 rfl rfl)
theorem dX0_strokes_10 : decode cX0_strokes 10 = .ok (.sipush 719, 3) := dk_17 2 207 (dk_at dksX0_strokes_0 10 rfl rfl)
theorem dX0_strokes_13 : decode cX0_strokes 13 = .ok (.invokestatic 108, 3) := dk_184 0 108 (dk_at dksX0_strokes_0 13 rfl rfl)
theorem dX0_strokes_16 : decode cX0_strokes 16 = .ok (.ifCond .eq 20, 3) := dk_153 0 20 (dk_at dksX0_strokes_0 16 rfl rfl)
theorem dX0_strokes_19 : decode cX0_strokes 19 = .ok (.aload_n 0, 1) := dk_42 (dk_at dksX0_strokes_0 19 rfl rfl)
theorem dX0_strokes_20 : decode cX0_strokes 20 = .ok (.aload_n 0, 1) := dk_42 (dk_at dksX0_strokes_0 20 rfl rfl)
theorem dX0_strokes_21 : decode cX0_strokes 21 = .ok (.getfield 46, 3) := dk_180 0 46 (dk_at dksX0_strokes_0 21 rfl rfl)
theorem dX0_strokes_24 : decode cX0_strokes 24 = .ok (.getfield 267, 3) := dk_180 1 11 (dk_at dksX0_strokes_1 0 rfl rfl)
theorem dX0_strokes_27 : decode cX0_strokes 27 = .ok (.iload_n 1, 1) := dk_27 (dk_at dksX0_strokes_1 3 rfl rfl)
theorem dX0_strokes_28 : decode cX0_strokes 28 = .ok (.aaload, 1) := dk_50 (dk_at dksX0_strokes_1 4 rfl rfl)
theorem dX0_strokes_29 : decode cX0_strokes 29 = .ok (.iload_n 2, 1) := dk_28 (dk_at dksX0_strokes_1 5 rfl rfl)
theorem dX0_strokes_30 : decode cX0_strokes 30 = .ok (.invokevirtual 299, 3) := dk_182 1 43 (dk_at dksX0_strokes_1 6 rfl rfl)
theorem dX0_strokes_33 : decode cX0_strokes 33 = .ok (.goto 5, 3) := dk_167 0 5 (dk_at dksX0_strokes_1 9 rfl rfl)
theorem dX0_strokes_36 : decode cX0_strokes 36 = .ok (.ldc 133, 2) := dk_18 133 (dk_at dksX0_strokes_1 12 rfl rfl)
theorem dX0_strokes_38 : decode cX0_strokes 38 = .ok (.ireturn, 1) := dk_172 (dk_at dksX0_strokes_1 14 rfl rfl)
abbrev cX0_total : ByteArray := prog_1_method_49_code
def yX0_total : MethodName := ⟨RX0, "total", "(I)I"⟩
def dkwX0_total_0 : List UInt8 := [27, 3, 17, 2, 207, 184, 0, 108, 153, 0, 11, 42, 27, 182, 1, 80, 167, 0, 5, 18, 133, 172]
abbrev dktX0_total_0 : List UInt8 := dkwX0_total_0 ++ []
theorem dksX0_total_0 : cX0_total.data.toList.drop 0 = dktX0_total_0 := by decide +kernel
theorem dX0_total_0 : decode cX0_total 0 = .ok (.iload_n 1, 1) := dk_27 (dk_at dksX0_total_0 0 rfl rfl)
theorem dX0_total_1 : decode cX0_total 1 = .ok (.iconst 0, 1) := dk_3 (dk_at dksX0_total_0 1 rfl rfl)
theorem dX0_total_2 : decode cX0_total 2 = .ok (.sipush 719, 3) := dk_17 2 207 (dk_at dksX0_total_0 2 rfl rfl)
theorem dX0_total_5 : decode cX0_total 5 = .ok (.invokestatic 108, 3) := dk_184 0 108 (dk_at dksX0_total_0 5 rfl rfl)
theorem dX0_total_8 : decode cX0_total 8 = .ok (.ifCond .eq 11, 3) := dk_153 0 11 (dk_at dksX0_total_0 8 rfl rfl)
theorem dX0_total_11 : decode cX0_total 11 = .ok (.aload_n 0, 1) := dk_42 (dk_at dksX0_total_0 11 rfl rfl)
theorem dX0_total_12 : decode cX0_total 12 = .ok (.iload_n 1, 1) := dk_27 (dk_at dksX0_total_0 12 rfl rfl)
theorem dX0_total_13 : decode cX0_total 13 = .ok (.invokevirtual 336, 3) := dk_182 1 80 (dk_at dksX0_total_0 13 rfl rfl)
theorem dX0_total_16 : decode cX0_total 16 = .ok (.goto 5, 3) := dk_167 0 5 (dk_at dksX0_total_0 16 rfl rfl)
theorem dX0_total_19 : decode cX0_total 19 = .ok (.ldc 133, 2) := dk_18 133 (dk_at dksX0_total_0 19 rfl rfl)
theorem dX0_total_21 : decode cX0_total 21 = .ok (.ireturn, 1) := dk_172 (dk_at dksX0_total_0 21 rfl rfl)
abbrev cX0_totalAt : ByteArray := prog_1_method_48_code
def yX0_totalAt : MethodName := ⟨RX0, "totalAt", "(I)I"⟩
def dkwX0_totalAt_1 : List UInt8 := [29, 50, 27, 182, 1, 43, 96, 61, 132, 3, 1, 167, 255, 225, 28, 172]
abbrev dktX0_totalAt_1 : List UInt8 := dkwX0_totalAt_1 ++ []
def dkwX0_totalAt_0 : List UInt8 := [3, 61, 3, 62, 29, 42, 180, 0, 46, 180, 0, 104, 162, 0, 26, 28, 42, 42, 180, 0, 46, 180, 1, 11]
abbrev dktX0_totalAt_0 : List UInt8 := dkwX0_totalAt_0 ++ dktX0_totalAt_1
theorem dksX0_totalAt_0 : cX0_totalAt.data.toList.drop 0 = dktX0_totalAt_0 := by decide +kernel
theorem dksX0_totalAt_1 : cX0_totalAt.data.toList.drop 24 = dktX0_totalAt_1 := dk_seg dksX0_totalAt_0 24 rfl rfl
theorem dX0_totalAt_0 : decode cX0_totalAt 0 = .ok (.iconst 0, 1) := dk_3 (dk_at dksX0_totalAt_0 0 rfl rfl)
theorem dX0_totalAt_1 : decode cX0_totalAt 1 = .ok (.istore_n 2, 1) := dk_61 (dk_at dksX0_totalAt_0 1 rfl rfl)
theorem dX0_totalAt_2 : decode cX0_totalAt 2 = .ok (.iconst 0, 1) := dk_3 (dk_at dksX0_totalAt_0 2 rfl rfl)
theorem dX0_totalAt_3 : decode cX0_totalAt 3 = .ok (.istore_n 3, 1) := dk_62 (dk_at dksX0_totalAt_0 3 rfl rfl)
theorem dX0_totalAt_4 : decode cX0_totalAt 4 = .ok (.iload_n 3, 1) := dk_29 (dk_at dksX0_totalAt_0 4 rfl rfl)
theorem dX0_totalAt_5 : decode cX0_totalAt 5 = .ok (.aload_n 0, 1) := dk_42 (dk_at dksX0_totalAt_0 5 rfl rfl)
theorem dX0_totalAt_6 : decode cX0_totalAt 6 = .ok (.getfield 46, 3) := dk_180 0 46 (dk_at dksX0_totalAt_0 6 rfl rfl)
theorem dX0_totalAt_9 : decode cX0_totalAt 9 = .ok (.getfield 104, 3) := dk_180 0 104 (dk_at dksX0_totalAt_0 9 rfl rfl)
theorem dX0_totalAt_12 : decode cX0_totalAt 12 = .ok (.if_icmp .ge 26, 3) := dk_162 0 26 (dk_at dksX0_totalAt_0 12 rfl rfl)
theorem dX0_totalAt_15 : decode cX0_totalAt 15 = .ok (.iload_n 2, 1) := dk_28 (dk_at dksX0_totalAt_0 15 rfl rfl)
theorem dX0_totalAt_16 : decode cX0_totalAt 16 = .ok (.aload_n 0, 1) := dk_42 (dk_at dksX0_totalAt_0 16 rfl rfl)
theorem dX0_totalAt_17 : decode cX0_totalAt 17 = .ok (.aload_n 0, 1) := dk_42 (dk_at dksX0_totalAt_0 17 rfl rfl)
theorem dX0_totalAt_18 : decode cX0_totalAt 18 = .ok (.getfield 46, 3) := dk_180 0 46 (dk_at dksX0_totalAt_0 18 rfl rfl)
theorem dX0_totalAt_21 : decode cX0_totalAt 21 = .ok (.getfield 267, 3) := dk_180 1 11 (dk_at dksX0_totalAt_0 21 rfl rfl)
theorem dX0_totalAt_24 : decode cX0_totalAt 24 = .ok (.iload_n 3, 1) := dk_29 (dk_at dksX0_totalAt_1 0 rfl rfl)
theorem dX0_totalAt_25 : decode cX0_totalAt 25 = .ok (.aaload, 1) := dk_50 (dk_at dksX0_totalAt_1 1 rfl rfl)
theorem dX0_totalAt_26 : decode cX0_totalAt 26 = .ok (.iload_n 1, 1) := dk_27 (dk_at dksX0_totalAt_1 2 rfl rfl)
theorem dX0_totalAt_27 : decode cX0_totalAt 27 = .ok (.invokevirtual 299, 3) := dk_182 1 43 (dk_at dksX0_totalAt_1 3 rfl rfl)
theorem dX0_totalAt_30 : decode cX0_totalAt 30 = .ok (.iadd, 1) := dk_96 (dk_at dksX0_totalAt_1 6 rfl rfl)
theorem dX0_totalAt_31 : decode cX0_totalAt 31 = .ok (.istore_n 2, 1) := dk_61 (dk_at dksX0_totalAt_1 7 rfl rfl)
theorem dX0_totalAt_32 : decode cX0_totalAt 32 = .ok (.iinc 3 1, 3) := dk_132 3 1 (dk_at dksX0_totalAt_1 8 rfl rfl)
theorem dX0_totalAt_35 : decode cX0_totalAt 35 = .ok (.goto (-31), 3) := dk_167 255 225 (dk_at dksX0_totalAt_1 11 rfl rfl)
theorem dX0_totalAt_38 : decode cX0_totalAt 38 = .ok (.iload_n 2, 1) := dk_28 (dk_at dksX0_totalAt_1 14 rfl rfl)
theorem dX0_totalAt_39 : decode cX0_totalAt 39 = .ok (.ireturn, 1) := dk_172 (dk_at dksX0_totalAt_1 15 rfl rfl)
abbrev cX0_ear : ByteArray := prog_1_method_50_code
def yX0_ear : MethodName := ⟨RX0, "ear", "(II)I"⟩
def dkwX0_ear_1 : List UInt8 := [180, 0, 46, 180, 1, 83, 27, 46, 62, 42, 180, 0, 46, 180, 1, 83, 27, 28, 79, 29, 172]
abbrev dktX0_ear_1 : List UInt8 := dkwX0_ear_1 ++ []
def dkwX0_ear_0 : List UInt8 := [27, 3, 4, 184, 0, 108, 153, 0, 13, 28, 3, 16, 100, 184, 0, 108, 154, 0, 6, 18, 133, 172, 42]
abbrev dktX0_ear_0 : List UInt8 := dkwX0_ear_0 ++ dktX0_ear_1
theorem dksX0_ear_0 : cX0_ear.data.toList.drop 0 = dktX0_ear_0 := by decide +kernel
theorem dksX0_ear_1 : cX0_ear.data.toList.drop 23 = dktX0_ear_1 := dk_seg dksX0_ear_0 23 rfl rfl
theorem dX0_ear_0 : decode cX0_ear 0 = .ok (.iload_n 1, 1) := dk_27 (dk_at dksX0_ear_0 0 rfl rfl)
theorem dX0_ear_1 : decode cX0_ear 1 = .ok (.iconst 0, 1) := dk_3 (dk_at dksX0_ear_0 1 rfl rfl)
theorem dX0_ear_2 : decode cX0_ear 2 = .ok (.iconst 1, 1) := dk_4 (dk_at dksX0_ear_0 2 rfl rfl)
theorem dX0_ear_3 : decode cX0_ear 3 = .ok (.invokestatic 108, 3) := dk_184 0 108 (dk_at dksX0_ear_0 3 rfl rfl)
theorem dX0_ear_6 : decode cX0_ear 6 = .ok (.ifCond .eq 13, 3) := dk_153 0 13 (dk_at dksX0_ear_0 6 rfl rfl)
theorem dX0_ear_9 : decode cX0_ear 9 = .ok (.iload_n 2, 1) := dk_28 (dk_at dksX0_ear_0 9 rfl rfl)
theorem dX0_ear_10 : decode cX0_ear 10 = .ok (.iconst 0, 1) := dk_3 (dk_at dksX0_ear_0 10 rfl rfl)
theorem dX0_ear_11 : decode cX0_ear 11 = .ok (.bipush 100, 2) := dk_16 100 (dk_at dksX0_ear_0 11 rfl rfl)
theorem dX0_ear_13 : decode cX0_ear 13 = .ok (.invokestatic 108, 3) := dk_184 0 108 (dk_at dksX0_ear_0 13 rfl rfl)
theorem dX0_ear_16 : decode cX0_ear 16 = .ok (.ifCond .ne 6, 3) := dk_154 0 6 (dk_at dksX0_ear_0 16 rfl rfl)
theorem dX0_ear_19 : decode cX0_ear 19 = .ok (.ldc 133, 2) := dk_18 133 (dk_at dksX0_ear_0 19 rfl rfl)
theorem dX0_ear_21 : decode cX0_ear 21 = .ok (.ireturn, 1) := dk_172 (dk_at dksX0_ear_0 21 rfl rfl)
theorem dX0_ear_22 : decode cX0_ear 22 = .ok (.aload_n 0, 1) := dk_42 (dk_at dksX0_ear_0 22 rfl rfl)
theorem dX0_ear_23 : decode cX0_ear 23 = .ok (.getfield 46, 3) := dk_180 0 46 (dk_at dksX0_ear_1 0 rfl rfl)
theorem dX0_ear_26 : decode cX0_ear 26 = .ok (.getfield 339, 3) := dk_180 1 83 (dk_at dksX0_ear_1 3 rfl rfl)
theorem dX0_ear_29 : decode cX0_ear 29 = .ok (.iload_n 1, 1) := dk_27 (dk_at dksX0_ear_1 6 rfl rfl)
theorem dX0_ear_30 : decode cX0_ear 30 = .ok (.iaload, 1) := dk_46 (dk_at dksX0_ear_1 7 rfl rfl)
theorem dX0_ear_31 : decode cX0_ear 31 = .ok (.istore_n 3, 1) := dk_62 (dk_at dksX0_ear_1 8 rfl rfl)
theorem dX0_ear_32 : decode cX0_ear 32 = .ok (.aload_n 0, 1) := dk_42 (dk_at dksX0_ear_1 9 rfl rfl)
theorem dX0_ear_33 : decode cX0_ear 33 = .ok (.getfield 46, 3) := dk_180 0 46 (dk_at dksX0_ear_1 10 rfl rfl)
theorem dX0_ear_36 : decode cX0_ear 36 = .ok (.getfield 339, 3) := dk_180 1 83 (dk_at dksX0_ear_1 13 rfl rfl)
theorem dX0_ear_39 : decode cX0_ear 39 = .ok (.iload_n 1, 1) := dk_27 (dk_at dksX0_ear_1 16 rfl rfl)
theorem dX0_ear_40 : decode cX0_ear 40 = .ok (.iload_n 2, 1) := dk_28 (dk_at dksX0_ear_1 17 rfl rfl)
theorem dX0_ear_41 : decode cX0_ear 41 = .ok (.iastore, 1) := dk_79 (dk_at dksX0_ear_1 18 rfl rfl)
theorem dX0_ear_42 : decode cX0_ear 42 = .ok (.iload_n 3, 1) := dk_29 (dk_at dksX0_ear_1 19 rfl rfl)
theorem dX0_ear_43 : decode cX0_ear 43 = .ok (.ireturn, 1) := dk_172 (dk_at dksX0_ear_1 20 rfl rfl)
abbrev cX0_deal : ByteArray := prog_1_method_51_code
def yX0_deal : MethodName := ⟨RX0, "deal", "(I)I"⟩
def dkwX0_deal_3 : List UInt8 := [182, 1, 19, 87, 132, 2, 1, 167, 255, 195, 28, 172]
abbrev dktX0_deal_3 : List UInt8 := dkwX0_deal_3 ++ []
def dkwX0_deal_2 : List UInt8 := [182, 1, 86, 16, 10, 112, 54, 4, 42, 29, 21, 4, 42, 180, 0, 46, 182, 1, 86, 16, 10, 112]
abbrev dktX0_deal_2 : List UInt8 := dkwX0_deal_2 ++ dktX0_deal_3
def dkwX0_deal_1 : List UInt8 := [180, 0, 104, 16, 6, 162, 0, 50, 42, 180, 0, 46, 182, 1, 86, 16, 6, 112, 62, 42, 180, 0, 46]
abbrev dktX0_deal_1 : List UInt8 := dkwX0_deal_1 ++ dktX0_deal_2
def dkwX0_deal_0 : List UInt8 := [27, 4, 16, 6, 184, 0, 108, 154, 0, 6, 18, 133, 172, 3, 61, 28, 27, 162, 0, 62, 42, 180, 0, 46]
abbrev dktX0_deal_0 : List UInt8 := dkwX0_deal_0 ++ dktX0_deal_1
theorem dksX0_deal_0 : cX0_deal.data.toList.drop 0 = dktX0_deal_0 := by decide +kernel
theorem dksX0_deal_1 : cX0_deal.data.toList.drop 24 = dktX0_deal_1 := dk_seg dksX0_deal_0 24 rfl rfl
theorem dksX0_deal_2 : cX0_deal.data.toList.drop 47 = dktX0_deal_2 := dk_seg dksX0_deal_1 23 rfl rfl
theorem dksX0_deal_3 : cX0_deal.data.toList.drop 69 = dktX0_deal_3 := dk_seg dksX0_deal_2 22 rfl rfl
theorem dX0_deal_0 : decode cX0_deal 0 = .ok (.iload_n 1, 1) := dk_27 (dk_at dksX0_deal_0 0 rfl rfl)
theorem dX0_deal_1 : decode cX0_deal 1 = .ok (.iconst 1, 1) := dk_4 (dk_at dksX0_deal_0 1 rfl rfl)
theorem dX0_deal_2 : decode cX0_deal 2 = .ok (.bipush 6, 2) := dk_16 6 (dk_at dksX0_deal_0 2 rfl rfl)
theorem dX0_deal_4 : decode cX0_deal 4 = .ok (.invokestatic 108, 3) := dk_184 0 108 (dk_at dksX0_deal_0 4 rfl rfl)
theorem dX0_deal_7 : decode cX0_deal 7 = .ok (.ifCond .ne 6, 3) := dk_154 0 6 (dk_at dksX0_deal_0 7 rfl rfl)
theorem dX0_deal_10 : decode cX0_deal 10 = .ok (.ldc 133, 2) := dk_18 133 (dk_at dksX0_deal_0 10 rfl rfl)
theorem dX0_deal_12 : decode cX0_deal 12 = .ok (.ireturn, 1) := dk_172 (dk_at dksX0_deal_0 12 rfl rfl)
theorem dX0_deal_13 : decode cX0_deal 13 = .ok (.iconst 0, 1) := dk_3 (dk_at dksX0_deal_0 13 rfl rfl)
theorem dX0_deal_14 : decode cX0_deal 14 = .ok (.istore_n 2, 1) := dk_61 (dk_at dksX0_deal_0 14 rfl rfl)
theorem dX0_deal_15 : decode cX0_deal 15 = .ok (.iload_n 2, 1) := dk_28 (dk_at dksX0_deal_0 15 rfl rfl)
theorem dX0_deal_16 : decode cX0_deal 16 = .ok (.iload_n 1, 1) := dk_27 (dk_at dksX0_deal_0 16 rfl rfl)
theorem dX0_deal_17 : decode cX0_deal 17 = .ok (.if_icmp .ge 62, 3) := dk_162 0 62 (dk_at dksX0_deal_0 17 rfl rfl)
theorem dX0_deal_20 : decode cX0_deal 20 = .ok (.aload_n 0, 1) := dk_42 (dk_at dksX0_deal_0 20 rfl rfl)
theorem dX0_deal_21 : decode cX0_deal 21 = .ok (.getfield 46, 3) := dk_180 0 46 (dk_at dksX0_deal_0 21 rfl rfl)
theorem dX0_deal_24 : decode cX0_deal 24 = .ok (.getfield 104, 3) := dk_180 0 104 (dk_at dksX0_deal_1 0 rfl rfl)
theorem dX0_deal_27 : decode cX0_deal 27 = .ok (.bipush 6, 2) := dk_16 6 (dk_at dksX0_deal_1 3 rfl rfl)
theorem dX0_deal_29 : decode cX0_deal 29 = .ok (.if_icmp .ge 50, 3) := dk_162 0 50 (dk_at dksX0_deal_1 5 rfl rfl)
theorem dX0_deal_32 : decode cX0_deal 32 = .ok (.aload_n 0, 1) := dk_42 (dk_at dksX0_deal_1 8 rfl rfl)
theorem dX0_deal_33 : decode cX0_deal 33 = .ok (.getfield 46, 3) := dk_180 0 46 (dk_at dksX0_deal_1 9 rfl rfl)
theorem dX0_deal_36 : decode cX0_deal 36 = .ok (.invokevirtual 342, 3) := dk_182 1 86 (dk_at dksX0_deal_1 12 rfl rfl)
theorem dX0_deal_39 : decode cX0_deal 39 = .ok (.bipush 6, 2) := dk_16 6 (dk_at dksX0_deal_1 15 rfl rfl)
theorem dX0_deal_41 : decode cX0_deal 41 = .ok (.irem, 1) := dk_112 (dk_at dksX0_deal_1 17 rfl rfl)
theorem dX0_deal_42 : decode cX0_deal 42 = .ok (.istore_n 3, 1) := dk_62 (dk_at dksX0_deal_1 18 rfl rfl)
theorem dX0_deal_43 : decode cX0_deal 43 = .ok (.aload_n 0, 1) := dk_42 (dk_at dksX0_deal_1 19 rfl rfl)
theorem dX0_deal_44 : decode cX0_deal 44 = .ok (.getfield 46, 3) := dk_180 0 46 (dk_at dksX0_deal_1 20 rfl rfl)
theorem dX0_deal_47 : decode cX0_deal 47 = .ok (.invokevirtual 342, 3) := dk_182 1 86 (dk_at dksX0_deal_2 0 rfl rfl)
theorem dX0_deal_50 : decode cX0_deal 50 = .ok (.bipush 10, 2) := dk_16 10 (dk_at dksX0_deal_2 3 rfl rfl)
theorem dX0_deal_52 : decode cX0_deal 52 = .ok (.irem, 1) := dk_112 (dk_at dksX0_deal_2 5 rfl rfl)
theorem dX0_deal_53 : decode cX0_deal 53 = .ok (.istore 4, 2) := dk_54 4 (dk_at dksX0_deal_2 6 rfl rfl)
theorem dX0_deal_55 : decode cX0_deal 55 = .ok (.aload_n 0, 1) := dk_42 (dk_at dksX0_deal_2 8 rfl rfl)
theorem dX0_deal_56 : decode cX0_deal 56 = .ok (.iload_n 3, 1) := dk_29 (dk_at dksX0_deal_2 9 rfl rfl)
theorem dX0_deal_57 : decode cX0_deal 57 = .ok (.iload 4, 2) := dk_21 4 (dk_at dksX0_deal_2 10 rfl rfl)
theorem dX0_deal_59 : decode cX0_deal 59 = .ok (.aload_n 0, 1) := dk_42 (dk_at dksX0_deal_2 12 rfl rfl)
theorem dX0_deal_60 : decode cX0_deal 60 = .ok (.getfield 46, 3) := dk_180 0 46 (dk_at dksX0_deal_2 13 rfl rfl)
theorem dX0_deal_63 : decode cX0_deal 63 = .ok (.invokevirtual 342, 3) := dk_182 1 86 (dk_at dksX0_deal_2 16 rfl rfl)
theorem dX0_deal_66 : decode cX0_deal 66 = .ok (.bipush 10, 2) := dk_16 10 (dk_at dksX0_deal_2 19 rfl rfl)
theorem dX0_deal_68 : decode cX0_deal 68 = .ok (.irem, 1) := dk_112 (dk_at dksX0_deal_2 21 rfl rfl)
theorem dX0_deal_69 : decode cX0_deal 69 = .ok (.invokevirtual 275, 3) := dk_182 1 19 (dk_at dksX0_deal_3 0 rfl rfl)
theorem dX0_deal_72 : decode cX0_deal 72 = .ok (.pop, 1) := dk_87 (dk_at dksX0_deal_3 3 rfl rfl)
theorem dX0_deal_73 : decode cX0_deal 73 = .ok (.iinc 2 1, 3) := dk_132 2 1 (dk_at dksX0_deal_3 4 rfl rfl)
theorem dX0_deal_76 : decode cX0_deal 76 = .ok (.goto (-61), 3) := dk_167 255 195 (dk_at dksX0_deal_3 7 rfl rfl)
theorem dX0_deal_79 : decode cX0_deal 79 = .ok (.iload_n 2, 1) := dk_28 (dk_at dksX0_deal_3 10 rfl rfl)
theorem dX0_deal_80 : decode cX0_deal 80 = .ok (.ireturn, 1) := dk_172 (dk_at dksX0_deal_3 11 rfl rfl)
abbrev cX0_seed : ByteArray := prog_1_method_52_code
def yX0_seed : MethodName := ⟨RX0, "seed", "(I)I"⟩
def dkwX0_seed_0 : List UInt8 := [42, 180, 0, 46, 180, 1, 89, 61, 42, 180, 0, 46, 27, 181, 1, 89, 28, 172]
abbrev dktX0_seed_0 : List UInt8 := dkwX0_seed_0 ++ []
theorem dksX0_seed_0 : cX0_seed.data.toList.drop 0 = dktX0_seed_0 := by decide +kernel
theorem dX0_seed_0 : decode cX0_seed 0 = .ok (.aload_n 0, 1) := dk_42 (dk_at dksX0_seed_0 0 rfl rfl)
theorem dX0_seed_1 : decode cX0_seed 1 = .ok (.getfield 46, 3) := dk_180 0 46 (dk_at dksX0_seed_0 1 rfl rfl)
theorem dX0_seed_4 : decode cX0_seed 4 = .ok (.getfield 345, 3) := dk_180 1 89 (dk_at dksX0_seed_0 4 rfl rfl)
theorem dX0_seed_7 : decode cX0_seed 7 = .ok (.istore_n 2, 1) := dk_61 (dk_at dksX0_seed_0 7 rfl rfl)
theorem dX0_seed_8 : decode cX0_seed 8 = .ok (.aload_n 0, 1) := dk_42 (dk_at dksX0_seed_0 8 rfl rfl)
theorem dX0_seed_9 : decode cX0_seed 9 = .ok (.getfield 46, 3) := dk_180 0 46 (dk_at dksX0_seed_0 9 rfl rfl)
theorem dX0_seed_12 : decode cX0_seed 12 = .ok (.iload_n 1, 1) := dk_27 (dk_at dksX0_seed_0 12 rfl rfl)
theorem dX0_seed_13 : decode cX0_seed 13 = .ok (.putfield 345, 3) := dk_181 1 89 (dk_at dksX0_seed_0 13 rfl rfl)
theorem dX0_seed_16 : decode cX0_seed 16 = .ok (.iload_n 2, 1) := dk_28 (dk_at dksX0_seed_0 16 rfl rfl)
theorem dX0_seed_17 : decode cX0_seed 17 = .ok (.ireturn, 1) := dk_172 (dk_at dksX0_seed_0 17 rfl rfl)
abbrev cX0_minutes : ByteArray := prog_1_method_55_code
def yX0_minutes : MethodName := ⟨RX0, "minutes", "(I)I"⟩
def dkwX0_minutes_2 : List UInt8 := [28, 100, 172]
abbrev dktX0_minutes_2 : List UInt8 := dkwX0_minutes_2 ++ []
def dkwX0_minutes_1 : List UInt8 := [17, 39, 15, 42, 180, 0, 46, 180, 1, 46, 100, 184, 0, 4, 182, 1, 107, 42, 180, 0, 46, 180, 1, 95]
abbrev dktX0_minutes_1 : List UInt8 := dkwX0_minutes_1 ++ dktX0_minutes_2
def dkwX0_minutes_0 : List UInt8 := [27, 4, 16, 100, 184, 0, 108, 154, 0, 6, 18, 133, 172, 42, 180, 0, 46, 180, 1, 95, 61, 42, 27]
abbrev dktX0_minutes_0 : List UInt8 := dkwX0_minutes_0 ++ dktX0_minutes_1
theorem dksX0_minutes_0 : cX0_minutes.data.toList.drop 0 = dktX0_minutes_0 := by decide +kernel
theorem dksX0_minutes_1 : cX0_minutes.data.toList.drop 23 = dktX0_minutes_1 := dk_seg dksX0_minutes_0 23 rfl rfl
theorem dksX0_minutes_2 : cX0_minutes.data.toList.drop 47 = dktX0_minutes_2 := dk_seg dksX0_minutes_1 24 rfl rfl
theorem dX0_minutes_0 : decode cX0_minutes 0 = .ok (.iload_n 1, 1) := dk_27 (dk_at dksX0_minutes_0 0 rfl rfl)
theorem dX0_minutes_1 : decode cX0_minutes 1 = .ok (.iconst 1, 1) := dk_4 (dk_at dksX0_minutes_0 1 rfl rfl)
theorem dX0_minutes_2 : decode cX0_minutes 2 = .ok (.bipush 100, 2) := dk_16 100 (dk_at dksX0_minutes_0 2 rfl rfl)
theorem dX0_minutes_4 : decode cX0_minutes 4 = .ok (.invokestatic 108, 3) := dk_184 0 108 (dk_at dksX0_minutes_0 4 rfl rfl)
theorem dX0_minutes_7 : decode cX0_minutes 7 = .ok (.ifCond .ne 6, 3) := dk_154 0 6 (dk_at dksX0_minutes_0 7 rfl rfl)
theorem dX0_minutes_10 : decode cX0_minutes 10 = .ok (.ldc 133, 2) := dk_18 133 (dk_at dksX0_minutes_0 10 rfl rfl)
theorem dX0_minutes_12 : decode cX0_minutes 12 = .ok (.ireturn, 1) := dk_172 (dk_at dksX0_minutes_0 12 rfl rfl)
theorem dX0_minutes_13 : decode cX0_minutes 13 = .ok (.aload_n 0, 1) := dk_42 (dk_at dksX0_minutes_0 13 rfl rfl)
theorem dX0_minutes_14 : decode cX0_minutes 14 = .ok (.getfield 46, 3) := dk_180 0 46 (dk_at dksX0_minutes_0 14 rfl rfl)
theorem dX0_minutes_17 : decode cX0_minutes 17 = .ok (.getfield 351, 3) := dk_180 1 95 (dk_at dksX0_minutes_0 17 rfl rfl)
theorem dX0_minutes_20 : decode cX0_minutes 20 = .ok (.istore_n 2, 1) := dk_61 (dk_at dksX0_minutes_0 20 rfl rfl)
theorem dX0_minutes_21 : decode cX0_minutes 21 = .ok (.aload_n 0, 1) := dk_42 (dk_at dksX0_minutes_0 21 rfl rfl)
theorem dX0_minutes_22 : decode cX0_minutes 22 = .ok (.iload_n 1, 1) := dk_27 (dk_at dksX0_minutes_0 22 rfl rfl)
theorem dX0_minutes_23 : decode cX0_minutes 23 = .ok (.sipush 9999, 3) := dk_17 39 15 (dk_at dksX0_minutes_1 0 rfl rfl)
theorem dX0_minutes_26 : decode cX0_minutes 26 = .ok (.aload_n 0, 1) := dk_42 (dk_at dksX0_minutes_1 3 rfl rfl)
theorem dX0_minutes_27 : decode cX0_minutes 27 = .ok (.getfield 46, 3) := dk_180 0 46 (dk_at dksX0_minutes_1 4 rfl rfl)
theorem dX0_minutes_30 : decode cX0_minutes 30 = .ok (.getfield 302, 3) := dk_180 1 46 (dk_at dksX0_minutes_1 7 rfl rfl)
theorem dX0_minutes_33 : decode cX0_minutes 33 = .ok (.isub, 1) := dk_100 (dk_at dksX0_minutes_1 10 rfl rfl)
theorem dX0_minutes_34 : decode cX0_minutes 34 = .ok (.invokestatic 4, 3) := dk_184 0 4 (dk_at dksX0_minutes_1 11 rfl rfl)
theorem dX0_minutes_37 : decode cX0_minutes 37 = .ok (.invokevirtual 363, 3) := dk_182 1 107 (dk_at dksX0_minutes_1 14 rfl rfl)
theorem dX0_minutes_40 : decode cX0_minutes 40 = .ok (.aload_n 0, 1) := dk_42 (dk_at dksX0_minutes_1 17 rfl rfl)
theorem dX0_minutes_41 : decode cX0_minutes 41 = .ok (.getfield 46, 3) := dk_180 0 46 (dk_at dksX0_minutes_1 18 rfl rfl)
theorem dX0_minutes_44 : decode cX0_minutes 44 = .ok (.getfield 351, 3) := dk_180 1 95 (dk_at dksX0_minutes_1 21 rfl rfl)
theorem dX0_minutes_47 : decode cX0_minutes 47 = .ok (.iload_n 2, 1) := dk_28 (dk_at dksX0_minutes_2 0 rfl rfl)
theorem dX0_minutes_48 : decode cX0_minutes 48 = .ok (.isub, 1) := dk_100 (dk_at dksX0_minutes_2 1 rfl rfl)
theorem dX0_minutes_49 : decode cX0_minutes 49 = .ok (.ireturn, 1) := dk_172 (dk_at dksX0_minutes_2 2 rfl rfl)
abbrev cX0_goesOn : ByteArray := prog_1_method_54_code
def yX0_goesOn : MethodName := ⟨RX0, "goesOn", "(I)V"⟩
def dkwX0_goesOn_0 : List UInt8 := [3, 61, 28, 27, 162, 0, 13, 42, 182, 1, 104, 132, 2, 1, 167, 255, 244, 177]
abbrev dktX0_goesOn_0 : List UInt8 := dkwX0_goesOn_0 ++ []
theorem dksX0_goesOn_0 : cX0_goesOn.data.toList.drop 0 = dktX0_goesOn_0 := by decide +kernel
theorem dX0_goesOn_0 : decode cX0_goesOn 0 = .ok (.iconst 0, 1) := dk_3 (dk_at dksX0_goesOn_0 0 rfl rfl)
theorem dX0_goesOn_1 : decode cX0_goesOn 1 = .ok (.istore_n 2, 1) := dk_61 (dk_at dksX0_goesOn_0 1 rfl rfl)
theorem dX0_goesOn_2 : decode cX0_goesOn 2 = .ok (.iload_n 2, 1) := dk_28 (dk_at dksX0_goesOn_0 2 rfl rfl)
theorem dX0_goesOn_3 : decode cX0_goesOn 3 = .ok (.iload_n 1, 1) := dk_27 (dk_at dksX0_goesOn_0 3 rfl rfl)
theorem dX0_goesOn_4 : decode cX0_goesOn 4 = .ok (.if_icmp .ge 13, 3) := dk_162 0 13 (dk_at dksX0_goesOn_0 4 rfl rfl)
theorem dX0_goesOn_7 : decode cX0_goesOn 7 = .ok (.aload_n 0, 1) := dk_42 (dk_at dksX0_goesOn_0 7 rfl rfl)
theorem dX0_goesOn_8 : decode cX0_goesOn 8 = .ok (.invokevirtual 360, 3) := dk_182 1 104 (dk_at dksX0_goesOn_0 8 rfl rfl)
theorem dX0_goesOn_11 : decode cX0_goesOn 11 = .ok (.iinc 2 1, 3) := dk_132 2 1 (dk_at dksX0_goesOn_0 11 rfl rfl)
theorem dX0_goesOn_14 : decode cX0_goesOn 14 = .ok (.goto (-12), 3) := dk_167 255 244 (dk_at dksX0_goesOn_0 14 rfl rfl)
theorem dX0_goesOn_17 : decode cX0_goesOn 17 = .ok (.return_, 1) := dk_177 (dk_at dksX0_goesOn_0 17 rfl rfl)
abbrev cX0_aMinute : ByteArray := prog_1_method_53_code
def yX0_aMinute : MethodName := ⟨RX0, "aMinute", "()V"⟩
def dkwX0_aMinute_7 : List UInt8 := [42, 180, 0, 46, 27, 182, 1, 101, 42, 180, 0, 46, 89, 180, 1, 46, 4, 96, 181, 1, 46, 177]
abbrev dktX0_aMinute_7 : List UInt8 := dkwX0_aMinute_7 ++ []
def dkwX0_aMinute_6 : List UInt8 := [180, 1, 83, 4, 46, 162, 0, 19, 42, 180, 0, 46, 89, 180, 1, 98, 4, 96, 181, 1, 98, 132, 1, 1]
abbrev dktX0_aMinute_6 : List UInt8 := dkwX0_aMinute_6 ++ dktX0_aMinute_7
def dkwX0_aMinute_5 : List UInt8 := [180, 1, 95, 27, 96, 181, 1, 95, 42, 180, 0, 46, 182, 1, 86, 16, 100, 112, 42, 180, 0, 46]
abbrev dktX0_aMinute_5 : List UInt8 := dkwX0_aMinute_5 ++ dktX0_aMinute_6
def dkwX0_aMinute_4 : List UInt8 := [4, 96, 181, 1, 92, 132, 3, 255, 167, 255, 185, 132, 2, 1, 167, 255, 150, 42, 180, 0, 46, 89]
abbrev dktX0_aMinute_4 : List UInt8 := dkwX0_aMinute_4 ++ dktX0_aMinute_5
def dkwX0_aMinute_3 : List UInt8 := [4, 167, 0, 4, 3, 96, 60, 42, 180, 0, 46, 89, 180, 1, 92, 21, 4, 153, 0, 7, 3, 167, 0, 4]
abbrev dktX0_aMinute_3 : List UInt8 := dkwX0_aMinute_3 ++ dktX0_aMinute_4
def dkwX0_aMinute_2 : List UInt8 := [180, 0, 46, 180, 1, 83, 3, 46, 162, 0, 7, 4, 167, 0, 4, 3, 54, 4, 27, 21, 4, 153, 0, 7]
abbrev dktX0_aMinute_2 : List UInt8 := dkwX0_aMinute_2 ++ dktX0_aMinute_3
def dkwX0_aMinute_1 : List UInt8 := [50, 42, 182, 1, 55, 182, 1, 43, 62, 29, 158, 0, 73, 42, 180, 0, 46, 182, 1, 86, 16, 100, 112, 42]
abbrev dktX0_aMinute_1 : List UInt8 := dkwX0_aMinute_1 ++ dktX0_aMinute_2
def dkwX0_aMinute_0 : List UInt8 := [3, 60, 3, 61, 28, 42, 180, 0, 46, 180, 0, 104, 162, 0, 101, 42, 42, 180, 0, 46, 180, 1, 11, 28]
abbrev dktX0_aMinute_0 : List UInt8 := dkwX0_aMinute_0 ++ dktX0_aMinute_1
theorem dksX0_aMinute_0 : cX0_aMinute.data.toList.drop 0 = dktX0_aMinute_0 := by decide +kernel
theorem dksX0_aMinute_1 : cX0_aMinute.data.toList.drop 24 = dktX0_aMinute_1 := dk_seg dksX0_aMinute_0 24 rfl rfl
theorem dksX0_aMinute_2 : cX0_aMinute.data.toList.drop 48 = dktX0_aMinute_2 := dk_seg dksX0_aMinute_1 24 rfl rfl
theorem dksX0_aMinute_3 : cX0_aMinute.data.toList.drop 72 = dktX0_aMinute_3 := dk_seg dksX0_aMinute_2 24 rfl rfl
theorem dksX0_aMinute_4 : cX0_aMinute.data.toList.drop 96 = dktX0_aMinute_4 := dk_seg dksX0_aMinute_3 24 rfl rfl
theorem dksX0_aMinute_5 : cX0_aMinute.data.toList.drop 118 = dktX0_aMinute_5 := dk_seg dksX0_aMinute_4 22 rfl rfl
theorem dksX0_aMinute_6 : cX0_aMinute.data.toList.drop 140 = dktX0_aMinute_6 := dk_seg dksX0_aMinute_5 22 rfl rfl
theorem dksX0_aMinute_7 : cX0_aMinute.data.toList.drop 164 = dktX0_aMinute_7 := dk_seg dksX0_aMinute_6 24 rfl rfl
theorem dX0_aMinute_0 : decode cX0_aMinute 0 = .ok (.iconst 0, 1) := dk_3 (dk_at dksX0_aMinute_0 0 rfl rfl)
theorem dX0_aMinute_1 : decode cX0_aMinute 1 = .ok (.istore_n 1, 1) := dk_60 (dk_at dksX0_aMinute_0 1 rfl rfl)
theorem dX0_aMinute_2 : decode cX0_aMinute 2 = .ok (.iconst 0, 1) := dk_3 (dk_at dksX0_aMinute_0 2 rfl rfl)
theorem dX0_aMinute_3 : decode cX0_aMinute 3 = .ok (.istore_n 2, 1) := dk_61 (dk_at dksX0_aMinute_0 3 rfl rfl)
theorem dX0_aMinute_4 : decode cX0_aMinute 4 = .ok (.iload_n 2, 1) := dk_28 (dk_at dksX0_aMinute_0 4 rfl rfl)
theorem dX0_aMinute_5 : decode cX0_aMinute 5 = .ok (.aload_n 0, 1) := dk_42 (dk_at dksX0_aMinute_0 5 rfl rfl)
theorem dX0_aMinute_6 : decode cX0_aMinute 6 = .ok (.getfield 46, 3) := dk_180 0 46 (dk_at dksX0_aMinute_0 6 rfl rfl)
theorem dX0_aMinute_9 : decode cX0_aMinute 9 = .ok (.getfield 104, 3) := dk_180 0 104 (dk_at dksX0_aMinute_0 9 rfl rfl)
theorem dX0_aMinute_12 : decode cX0_aMinute 12 = .ok (.if_icmp .ge 101, 3) := dk_162 0 101 (dk_at dksX0_aMinute_0 12 rfl rfl)
theorem dX0_aMinute_15 : decode cX0_aMinute 15 = .ok (.aload_n 0, 1) := dk_42 (dk_at dksX0_aMinute_0 15 rfl rfl)
theorem dX0_aMinute_16 : decode cX0_aMinute 16 = .ok (.aload_n 0, 1) := dk_42 (dk_at dksX0_aMinute_0 16 rfl rfl)
theorem dX0_aMinute_17 : decode cX0_aMinute 17 = .ok (.getfield 46, 3) := dk_180 0 46 (dk_at dksX0_aMinute_0 17 rfl rfl)
theorem dX0_aMinute_20 : decode cX0_aMinute 20 = .ok (.getfield 267, 3) := dk_180 1 11 (dk_at dksX0_aMinute_0 20 rfl rfl)
theorem dX0_aMinute_23 : decode cX0_aMinute 23 = .ok (.iload_n 2, 1) := dk_28 (dk_at dksX0_aMinute_0 23 rfl rfl)
theorem dX0_aMinute_24 : decode cX0_aMinute 24 = .ok (.aaload, 1) := dk_50 (dk_at dksX0_aMinute_1 0 rfl rfl)
theorem dX0_aMinute_25 : decode cX0_aMinute 25 = .ok (.aload_n 0, 1) := dk_42 (dk_at dksX0_aMinute_1 1 rfl rfl)
theorem dX0_aMinute_26 : decode cX0_aMinute 26 = .ok (.invokevirtual 311, 3) := dk_182 1 55 (dk_at dksX0_aMinute_1 2 rfl rfl)
theorem dX0_aMinute_29 : decode cX0_aMinute 29 = .ok (.invokevirtual 299, 3) := dk_182 1 43 (dk_at dksX0_aMinute_1 5 rfl rfl)
theorem dX0_aMinute_32 : decode cX0_aMinute 32 = .ok (.istore_n 3, 1) := dk_62 (dk_at dksX0_aMinute_1 8 rfl rfl)
theorem dX0_aMinute_33 : decode cX0_aMinute 33 = .ok (.iload_n 3, 1) := dk_29 (dk_at dksX0_aMinute_1 9 rfl rfl)
theorem dX0_aMinute_34 : decode cX0_aMinute 34 = .ok (.ifCond .le 73, 3) := dk_158 0 73 (dk_at dksX0_aMinute_1 10 rfl rfl)
theorem dX0_aMinute_37 : decode cX0_aMinute 37 = .ok (.aload_n 0, 1) := dk_42 (dk_at dksX0_aMinute_1 13 rfl rfl)
theorem dX0_aMinute_38 : decode cX0_aMinute 38 = .ok (.getfield 46, 3) := dk_180 0 46 (dk_at dksX0_aMinute_1 14 rfl rfl)
theorem dX0_aMinute_41 : decode cX0_aMinute 41 = .ok (.invokevirtual 342, 3) := dk_182 1 86 (dk_at dksX0_aMinute_1 17 rfl rfl)
theorem dX0_aMinute_44 : decode cX0_aMinute 44 = .ok (.bipush 100, 2) := dk_16 100 (dk_at dksX0_aMinute_1 20 rfl rfl)
theorem dX0_aMinute_46 : decode cX0_aMinute 46 = .ok (.irem, 1) := dk_112 (dk_at dksX0_aMinute_1 22 rfl rfl)
theorem dX0_aMinute_47 : decode cX0_aMinute 47 = .ok (.aload_n 0, 1) := dk_42 (dk_at dksX0_aMinute_1 23 rfl rfl)
theorem dX0_aMinute_48 : decode cX0_aMinute 48 = .ok (.getfield 46, 3) := dk_180 0 46 (dk_at dksX0_aMinute_2 0 rfl rfl)
theorem dX0_aMinute_51 : decode cX0_aMinute 51 = .ok (.getfield 339, 3) := dk_180 1 83 (dk_at dksX0_aMinute_2 3 rfl rfl)
theorem dX0_aMinute_54 : decode cX0_aMinute 54 = .ok (.iconst 0, 1) := dk_3 (dk_at dksX0_aMinute_2 6 rfl rfl)
theorem dX0_aMinute_55 : decode cX0_aMinute 55 = .ok (.iaload, 1) := dk_46 (dk_at dksX0_aMinute_2 7 rfl rfl)
theorem dX0_aMinute_56 : decode cX0_aMinute 56 = .ok (.if_icmp .ge 7, 3) := dk_162 0 7 (dk_at dksX0_aMinute_2 8 rfl rfl)
theorem dX0_aMinute_59 : decode cX0_aMinute 59 = .ok (.iconst 1, 1) := dk_4 (dk_at dksX0_aMinute_2 11 rfl rfl)
theorem dX0_aMinute_60 : decode cX0_aMinute 60 = .ok (.goto 4, 3) := dk_167 0 4 (dk_at dksX0_aMinute_2 12 rfl rfl)
theorem dX0_aMinute_63 : decode cX0_aMinute 63 = .ok (.iconst 0, 1) := dk_3 (dk_at dksX0_aMinute_2 15 rfl rfl)
theorem dX0_aMinute_64 : decode cX0_aMinute 64 = .ok (.istore 4, 2) := dk_54 4 (dk_at dksX0_aMinute_2 16 rfl rfl)
theorem dX0_aMinute_66 : decode cX0_aMinute 66 = .ok (.iload_n 1, 1) := dk_27 (dk_at dksX0_aMinute_2 18 rfl rfl)
theorem dX0_aMinute_67 : decode cX0_aMinute 67 = .ok (.iload 4, 2) := dk_21 4 (dk_at dksX0_aMinute_2 19 rfl rfl)
theorem dX0_aMinute_69 : decode cX0_aMinute 69 = .ok (.ifCond .eq 7, 3) := dk_153 0 7 (dk_at dksX0_aMinute_2 21 rfl rfl)
theorem dX0_aMinute_72 : decode cX0_aMinute 72 = .ok (.iconst 1, 1) := dk_4 (dk_at dksX0_aMinute_3 0 rfl rfl)
theorem dX0_aMinute_73 : decode cX0_aMinute 73 = .ok (.goto 4, 3) := dk_167 0 4 (dk_at dksX0_aMinute_3 1 rfl rfl)
theorem dX0_aMinute_76 : decode cX0_aMinute 76 = .ok (.iconst 0, 1) := dk_3 (dk_at dksX0_aMinute_3 4 rfl rfl)
theorem dX0_aMinute_77 : decode cX0_aMinute 77 = .ok (.iadd, 1) := dk_96 (dk_at dksX0_aMinute_3 5 rfl rfl)
theorem dX0_aMinute_78 : decode cX0_aMinute 78 = .ok (.istore_n 1, 1) := dk_60 (dk_at dksX0_aMinute_3 6 rfl rfl)
theorem dX0_aMinute_79 : decode cX0_aMinute 79 = .ok (.aload_n 0, 1) := dk_42 (dk_at dksX0_aMinute_3 7 rfl rfl)
theorem dX0_aMinute_80 : decode cX0_aMinute 80 = .ok (.getfield 46, 3) := dk_180 0 46 (dk_at dksX0_aMinute_3 8 rfl rfl)
theorem dX0_aMinute_83 : decode cX0_aMinute 83 = .ok (.dup, 1) := dk_89 (dk_at dksX0_aMinute_3 11 rfl rfl)
theorem dX0_aMinute_84 : decode cX0_aMinute 84 = .ok (.getfield 348, 3) := dk_180 1 92 (dk_at dksX0_aMinute_3 12 rfl rfl)
theorem dX0_aMinute_87 : decode cX0_aMinute 87 = .ok (.iload 4, 2) := dk_21 4 (dk_at dksX0_aMinute_3 15 rfl rfl)
theorem dX0_aMinute_89 : decode cX0_aMinute 89 = .ok (.ifCond .eq 7, 3) := dk_153 0 7 (dk_at dksX0_aMinute_3 17 rfl rfl)
theorem dX0_aMinute_92 : decode cX0_aMinute 92 = .ok (.iconst 0, 1) := dk_3 (dk_at dksX0_aMinute_3 20 rfl rfl)
theorem dX0_aMinute_93 : decode cX0_aMinute 93 = .ok (.goto 4, 3) := dk_167 0 4 (dk_at dksX0_aMinute_3 21 rfl rfl)
theorem dX0_aMinute_96 : decode cX0_aMinute 96 = .ok (.iconst 1, 1) := dk_4 (dk_at dksX0_aMinute_4 0 rfl rfl)
theorem dX0_aMinute_97 : decode cX0_aMinute 97 = .ok (.iadd, 1) := dk_96 (dk_at dksX0_aMinute_4 1 rfl rfl)
theorem dX0_aMinute_98 : decode cX0_aMinute 98 = .ok (.putfield 348, 3) := dk_181 1 92 (dk_at dksX0_aMinute_4 2 rfl rfl)
theorem dX0_aMinute_101 : decode cX0_aMinute 101 = .ok (.iinc 3 (-1), 3) := dk_132 3 255 (dk_at dksX0_aMinute_4 5 rfl rfl)
theorem dX0_aMinute_104 : decode cX0_aMinute 104 = .ok (.goto (-71), 3) := dk_167 255 185 (dk_at dksX0_aMinute_4 8 rfl rfl)
theorem dX0_aMinute_107 : decode cX0_aMinute 107 = .ok (.iinc 2 1, 3) := dk_132 2 1 (dk_at dksX0_aMinute_4 11 rfl rfl)
theorem dX0_aMinute_110 : decode cX0_aMinute 110 = .ok (.goto (-106), 3) := dk_167 255 150 (dk_at dksX0_aMinute_4 14 rfl rfl)
theorem dX0_aMinute_113 : decode cX0_aMinute 113 = .ok (.aload_n 0, 1) := dk_42 (dk_at dksX0_aMinute_4 17 rfl rfl)
theorem dX0_aMinute_114 : decode cX0_aMinute 114 = .ok (.getfield 46, 3) := dk_180 0 46 (dk_at dksX0_aMinute_4 18 rfl rfl)
theorem dX0_aMinute_117 : decode cX0_aMinute 117 = .ok (.dup, 1) := dk_89 (dk_at dksX0_aMinute_4 21 rfl rfl)
theorem dX0_aMinute_118 : decode cX0_aMinute 118 = .ok (.getfield 351, 3) := dk_180 1 95 (dk_at dksX0_aMinute_5 0 rfl rfl)
theorem dX0_aMinute_121 : decode cX0_aMinute 121 = .ok (.iload_n 1, 1) := dk_27 (dk_at dksX0_aMinute_5 3 rfl rfl)
theorem dX0_aMinute_122 : decode cX0_aMinute 122 = .ok (.iadd, 1) := dk_96 (dk_at dksX0_aMinute_5 4 rfl rfl)
theorem dX0_aMinute_123 : decode cX0_aMinute 123 = .ok (.putfield 351, 3) := dk_181 1 95 (dk_at dksX0_aMinute_5 5 rfl rfl)
theorem dX0_aMinute_126 : decode cX0_aMinute 126 = .ok (.aload_n 0, 1) := dk_42 (dk_at dksX0_aMinute_5 8 rfl rfl)
theorem dX0_aMinute_127 : decode cX0_aMinute 127 = .ok (.getfield 46, 3) := dk_180 0 46 (dk_at dksX0_aMinute_5 9 rfl rfl)
theorem dX0_aMinute_130 : decode cX0_aMinute 130 = .ok (.invokevirtual 342, 3) := dk_182 1 86 (dk_at dksX0_aMinute_5 12 rfl rfl)
theorem dX0_aMinute_133 : decode cX0_aMinute 133 = .ok (.bipush 100, 2) := dk_16 100 (dk_at dksX0_aMinute_5 15 rfl rfl)
theorem dX0_aMinute_135 : decode cX0_aMinute 135 = .ok (.irem, 1) := dk_112 (dk_at dksX0_aMinute_5 17 rfl rfl)
theorem dX0_aMinute_136 : decode cX0_aMinute 136 = .ok (.aload_n 0, 1) := dk_42 (dk_at dksX0_aMinute_5 18 rfl rfl)
theorem dX0_aMinute_137 : decode cX0_aMinute 137 = .ok (.getfield 46, 3) := dk_180 0 46 (dk_at dksX0_aMinute_5 19 rfl rfl)
theorem dX0_aMinute_140 : decode cX0_aMinute 140 = .ok (.getfield 339, 3) := dk_180 1 83 (dk_at dksX0_aMinute_6 0 rfl rfl)
theorem dX0_aMinute_143 : decode cX0_aMinute 143 = .ok (.iconst 1, 1) := dk_4 (dk_at dksX0_aMinute_6 3 rfl rfl)
theorem dX0_aMinute_144 : decode cX0_aMinute 144 = .ok (.iaload, 1) := dk_46 (dk_at dksX0_aMinute_6 4 rfl rfl)
theorem dX0_aMinute_145 : decode cX0_aMinute 145 = .ok (.if_icmp .ge 19, 3) := dk_162 0 19 (dk_at dksX0_aMinute_6 5 rfl rfl)
theorem dX0_aMinute_148 : decode cX0_aMinute 148 = .ok (.aload_n 0, 1) := dk_42 (dk_at dksX0_aMinute_6 8 rfl rfl)
theorem dX0_aMinute_149 : decode cX0_aMinute 149 = .ok (.getfield 46, 3) := dk_180 0 46 (dk_at dksX0_aMinute_6 9 rfl rfl)
theorem dX0_aMinute_152 : decode cX0_aMinute 152 = .ok (.dup, 1) := dk_89 (dk_at dksX0_aMinute_6 12 rfl rfl)
theorem dX0_aMinute_153 : decode cX0_aMinute 153 = .ok (.getfield 354, 3) := dk_180 1 98 (dk_at dksX0_aMinute_6 13 rfl rfl)
theorem dX0_aMinute_156 : decode cX0_aMinute 156 = .ok (.iconst 1, 1) := dk_4 (dk_at dksX0_aMinute_6 16 rfl rfl)
theorem dX0_aMinute_157 : decode cX0_aMinute 157 = .ok (.iadd, 1) := dk_96 (dk_at dksX0_aMinute_6 17 rfl rfl)
theorem dX0_aMinute_158 : decode cX0_aMinute 158 = .ok (.putfield 354, 3) := dk_181 1 98 (dk_at dksX0_aMinute_6 18 rfl rfl)
theorem dX0_aMinute_161 : decode cX0_aMinute 161 = .ok (.iinc 1 1, 3) := dk_132 1 1 (dk_at dksX0_aMinute_6 21 rfl rfl)
theorem dX0_aMinute_164 : decode cX0_aMinute 164 = .ok (.aload_n 0, 1) := dk_42 (dk_at dksX0_aMinute_7 0 rfl rfl)
theorem dX0_aMinute_165 : decode cX0_aMinute 165 = .ok (.getfield 46, 3) := dk_180 0 46 (dk_at dksX0_aMinute_7 1 rfl rfl)
theorem dX0_aMinute_168 : decode cX0_aMinute 168 = .ok (.iload_n 1, 1) := dk_27 (dk_at dksX0_aMinute_7 4 rfl rfl)
theorem dX0_aMinute_169 : decode cX0_aMinute 169 = .ok (.invokevirtual 357, 3) := dk_182 1 101 (dk_at dksX0_aMinute_7 5 rfl rfl)
theorem dX0_aMinute_172 : decode cX0_aMinute 172 = .ok (.aload_n 0, 1) := dk_42 (dk_at dksX0_aMinute_7 8 rfl rfl)
theorem dX0_aMinute_173 : decode cX0_aMinute 173 = .ok (.getfield 46, 3) := dk_180 0 46 (dk_at dksX0_aMinute_7 9 rfl rfl)
theorem dX0_aMinute_176 : decode cX0_aMinute 176 = .ok (.dup, 1) := dk_89 (dk_at dksX0_aMinute_7 12 rfl rfl)
theorem dX0_aMinute_177 : decode cX0_aMinute 177 = .ok (.getfield 302, 3) := dk_180 1 46 (dk_at dksX0_aMinute_7 13 rfl rfl)
theorem dX0_aMinute_180 : decode cX0_aMinute 180 = .ok (.iconst 1, 1) := dk_4 (dk_at dksX0_aMinute_7 16 rfl rfl)
theorem dX0_aMinute_181 : decode cX0_aMinute 181 = .ok (.iadd, 1) := dk_96 (dk_at dksX0_aMinute_7 17 rfl rfl)
theorem dX0_aMinute_182 : decode cX0_aMinute 182 = .ok (.putfield 302, 3) := dk_181 1 46 (dk_at dksX0_aMinute_7 18 rfl rfl)
theorem dX0_aMinute_185 : decode cX0_aMinute 185 = .ok (.return_, 1) := dk_177 (dk_at dksX0_aMinute_7 21 rfl rfl)
abbrev cX0_bed : ByteArray := prog_1_method_56_code
def yX0_bed : MethodName := ⟨RX0, "bed", "(I)I"⟩
def dkwX0_bed_3 : List UInt8 := [42, 180, 0, 46, 180, 1, 110, 172, 18, 133, 172]
abbrev dktX0_bed_3 : List UInt8 := dkwX0_bed_3 ++ []
def dkwX0_bed_2 : List UInt8 := [42, 180, 0, 46, 180, 1, 95, 172, 42, 180, 0, 46, 180, 1, 92, 172, 42, 180, 0, 46, 180, 1, 98, 172]
abbrev dktX0_bed_2 : List UInt8 := dkwX0_bed_2 ++ dktX0_bed_3
def dkwX0_bed_1 : List UInt8 := [170, 0, 0, 0, 0, 0, 63, 0, 0, 0, 0, 0, 0, 0, 3, 0, 0, 0, 31, 0, 0, 0, 39, 0, 0, 0, 47, 0, 0, 0, 55]
abbrev dktX0_bed_1 : List UInt8 := dkwX0_bed_1 ++ dktX0_bed_2
def dkwX0_bed_0 : List UInt8 := [27]
abbrev dktX0_bed_0 : List UInt8 := dkwX0_bed_0 ++ dktX0_bed_1
theorem dksX0_bed_0 : cX0_bed.data.toList.drop 0 = dktX0_bed_0 := by decide +kernel
theorem dksX0_bed_1 : cX0_bed.data.toList.drop 1 = dktX0_bed_1 := dk_seg dksX0_bed_0 1 rfl rfl
theorem dksX0_bed_2 : cX0_bed.data.toList.drop 32 = dktX0_bed_2 := dk_seg dksX0_bed_1 31 rfl rfl
theorem dksX0_bed_3 : cX0_bed.data.toList.drop 56 = dktX0_bed_3 := dk_seg dksX0_bed_2 24 rfl rfl
theorem dX0_bed_0 : decode cX0_bed 0 = .ok (.iload_n 1, 1) := dk_27 (dk_at dksX0_bed_0 0 rfl rfl)
theorem dX0_bed_1 : decode cX0_bed 1 = .ok (.tableswitch 63 0 3 #[31, 39, 47, 55], 31) := by decide +kernel
theorem dX0_bed_32 : decode cX0_bed 32 = .ok (.aload_n 0, 1) := dk_42 (dk_at dksX0_bed_2 0 rfl rfl)
theorem dX0_bed_33 : decode cX0_bed 33 = .ok (.getfield 46, 3) := dk_180 0 46 (dk_at dksX0_bed_2 1 rfl rfl)
theorem dX0_bed_36 : decode cX0_bed 36 = .ok (.getfield 351, 3) := dk_180 1 95 (dk_at dksX0_bed_2 4 rfl rfl)
theorem dX0_bed_39 : decode cX0_bed 39 = .ok (.ireturn, 1) := dk_172 (dk_at dksX0_bed_2 7 rfl rfl)
theorem dX0_bed_40 : decode cX0_bed 40 = .ok (.aload_n 0, 1) := dk_42 (dk_at dksX0_bed_2 8 rfl rfl)
theorem dX0_bed_41 : decode cX0_bed 41 = .ok (.getfield 46, 3) := dk_180 0 46 (dk_at dksX0_bed_2 9 rfl rfl)
theorem dX0_bed_44 : decode cX0_bed 44 = .ok (.getfield 348, 3) := dk_180 1 92 (dk_at dksX0_bed_2 12 rfl rfl)
theorem dX0_bed_47 : decode cX0_bed 47 = .ok (.ireturn, 1) := dk_172 (dk_at dksX0_bed_2 15 rfl rfl)
theorem dX0_bed_48 : decode cX0_bed 48 = .ok (.aload_n 0, 1) := dk_42 (dk_at dksX0_bed_2 16 rfl rfl)
theorem dX0_bed_49 : decode cX0_bed 49 = .ok (.getfield 46, 3) := dk_180 0 46 (dk_at dksX0_bed_2 17 rfl rfl)
theorem dX0_bed_52 : decode cX0_bed 52 = .ok (.getfield 354, 3) := dk_180 1 98 (dk_at dksX0_bed_2 20 rfl rfl)
theorem dX0_bed_55 : decode cX0_bed 55 = .ok (.ireturn, 1) := dk_172 (dk_at dksX0_bed_2 23 rfl rfl)
theorem dX0_bed_56 : decode cX0_bed 56 = .ok (.aload_n 0, 1) := dk_42 (dk_at dksX0_bed_3 0 rfl rfl)
theorem dX0_bed_57 : decode cX0_bed 57 = .ok (.getfield 46, 3) := dk_180 0 46 (dk_at dksX0_bed_3 1 rfl rfl)
theorem dX0_bed_60 : decode cX0_bed 60 = .ok (.getfield 366, 3) := dk_180 1 110 (dk_at dksX0_bed_3 4 rfl rfl)
theorem dX0_bed_63 : decode cX0_bed 63 = .ok (.ireturn, 1) := dk_172 (dk_at dksX0_bed_3 7 rfl rfl)
theorem dX0_bed_64 : decode cX0_bed 64 = .ok (.ldc 133, 2) := dk_18 133 (dk_at dksX0_bed_3 8 rfl rfl)
theorem dX0_bed_66 : decode cX0_bed 66 = .ok (.ireturn, 1) := dk_172 (dk_at dksX0_bed_3 10 rfl rfl)
abbrev cX0_note : ByteArray := prog_1_method_57_code
def yX0_note : MethodName := ⟨RX0, "note", "(I)I"⟩
def dkwX0_note_1 : List UInt8 := [42, 180, 0, 46, 180, 1, 112, 27, 46, 167, 0, 5, 18, 3, 172]
abbrev dktX0_note_1 : List UInt8 := dkwX0_note_1 ++ []
def dkwX0_note_0 : List UInt8 := [27, 3, 16, 11, 184, 0, 108, 154, 0, 6, 18, 133, 172, 27, 42, 180, 0, 46, 180, 1, 110, 162, 0, 15]
abbrev dktX0_note_0 : List UInt8 := dkwX0_note_0 ++ dktX0_note_1
theorem dksX0_note_0 : cX0_note.data.toList.drop 0 = dktX0_note_0 := by decide +kernel
theorem dksX0_note_1 : cX0_note.data.toList.drop 24 = dktX0_note_1 := dk_seg dksX0_note_0 24 rfl rfl
theorem dX0_note_0 : decode cX0_note 0 = .ok (.iload_n 1, 1) := dk_27 (dk_at dksX0_note_0 0 rfl rfl)
theorem dX0_note_1 : decode cX0_note 1 = .ok (.iconst 0, 1) := dk_3 (dk_at dksX0_note_0 1 rfl rfl)
theorem dX0_note_2 : decode cX0_note 2 = .ok (.bipush 11, 2) := dk_16 11 (dk_at dksX0_note_0 2 rfl rfl)
theorem dX0_note_4 : decode cX0_note 4 = .ok (.invokestatic 108, 3) := dk_184 0 108 (dk_at dksX0_note_0 4 rfl rfl)
theorem dX0_note_7 : decode cX0_note 7 = .ok (.ifCond .ne 6, 3) := dk_154 0 6 (dk_at dksX0_note_0 7 rfl rfl)
theorem dX0_note_10 : decode cX0_note 10 = .ok (.ldc 133, 2) := dk_18 133 (dk_at dksX0_note_0 10 rfl rfl)
theorem dX0_note_12 : decode cX0_note 12 = .ok (.ireturn, 1) := dk_172 (dk_at dksX0_note_0 12 rfl rfl)
theorem dX0_note_13 : decode cX0_note 13 = .ok (.iload_n 1, 1) := dk_27 (dk_at dksX0_note_0 13 rfl rfl)
theorem dX0_note_14 : decode cX0_note 14 = .ok (.aload_n 0, 1) := dk_42 (dk_at dksX0_note_0 14 rfl rfl)
theorem dX0_note_15 : decode cX0_note 15 = .ok (.getfield 46, 3) := dk_180 0 46 (dk_at dksX0_note_0 15 rfl rfl)
theorem dX0_note_18 : decode cX0_note 18 = .ok (.getfield 366, 3) := dk_180 1 110 (dk_at dksX0_note_0 18 rfl rfl)
theorem dX0_note_21 : decode cX0_note 21 = .ok (.if_icmp .ge 15, 3) := dk_162 0 15 (dk_at dksX0_note_0 21 rfl rfl)
theorem dX0_note_24 : decode cX0_note 24 = .ok (.aload_n 0, 1) := dk_42 (dk_at dksX0_note_1 0 rfl rfl)
theorem dX0_note_25 : decode cX0_note 25 = .ok (.getfield 46, 3) := dk_180 0 46 (dk_at dksX0_note_1 1 rfl rfl)
theorem dX0_note_28 : decode cX0_note 28 = .ok (.getfield 368, 3) := dk_180 1 112 (dk_at dksX0_note_1 4 rfl rfl)
theorem dX0_note_31 : decode cX0_note 31 = .ok (.iload_n 1, 1) := dk_27 (dk_at dksX0_note_1 7 rfl rfl)
theorem dX0_note_32 : decode cX0_note 32 = .ok (.iaload, 1) := dk_46 (dk_at dksX0_note_1 8 rfl rfl)
theorem dX0_note_33 : decode cX0_note 33 = .ok (.goto 5, 3) := dk_167 0 5 (dk_at dksX0_note_1 9 rfl rfl)
theorem dX0_note_36 : decode cX0_note 36 = .ok (.ldc 3, 2) := dk_18 3 (dk_at dksX0_note_1 12 rfl rfl)
theorem dX0_note_38 : decode cX0_note 38 = .ok (.ireturn, 1) := dk_172 (dk_at dksX0_note_1 14 rfl rfl)
abbrev cX0_fits : ByteArray := prog_1_method_63_code
def yX0_fits : MethodName := ⟨RX0, "fits", "(I)I"⟩
def dkwX0_fits_1 : List UInt8 := [153, 0, 7, 4, 167, 0, 4, 3, 172]
abbrev dktX0_fits_1 : List UInt8 := dkwX0_fits_1 ++ []
def dkwX0_fits_0 : List UInt8 := [27, 3, 17, 2, 207, 184, 0, 108, 154, 0, 6, 18, 133, 172, 42, 182, 1, 131, 42, 27, 182, 1, 128]
abbrev dktX0_fits_0 : List UInt8 := dkwX0_fits_0 ++ dktX0_fits_1
theorem dksX0_fits_0 : cX0_fits.data.toList.drop 0 = dktX0_fits_0 := by decide +kernel
theorem dksX0_fits_1 : cX0_fits.data.toList.drop 23 = dktX0_fits_1 := dk_seg dksX0_fits_0 23 rfl rfl
theorem dX0_fits_0 : decode cX0_fits 0 = .ok (.iload_n 1, 1) := dk_27 (dk_at dksX0_fits_0 0 rfl rfl)
theorem dX0_fits_1 : decode cX0_fits 1 = .ok (.iconst 0, 1) := dk_3 (dk_at dksX0_fits_0 1 rfl rfl)
theorem dX0_fits_2 : decode cX0_fits 2 = .ok (.sipush 719, 3) := dk_17 2 207 (dk_at dksX0_fits_0 2 rfl rfl)
theorem dX0_fits_5 : decode cX0_fits 5 = .ok (.invokestatic 108, 3) := dk_184 0 108 (dk_at dksX0_fits_0 5 rfl rfl)
theorem dX0_fits_8 : decode cX0_fits 8 = .ok (.ifCond .ne 6, 3) := dk_154 0 6 (dk_at dksX0_fits_0 8 rfl rfl)
theorem dX0_fits_11 : decode cX0_fits 11 = .ok (.ldc 133, 2) := dk_18 133 (dk_at dksX0_fits_0 11 rfl rfl)
theorem dX0_fits_13 : decode cX0_fits 13 = .ok (.ireturn, 1) := dk_172 (dk_at dksX0_fits_0 13 rfl rfl)
theorem dX0_fits_14 : decode cX0_fits 14 = .ok (.aload_n 0, 1) := dk_42 (dk_at dksX0_fits_0 14 rfl rfl)
theorem dX0_fits_15 : decode cX0_fits 15 = .ok (.invokevirtual 387, 3) := dk_182 1 131 (dk_at dksX0_fits_0 15 rfl rfl)
theorem dX0_fits_18 : decode cX0_fits 18 = .ok (.aload_n 0, 1) := dk_42 (dk_at dksX0_fits_0 18 rfl rfl)
theorem dX0_fits_19 : decode cX0_fits 19 = .ok (.iload_n 1, 1) := dk_27 (dk_at dksX0_fits_0 19 rfl rfl)
theorem dX0_fits_20 : decode cX0_fits 20 = .ok (.invokevirtual 384, 3) := dk_182 1 128 (dk_at dksX0_fits_0 20 rfl rfl)
theorem dX0_fits_23 : decode cX0_fits 23 = .ok (.ifCond .eq 7, 3) := dk_153 0 7 (dk_at dksX0_fits_1 0 rfl rfl)
theorem dX0_fits_26 : decode cX0_fits 26 = .ok (.iconst 1, 1) := dk_4 (dk_at dksX0_fits_1 3 rfl rfl)
theorem dX0_fits_27 : decode cX0_fits 27 = .ok (.goto 4, 3) := dk_167 0 4 (dk_at dksX0_fits_1 4 rfl rfl)
theorem dX0_fits_30 : decode cX0_fits 30 = .ok (.iconst 0, 1) := dk_3 (dk_at dksX0_fits_1 7 rfl rfl)
theorem dX0_fits_31 : decode cX0_fits 31 = .ok (.ireturn, 1) := dk_172 (dk_at dksX0_fits_1 8 rfl rfl)
abbrev cX0_addsUpAll : ByteArray := prog_1_method_59_code
def yX0_addsUpAll : MethodName := ⟨RX0, "addsUpAll", "()V"⟩
def dkwX0_addsUpAll_2 : List UInt8 := [182, 1, 115, 132, 1, 1, 167, 255, 228, 177]
abbrev dktX0_addsUpAll_2 : List UInt8 := dkwX0_addsUpAll_2 ++ []
def dkwX0_addsUpAll_1 : List UInt8 := [27, 42, 180, 0, 46, 180, 0, 104, 162, 0, 23, 42, 4, 42, 180, 0, 46, 180, 1, 11, 27, 50]
abbrev dktX0_addsUpAll_1 : List UInt8 := dkwX0_addsUpAll_1 ++ dktX0_addsUpAll_2
def dkwX0_addsUpAll_0 : List UInt8 := [3, 60, 27, 17, 2, 208, 162, 0, 16, 42, 180, 0, 77, 27, 3, 79, 132, 1, 1, 167, 255, 239, 3, 60]
abbrev dktX0_addsUpAll_0 : List UInt8 := dkwX0_addsUpAll_0 ++ dktX0_addsUpAll_1
theorem dksX0_addsUpAll_0 : cX0_addsUpAll.data.toList.drop 0 = dktX0_addsUpAll_0 := by decide +kernel
theorem dksX0_addsUpAll_1 : cX0_addsUpAll.data.toList.drop 24 = dktX0_addsUpAll_1 := dk_seg dksX0_addsUpAll_0 24 rfl rfl
theorem dksX0_addsUpAll_2 : cX0_addsUpAll.data.toList.drop 46 = dktX0_addsUpAll_2 := dk_seg dksX0_addsUpAll_1 22 rfl rfl
theorem dX0_addsUpAll_0 : decode cX0_addsUpAll 0 = .ok (.iconst 0, 1) := dk_3 (dk_at dksX0_addsUpAll_0 0 rfl rfl)
theorem dX0_addsUpAll_1 : decode cX0_addsUpAll 1 = .ok (.istore_n 1, 1) := dk_60 (dk_at dksX0_addsUpAll_0 1 rfl rfl)
theorem dX0_addsUpAll_2 : decode cX0_addsUpAll 2 = .ok (.iload_n 1, 1) := dk_27 (dk_at dksX0_addsUpAll_0 2 rfl rfl)
theorem dX0_addsUpAll_3 : decode cX0_addsUpAll 3 = .ok (.sipush 720, 3) := dk_17 2 208 (dk_at dksX0_addsUpAll_0 3 rfl rfl)
theorem dX0_addsUpAll_6 : decode cX0_addsUpAll 6 = .ok (.if_icmp .ge 16, 3) := dk_162 0 16 (dk_at dksX0_addsUpAll_0 6 rfl rfl)
theorem dX0_addsUpAll_9 : decode cX0_addsUpAll 9 = .ok (.aload_n 0, 1) := dk_42 (dk_at dksX0_addsUpAll_0 9 rfl rfl)
theorem dX0_addsUpAll_10 : decode cX0_addsUpAll 10 = .ok (.getfield 77, 3) := dk_180 0 77 (dk_at dksX0_addsUpAll_0 10 rfl rfl)
theorem dX0_addsUpAll_13 : decode cX0_addsUpAll 13 = .ok (.iload_n 1, 1) := dk_27 (dk_at dksX0_addsUpAll_0 13 rfl rfl)
theorem dX0_addsUpAll_14 : decode cX0_addsUpAll 14 = .ok (.iconst 0, 1) := dk_3 (dk_at dksX0_addsUpAll_0 14 rfl rfl)
theorem dX0_addsUpAll_15 : decode cX0_addsUpAll 15 = .ok (.iastore, 1) := dk_79 (dk_at dksX0_addsUpAll_0 15 rfl rfl)
theorem dX0_addsUpAll_16 : decode cX0_addsUpAll 16 = .ok (.iinc 1 1, 3) := dk_132 1 1 (dk_at dksX0_addsUpAll_0 16 rfl rfl)
theorem dX0_addsUpAll_19 : decode cX0_addsUpAll 19 = .ok (.goto (-17), 3) := dk_167 255 239 (dk_at dksX0_addsUpAll_0 19 rfl rfl)
theorem dX0_addsUpAll_22 : decode cX0_addsUpAll 22 = .ok (.iconst 0, 1) := dk_3 (dk_at dksX0_addsUpAll_0 22 rfl rfl)
theorem dX0_addsUpAll_23 : decode cX0_addsUpAll 23 = .ok (.istore_n 1, 1) := dk_60 (dk_at dksX0_addsUpAll_0 23 rfl rfl)
theorem dX0_addsUpAll_24 : decode cX0_addsUpAll 24 = .ok (.iload_n 1, 1) := dk_27 (dk_at dksX0_addsUpAll_1 0 rfl rfl)
theorem dX0_addsUpAll_25 : decode cX0_addsUpAll 25 = .ok (.aload_n 0, 1) := dk_42 (dk_at dksX0_addsUpAll_1 1 rfl rfl)
theorem dX0_addsUpAll_26 : decode cX0_addsUpAll 26 = .ok (.getfield 46, 3) := dk_180 0 46 (dk_at dksX0_addsUpAll_1 2 rfl rfl)
theorem dX0_addsUpAll_29 : decode cX0_addsUpAll 29 = .ok (.getfield 104, 3) := dk_180 0 104 (dk_at dksX0_addsUpAll_1 5 rfl rfl)
theorem dX0_addsUpAll_32 : decode cX0_addsUpAll 32 = .ok (.if_icmp .ge 23, 3) := dk_162 0 23 (dk_at dksX0_addsUpAll_1 8 rfl rfl)
theorem dX0_addsUpAll_35 : decode cX0_addsUpAll 35 = .ok (.aload_n 0, 1) := dk_42 (dk_at dksX0_addsUpAll_1 11 rfl rfl)
theorem dX0_addsUpAll_36 : decode cX0_addsUpAll 36 = .ok (.iconst 1, 1) := dk_4 (dk_at dksX0_addsUpAll_1 12 rfl rfl)
theorem dX0_addsUpAll_37 : decode cX0_addsUpAll 37 = .ok (.aload_n 0, 1) := dk_42 (dk_at dksX0_addsUpAll_1 13 rfl rfl)
theorem dX0_addsUpAll_38 : decode cX0_addsUpAll 38 = .ok (.getfield 46, 3) := dk_180 0 46 (dk_at dksX0_addsUpAll_1 14 rfl rfl)
theorem dX0_addsUpAll_41 : decode cX0_addsUpAll 41 = .ok (.getfield 267, 3) := dk_180 1 11 (dk_at dksX0_addsUpAll_1 17 rfl rfl)
theorem dX0_addsUpAll_44 : decode cX0_addsUpAll 44 = .ok (.iload_n 1, 1) := dk_27 (dk_at dksX0_addsUpAll_1 20 rfl rfl)
theorem dX0_addsUpAll_45 : decode cX0_addsUpAll 45 = .ok (.aaload, 1) := dk_50 (dk_at dksX0_addsUpAll_1 21 rfl rfl)
theorem dX0_addsUpAll_46 : decode cX0_addsUpAll 46 = .ok (.invokevirtual 371, 3) := dk_182 1 115 (dk_at dksX0_addsUpAll_2 0 rfl rfl)
theorem dX0_addsUpAll_49 : decode cX0_addsUpAll 49 = .ok (.iinc 1 1, 3) := dk_132 1 1 (dk_at dksX0_addsUpAll_2 3 rfl rfl)
theorem dX0_addsUpAll_52 : decode cX0_addsUpAll 52 = .ok (.goto (-28), 3) := dk_167 255 228 (dk_at dksX0_addsUpAll_2 6 rfl rfl)
theorem dX0_addsUpAll_55 : decode cX0_addsUpAll 55 = .ok (.return_, 1) := dk_177 (dk_at dksX0_addsUpAll_2 9 rfl rfl)
abbrev cX0_addsUp : ByteArray := prog_1_method_58_code
def yX0_addsUp : MethodName := ⟨RX0, "addsUp", "(ILStrokesHeard$Ringer;)V"⟩
def dkwX0_addsUp_1 : List UInt8 := [96, 79, 132, 3, 1, 167, 255, 229, 177]
abbrev dktX0_addsUp_1 : List UInt8 := dkwX0_addsUp_1 ++ []
def dkwX0_addsUp_0 : List UInt8 := [3, 62, 29, 17, 2, 208, 162, 0, 26, 42, 180, 0, 77, 29, 92, 46, 27, 42, 44, 29, 182, 1, 43, 104]
abbrev dktX0_addsUp_0 : List UInt8 := dkwX0_addsUp_0 ++ dktX0_addsUp_1
theorem dksX0_addsUp_0 : cX0_addsUp.data.toList.drop 0 = dktX0_addsUp_0 := by decide +kernel
theorem dksX0_addsUp_1 : cX0_addsUp.data.toList.drop 24 = dktX0_addsUp_1 := dk_seg dksX0_addsUp_0 24 rfl rfl
theorem dX0_addsUp_0 : decode cX0_addsUp 0 = .ok (.iconst 0, 1) := dk_3 (dk_at dksX0_addsUp_0 0 rfl rfl)
theorem dX0_addsUp_1 : decode cX0_addsUp 1 = .ok (.istore_n 3, 1) := dk_62 (dk_at dksX0_addsUp_0 1 rfl rfl)
theorem dX0_addsUp_2 : decode cX0_addsUp 2 = .ok (.iload_n 3, 1) := dk_29 (dk_at dksX0_addsUp_0 2 rfl rfl)
theorem dX0_addsUp_3 : decode cX0_addsUp 3 = .ok (.sipush 720, 3) := dk_17 2 208 (dk_at dksX0_addsUp_0 3 rfl rfl)
theorem dX0_addsUp_6 : decode cX0_addsUp 6 = .ok (.if_icmp .ge 26, 3) := dk_162 0 26 (dk_at dksX0_addsUp_0 6 rfl rfl)
theorem dX0_addsUp_9 : decode cX0_addsUp 9 = .ok (.aload_n 0, 1) := dk_42 (dk_at dksX0_addsUp_0 9 rfl rfl)
theorem dX0_addsUp_10 : decode cX0_addsUp 10 = .ok (.getfield 77, 3) := dk_180 0 77 (dk_at dksX0_addsUp_0 10 rfl rfl)
theorem dX0_addsUp_13 : decode cX0_addsUp 13 = .ok (.iload_n 3, 1) := dk_29 (dk_at dksX0_addsUp_0 13 rfl rfl)
theorem dX0_addsUp_14 : decode cX0_addsUp 14 = .ok (.dup2, 1) := dk_92 (dk_at dksX0_addsUp_0 14 rfl rfl)
theorem dX0_addsUp_15 : decode cX0_addsUp 15 = .ok (.iaload, 1) := dk_46 (dk_at dksX0_addsUp_0 15 rfl rfl)
theorem dX0_addsUp_16 : decode cX0_addsUp 16 = .ok (.iload_n 1, 1) := dk_27 (dk_at dksX0_addsUp_0 16 rfl rfl)
theorem dX0_addsUp_17 : decode cX0_addsUp 17 = .ok (.aload_n 0, 1) := dk_42 (dk_at dksX0_addsUp_0 17 rfl rfl)
theorem dX0_addsUp_18 : decode cX0_addsUp 18 = .ok (.aload_n 2, 1) := dk_44 (dk_at dksX0_addsUp_0 18 rfl rfl)
theorem dX0_addsUp_19 : decode cX0_addsUp 19 = .ok (.iload_n 3, 1) := dk_29 (dk_at dksX0_addsUp_0 19 rfl rfl)
theorem dX0_addsUp_20 : decode cX0_addsUp 20 = .ok (.invokevirtual 299, 3) := dk_182 1 43 (dk_at dksX0_addsUp_0 20 rfl rfl)
theorem dX0_addsUp_23 : decode cX0_addsUp 23 = .ok (.imul, 1) := dk_104 (dk_at dksX0_addsUp_0 23 rfl rfl)
theorem dX0_addsUp_24 : decode cX0_addsUp 24 = .ok (.iadd, 1) := dk_96 (dk_at dksX0_addsUp_1 0 rfl rfl)
theorem dX0_addsUp_25 : decode cX0_addsUp 25 = .ok (.iastore, 1) := dk_79 (dk_at dksX0_addsUp_1 1 rfl rfl)
theorem dX0_addsUp_26 : decode cX0_addsUp 26 = .ok (.iinc 3 1, 3) := dk_132 3 1 (dk_at dksX0_addsUp_1 2 rfl rfl)
theorem dX0_addsUp_29 : decode cX0_addsUp 29 = .ok (.goto (-27), 3) := dk_167 255 229 (dk_at dksX0_addsUp_1 5 rfl rfl)
theorem dX0_addsUp_32 : decode cX0_addsUp 32 = .ok (.return_, 1) := dk_177 (dk_at dksX0_addsUp_1 8 rfl rfl)
abbrev cX0_isFit : ByteArray := prog_1_method_60_code
def yX0_isFit : MethodName := ⟨RX0, "isFit", "(I)Z"⟩
def dkwX0_isFit_4 : List UInt8 := [3, 172, 132, 3, 1, 167, 255, 180, 4, 172]
abbrev dktX0_isFit_4 : List UInt8 := dkwX0_isFit_4 ++ []
def dkwX0_isFit_3 : List UInt8 := [180, 1, 83, 3, 46, 16, 100, 160, 0, 19, 42, 180, 0, 46, 180, 1, 112, 29, 46, 21, 4, 162, 0, 5]
abbrev dktX0_isFit_3 : List UInt8 := dkwX0_isFit_3 ++ dktX0_isFit_4
def dkwX0_isFit_2 : List UInt8 := [54, 4, 42, 180, 0, 46, 180, 1, 112, 29, 46, 21, 4, 28, 96, 163, 0, 31, 42, 180, 0, 46]
abbrev dktX0_isFit_2 : List UInt8 := dkwX0_isFit_2 ++ dktX0_isFit_3
def dkwX0_isFit_1 : List UInt8 := [180, 0, 46, 180, 1, 110, 162, 0, 71, 42, 180, 0, 77, 27, 29, 100, 17, 2, 208, 184, 1, 33, 46]
abbrev dktX0_isFit_1 : List UInt8 := dkwX0_isFit_1 ++ dktX0_isFit_2
def dkwX0_isFit_0 : List UInt8 := [42, 180, 0, 46, 180, 1, 83, 4, 46, 158, 0, 7, 4, 167, 0, 4, 3, 61, 3, 62, 29, 42]
abbrev dktX0_isFit_0 : List UInt8 := dkwX0_isFit_0 ++ dktX0_isFit_1
theorem dksX0_isFit_0 : cX0_isFit.data.toList.drop 0 = dktX0_isFit_0 := by decide +kernel
theorem dksX0_isFit_1 : cX0_isFit.data.toList.drop 22 = dktX0_isFit_1 := dk_seg dksX0_isFit_0 22 rfl rfl
theorem dksX0_isFit_2 : cX0_isFit.data.toList.drop 45 = dktX0_isFit_2 := dk_seg dksX0_isFit_1 23 rfl rfl
theorem dksX0_isFit_3 : cX0_isFit.data.toList.drop 67 = dktX0_isFit_3 := dk_seg dksX0_isFit_2 22 rfl rfl
theorem dksX0_isFit_4 : cX0_isFit.data.toList.drop 91 = dktX0_isFit_4 := dk_seg dksX0_isFit_3 24 rfl rfl
theorem dX0_isFit_0 : decode cX0_isFit 0 = .ok (.aload_n 0, 1) := dk_42 (dk_at dksX0_isFit_0 0 rfl rfl)
theorem dX0_isFit_1 : decode cX0_isFit 1 = .ok (.getfield 46, 3) := dk_180 0 46 (dk_at dksX0_isFit_0 1 rfl rfl)
theorem dX0_isFit_4 : decode cX0_isFit 4 = .ok (.getfield 339, 3) := dk_180 1 83 (dk_at dksX0_isFit_0 4 rfl rfl)
theorem dX0_isFit_7 : decode cX0_isFit 7 = .ok (.iconst 1, 1) := dk_4 (dk_at dksX0_isFit_0 7 rfl rfl)
theorem dX0_isFit_8 : decode cX0_isFit 8 = .ok (.iaload, 1) := dk_46 (dk_at dksX0_isFit_0 8 rfl rfl)
theorem dX0_isFit_9 : decode cX0_isFit 9 = .ok (.ifCond .le 7, 3) := dk_158 0 7 (dk_at dksX0_isFit_0 9 rfl rfl)
theorem dX0_isFit_12 : decode cX0_isFit 12 = .ok (.iconst 1, 1) := dk_4 (dk_at dksX0_isFit_0 12 rfl rfl)
theorem dX0_isFit_13 : decode cX0_isFit 13 = .ok (.goto 4, 3) := dk_167 0 4 (dk_at dksX0_isFit_0 13 rfl rfl)
theorem dX0_isFit_16 : decode cX0_isFit 16 = .ok (.iconst 0, 1) := dk_3 (dk_at dksX0_isFit_0 16 rfl rfl)
theorem dX0_isFit_17 : decode cX0_isFit 17 = .ok (.istore_n 2, 1) := dk_61 (dk_at dksX0_isFit_0 17 rfl rfl)
theorem dX0_isFit_18 : decode cX0_isFit 18 = .ok (.iconst 0, 1) := dk_3 (dk_at dksX0_isFit_0 18 rfl rfl)
theorem dX0_isFit_19 : decode cX0_isFit 19 = .ok (.istore_n 3, 1) := dk_62 (dk_at dksX0_isFit_0 19 rfl rfl)
theorem dX0_isFit_20 : decode cX0_isFit 20 = .ok (.iload_n 3, 1) := dk_29 (dk_at dksX0_isFit_0 20 rfl rfl)
theorem dX0_isFit_21 : decode cX0_isFit 21 = .ok (.aload_n 0, 1) := dk_42 (dk_at dksX0_isFit_0 21 rfl rfl)
theorem dX0_isFit_22 : decode cX0_isFit 22 = .ok (.getfield 46, 3) := dk_180 0 46 (dk_at dksX0_isFit_1 0 rfl rfl)
theorem dX0_isFit_25 : decode cX0_isFit 25 = .ok (.getfield 366, 3) := dk_180 1 110 (dk_at dksX0_isFit_1 3 rfl rfl)
theorem dX0_isFit_28 : decode cX0_isFit 28 = .ok (.if_icmp .ge 71, 3) := dk_162 0 71 (dk_at dksX0_isFit_1 6 rfl rfl)
theorem dX0_isFit_31 : decode cX0_isFit 31 = .ok (.aload_n 0, 1) := dk_42 (dk_at dksX0_isFit_1 9 rfl rfl)
theorem dX0_isFit_32 : decode cX0_isFit 32 = .ok (.getfield 77, 3) := dk_180 0 77 (dk_at dksX0_isFit_1 10 rfl rfl)
theorem dX0_isFit_35 : decode cX0_isFit 35 = .ok (.iload_n 1, 1) := dk_27 (dk_at dksX0_isFit_1 13 rfl rfl)
theorem dX0_isFit_36 : decode cX0_isFit 36 = .ok (.iload_n 3, 1) := dk_29 (dk_at dksX0_isFit_1 14 rfl rfl)
theorem dX0_isFit_37 : decode cX0_isFit 37 = .ok (.isub, 1) := dk_100 (dk_at dksX0_isFit_1 15 rfl rfl)
theorem dX0_isFit_38 : decode cX0_isFit 38 = .ok (.sipush 720, 3) := dk_17 2 208 (dk_at dksX0_isFit_1 16 rfl rfl)
theorem dX0_isFit_41 : decode cX0_isFit 41 = .ok (.invokestatic 289, 3) := dk_184 1 33 (dk_at dksX0_isFit_1 19 rfl rfl)
theorem dX0_isFit_44 : decode cX0_isFit 44 = .ok (.iaload, 1) := dk_46 (dk_at dksX0_isFit_1 22 rfl rfl)
theorem dX0_isFit_45 : decode cX0_isFit 45 = .ok (.istore 4, 2) := dk_54 4 (dk_at dksX0_isFit_2 0 rfl rfl)
theorem dX0_isFit_47 : decode cX0_isFit 47 = .ok (.aload_n 0, 1) := dk_42 (dk_at dksX0_isFit_2 2 rfl rfl)
theorem dX0_isFit_48 : decode cX0_isFit 48 = .ok (.getfield 46, 3) := dk_180 0 46 (dk_at dksX0_isFit_2 3 rfl rfl)
theorem dX0_isFit_51 : decode cX0_isFit 51 = .ok (.getfield 368, 3) := dk_180 1 112 (dk_at dksX0_isFit_2 6 rfl rfl)
theorem dX0_isFit_54 : decode cX0_isFit 54 = .ok (.iload_n 3, 1) := dk_29 (dk_at dksX0_isFit_2 9 rfl rfl)
theorem dX0_isFit_55 : decode cX0_isFit 55 = .ok (.iaload, 1) := dk_46 (dk_at dksX0_isFit_2 10 rfl rfl)
theorem dX0_isFit_56 : decode cX0_isFit 56 = .ok (.iload 4, 2) := dk_21 4 (dk_at dksX0_isFit_2 11 rfl rfl)
theorem dX0_isFit_58 : decode cX0_isFit 58 = .ok (.iload_n 2, 1) := dk_28 (dk_at dksX0_isFit_2 13 rfl rfl)
theorem dX0_isFit_59 : decode cX0_isFit 59 = .ok (.iadd, 1) := dk_96 (dk_at dksX0_isFit_2 14 rfl rfl)
theorem dX0_isFit_60 : decode cX0_isFit 60 = .ok (.if_icmp .gt 31, 3) := dk_163 0 31 (dk_at dksX0_isFit_2 15 rfl rfl)
theorem dX0_isFit_63 : decode cX0_isFit 63 = .ok (.aload_n 0, 1) := dk_42 (dk_at dksX0_isFit_2 18 rfl rfl)
theorem dX0_isFit_64 : decode cX0_isFit 64 = .ok (.getfield 46, 3) := dk_180 0 46 (dk_at dksX0_isFit_2 19 rfl rfl)
theorem dX0_isFit_67 : decode cX0_isFit 67 = .ok (.getfield 339, 3) := dk_180 1 83 (dk_at dksX0_isFit_3 0 rfl rfl)
theorem dX0_isFit_70 : decode cX0_isFit 70 = .ok (.iconst 0, 1) := dk_3 (dk_at dksX0_isFit_3 3 rfl rfl)
theorem dX0_isFit_71 : decode cX0_isFit 71 = .ok (.iaload, 1) := dk_46 (dk_at dksX0_isFit_3 4 rfl rfl)
theorem dX0_isFit_72 : decode cX0_isFit 72 = .ok (.bipush 100, 2) := dk_16 100 (dk_at dksX0_isFit_3 5 rfl rfl)
theorem dX0_isFit_74 : decode cX0_isFit 74 = .ok (.if_icmp .ne 19, 3) := dk_160 0 19 (dk_at dksX0_isFit_3 7 rfl rfl)
theorem dX0_isFit_77 : decode cX0_isFit 77 = .ok (.aload_n 0, 1) := dk_42 (dk_at dksX0_isFit_3 10 rfl rfl)
theorem dX0_isFit_78 : decode cX0_isFit 78 = .ok (.getfield 46, 3) := dk_180 0 46 (dk_at dksX0_isFit_3 11 rfl rfl)
theorem dX0_isFit_81 : decode cX0_isFit 81 = .ok (.getfield 368, 3) := dk_180 1 112 (dk_at dksX0_isFit_3 14 rfl rfl)
theorem dX0_isFit_84 : decode cX0_isFit 84 = .ok (.iload_n 3, 1) := dk_29 (dk_at dksX0_isFit_3 17 rfl rfl)
theorem dX0_isFit_85 : decode cX0_isFit 85 = .ok (.iaload, 1) := dk_46 (dk_at dksX0_isFit_3 18 rfl rfl)
theorem dX0_isFit_86 : decode cX0_isFit 86 = .ok (.iload 4, 2) := dk_21 4 (dk_at dksX0_isFit_3 19 rfl rfl)
theorem dX0_isFit_88 : decode cX0_isFit 88 = .ok (.if_icmp .ge 5, 3) := dk_162 0 5 (dk_at dksX0_isFit_3 21 rfl rfl)
theorem dX0_isFit_91 : decode cX0_isFit 91 = .ok (.iconst 0, 1) := dk_3 (dk_at dksX0_isFit_4 0 rfl rfl)
theorem dX0_isFit_92 : decode cX0_isFit 92 = .ok (.ireturn, 1) := dk_172 (dk_at dksX0_isFit_4 1 rfl rfl)
theorem dX0_isFit_93 : decode cX0_isFit 93 = .ok (.iinc 3 1, 3) := dk_132 3 1 (dk_at dksX0_isFit_4 2 rfl rfl)
theorem dX0_isFit_96 : decode cX0_isFit 96 = .ok (.goto (-76), 3) := dk_167 255 180 (dk_at dksX0_isFit_4 5 rfl rfl)
theorem dX0_isFit_99 : decode cX0_isFit 99 = .ok (.iconst 1, 1) := dk_4 (dk_at dksX0_isFit_4 8 rfl rfl)
theorem dX0_isFit_100 : decode cX0_isFit 100 = .ok (.ireturn, 1) := dk_172 (dk_at dksX0_isFit_4 9 rfl rfl)
abbrev cX0_may : ByteArray := prog_1_method_64_code
def yX0_may : MethodName := ⟨RX0, "may", "(I)I"⟩
def dkwX0_may_3 : List UInt8 := [167, 0, 4, 3, 172, 18, 133, 172]
abbrev dktX0_may_3 : List UInt8 := dkwX0_may_3 ++ []
def dkwX0_may_2 : List UInt8 := [42, 180, 1, 119, 172, 42, 180, 1, 122, 172, 42, 180, 1, 125, 184, 0, 254, 172, 28, 153, 0, 7, 4]
abbrev dktX0_may_2 : List UInt8 := dkwX0_may_2 ++ dktX0_may_3
def dkwX0_may_1 : List UInt8 := [170, 0, 0, 0, 0, 58, 0, 0, 0, 0, 0, 0, 0, 3, 0, 0, 0, 30, 0, 0, 0, 35, 0, 0, 0, 40, 0, 0, 0, 48]
abbrev dktX0_may_1 : List UInt8 := dkwX0_may_1 ++ dktX0_may_2
def dkwX0_may_0 : List UInt8 := [42, 182, 1, 142, 61, 27]
abbrev dktX0_may_0 : List UInt8 := dkwX0_may_0 ++ dktX0_may_1
theorem dksX0_may_0 : cX0_may.data.toList.drop 0 = dktX0_may_0 := by decide +kernel
theorem dksX0_may_1 : cX0_may.data.toList.drop 6 = dktX0_may_1 := dk_seg dksX0_may_0 6 rfl rfl
theorem dksX0_may_2 : cX0_may.data.toList.drop 36 = dktX0_may_2 := dk_seg dksX0_may_1 30 rfl rfl
theorem dksX0_may_3 : cX0_may.data.toList.drop 59 = dktX0_may_3 := dk_seg dksX0_may_2 23 rfl rfl
theorem dX0_may_0 : decode cX0_may 0 = .ok (.aload_n 0, 1) := dk_42 (dk_at dksX0_may_0 0 rfl rfl)
theorem dX0_may_1 : decode cX0_may 1 = .ok (.invokevirtual 398, 3) := dk_182 1 142 (dk_at dksX0_may_0 1 rfl rfl)
theorem dX0_may_4 : decode cX0_may 4 = .ok (.istore_n 2, 1) := dk_61 (dk_at dksX0_may_0 4 rfl rfl)
theorem dX0_may_5 : decode cX0_may 5 = .ok (.iload_n 1, 1) := dk_27 (dk_at dksX0_may_0 5 rfl rfl)
theorem dX0_may_6 : decode cX0_may 6 = .ok (.tableswitch 58 0 3 #[30, 35, 40, 48], 30) := by decide +kernel
theorem dX0_may_36 : decode cX0_may 36 = .ok (.aload_n 0, 1) := dk_42 (dk_at dksX0_may_2 0 rfl rfl)
theorem dX0_may_37 : decode cX0_may 37 = .ok (.getfield 375, 3) := dk_180 1 119 (dk_at dksX0_may_2 1 rfl rfl)
theorem dX0_may_40 : decode cX0_may 40 = .ok (.ireturn, 1) := dk_172 (dk_at dksX0_may_2 4 rfl rfl)
theorem dX0_may_41 : decode cX0_may 41 = .ok (.aload_n 0, 1) := dk_42 (dk_at dksX0_may_2 5 rfl rfl)
theorem dX0_may_42 : decode cX0_may 42 = .ok (.getfield 378, 3) := dk_180 1 122 (dk_at dksX0_may_2 6 rfl rfl)
theorem dX0_may_45 : decode cX0_may 45 = .ok (.ireturn, 1) := dk_172 (dk_at dksX0_may_2 9 rfl rfl)
theorem dX0_may_46 : decode cX0_may 46 = .ok (.aload_n 0, 1) := dk_42 (dk_at dksX0_may_2 10 rfl rfl)
theorem dX0_may_47 : decode cX0_may 47 = .ok (.getfield 381, 3) := dk_180 1 125 (dk_at dksX0_may_2 11 rfl rfl)
theorem dX0_may_50 : decode cX0_may 50 = .ok (.invokestatic 254, 3) := dk_184 0 254 (dk_at dksX0_may_2 14 rfl rfl)
theorem dX0_may_53 : decode cX0_may 53 = .ok (.ireturn, 1) := dk_172 (dk_at dksX0_may_2 17 rfl rfl)
theorem dX0_may_54 : decode cX0_may 54 = .ok (.iload_n 2, 1) := dk_28 (dk_at dksX0_may_2 18 rfl rfl)
theorem dX0_may_55 : decode cX0_may 55 = .ok (.ifCond .eq 7, 3) := dk_153 0 7 (dk_at dksX0_may_2 19 rfl rfl)
theorem dX0_may_58 : decode cX0_may 58 = .ok (.iconst 1, 1) := dk_4 (dk_at dksX0_may_2 22 rfl rfl)
theorem dX0_may_59 : decode cX0_may 59 = .ok (.goto 4, 3) := dk_167 0 4 (dk_at dksX0_may_3 0 rfl rfl)
theorem dX0_may_62 : decode cX0_may 62 = .ok (.iconst 0, 1) := dk_3 (dk_at dksX0_may_3 3 rfl rfl)
theorem dX0_may_63 : decode cX0_may 63 = .ok (.ireturn, 1) := dk_172 (dk_at dksX0_may_3 4 rfl rfl)
theorem dX0_may_64 : decode cX0_may 64 = .ok (.ldc 133, 2) := dk_18 133 (dk_at dksX0_may_3 5 rfl rfl)
theorem dX0_may_66 : decode cX0_may 66 = .ok (.ireturn, 1) := dk_172 (dk_at dksX0_may_3 7 rfl rfl)
abbrev cX0_isSure : ByteArray := prog_1_method_62_code
def yX0_isSure : MethodName := ⟨RX0, "isSure", "()Z"⟩
def dkwX0_isSure_1 : List UInt8 := [167, 0, 4, 3, 172]
abbrev dktX0_isSure_1 : List UInt8 := dkwX0_isSure_1 ++ []
def dkwX0_isSure_0 : List UInt8 := [42, 182, 1, 131, 42, 182, 1, 134, 158, 0, 18, 42, 180, 1, 122, 184, 1, 137, 4, 160, 0, 7, 4]
abbrev dktX0_isSure_0 : List UInt8 := dkwX0_isSure_0 ++ dktX0_isSure_1
theorem dksX0_isSure_0 : cX0_isSure.data.toList.drop 0 = dktX0_isSure_0 := by decide +kernel
theorem dksX0_isSure_1 : cX0_isSure.data.toList.drop 23 = dktX0_isSure_1 := dk_seg dksX0_isSure_0 23 rfl rfl
theorem dX0_isSure_0 : decode cX0_isSure 0 = .ok (.aload_n 0, 1) := dk_42 (dk_at dksX0_isSure_0 0 rfl rfl)
theorem dX0_isSure_1 : decode cX0_isSure 1 = .ok (.invokevirtual 387, 3) := dk_182 1 131 (dk_at dksX0_isSure_0 1 rfl rfl)
theorem dX0_isSure_4 : decode cX0_isSure 4 = .ok (.aload_n 0, 1) := dk_42 (dk_at dksX0_isSure_0 4 rfl rfl)
theorem dX0_isSure_5 : decode cX0_isSure 5 = .ok (.invokevirtual 390, 3) := dk_182 1 134 (dk_at dksX0_isSure_0 5 rfl rfl)
theorem dX0_isSure_8 : decode cX0_isSure 8 = .ok (.ifCond .le 18, 3) := dk_158 0 18 (dk_at dksX0_isSure_0 8 rfl rfl)
theorem dX0_isSure_11 : decode cX0_isSure 11 = .ok (.aload_n 0, 1) := dk_42 (dk_at dksX0_isSure_0 11 rfl rfl)
theorem dX0_isSure_12 : decode cX0_isSure 12 = .ok (.getfield 378, 3) := dk_180 1 122 (dk_at dksX0_isSure_0 12 rfl rfl)
theorem dX0_isSure_15 : decode cX0_isSure 15 = .ok (.invokestatic 393, 3) := dk_184 1 137 (dk_at dksX0_isSure_0 15 rfl rfl)
theorem dX0_isSure_18 : decode cX0_isSure 18 = .ok (.iconst 1, 1) := dk_4 (dk_at dksX0_isSure_0 18 rfl rfl)
theorem dX0_isSure_19 : decode cX0_isSure 19 = .ok (.if_icmp .ne 7, 3) := dk_160 0 7 (dk_at dksX0_isSure_0 19 rfl rfl)
theorem dX0_isSure_22 : decode cX0_isSure 22 = .ok (.iconst 1, 1) := dk_4 (dk_at dksX0_isSure_0 22 rfl rfl)
theorem dX0_isSure_23 : decode cX0_isSure 23 = .ok (.goto 4, 3) := dk_167 0 4 (dk_at dksX0_isSure_1 0 rfl rfl)
theorem dX0_isSure_26 : decode cX0_isSure 26 = .ok (.iconst 0, 1) := dk_3 (dk_at dksX0_isSure_1 3 rfl rfl)
theorem dX0_isSure_27 : decode cX0_isSure 27 = .ok (.ireturn, 1) := dk_172 (dk_at dksX0_isSure_1 4 rfl rfl)
abbrev cX0_holds : ByteArray := prog_1_method_61_code
def yX0_holds : MethodName := ⟨RX0, "holds", "()I"⟩
def dkwX0_holds_2 : List UInt8 := [16, 60, 108, 120, 128, 181, 1, 122, 42, 27, 181, 1, 125, 132, 1, 255, 167, 255, 211, 42, 180, 1, 119, 172]
abbrev dktX0_holds_2 : List UInt8 := dkwX0_holds_2 ++ []
def dkwX0_holds_1 : List UInt8 := [27, 182, 1, 128, 153, 0, 33, 42, 89, 180, 1, 119, 4, 96, 181, 1, 119, 42, 89, 180, 1, 122, 4, 27]
abbrev dktX0_holds_1 : List UInt8 := dkwX0_holds_1 ++ dktX0_holds_2
def dkwX0_holds_0 : List UInt8 := [42, 3, 181, 1, 119, 42, 3, 181, 1, 122, 42, 2, 181, 1, 125, 17, 2, 207, 60, 27, 155, 0, 47, 42]
abbrev dktX0_holds_0 : List UInt8 := dkwX0_holds_0 ++ dktX0_holds_1
theorem dksX0_holds_0 : cX0_holds.data.toList.drop 0 = dktX0_holds_0 := by decide +kernel
theorem dksX0_holds_1 : cX0_holds.data.toList.drop 24 = dktX0_holds_1 := dk_seg dksX0_holds_0 24 rfl rfl
theorem dksX0_holds_2 : cX0_holds.data.toList.drop 48 = dktX0_holds_2 := dk_seg dksX0_holds_1 24 rfl rfl
theorem dX0_holds_0 : decode cX0_holds 0 = .ok (.aload_n 0, 1) := dk_42 (dk_at dksX0_holds_0 0 rfl rfl)
theorem dX0_holds_1 : decode cX0_holds 1 = .ok (.iconst 0, 1) := dk_3 (dk_at dksX0_holds_0 1 rfl rfl)
theorem dX0_holds_2 : decode cX0_holds 2 = .ok (.putfield 375, 3) := dk_181 1 119 (dk_at dksX0_holds_0 2 rfl rfl)
theorem dX0_holds_5 : decode cX0_holds 5 = .ok (.aload_n 0, 1) := dk_42 (dk_at dksX0_holds_0 5 rfl rfl)
theorem dX0_holds_6 : decode cX0_holds 6 = .ok (.iconst 0, 1) := dk_3 (dk_at dksX0_holds_0 6 rfl rfl)
theorem dX0_holds_7 : decode cX0_holds 7 = .ok (.putfield 378, 3) := dk_181 1 122 (dk_at dksX0_holds_0 7 rfl rfl)
theorem dX0_holds_10 : decode cX0_holds 10 = .ok (.aload_n 0, 1) := dk_42 (dk_at dksX0_holds_0 10 rfl rfl)
theorem dX0_holds_11 : decode cX0_holds 11 = .ok (.iconst (-1), 1) := dk_2 (dk_at dksX0_holds_0 11 rfl rfl)
theorem dX0_holds_12 : decode cX0_holds 12 = .ok (.putfield 381, 3) := dk_181 1 125 (dk_at dksX0_holds_0 12 rfl rfl)
theorem dX0_holds_15 : decode cX0_holds 15 = .ok (.sipush 719, 3) := dk_17 2 207 (dk_at dksX0_holds_0 15 rfl rfl)
theorem dX0_holds_18 : decode cX0_holds 18 = .ok (.istore_n 1, 1) := dk_60 (dk_at dksX0_holds_0 18 rfl rfl)
theorem dX0_holds_19 : decode cX0_holds 19 = .ok (.iload_n 1, 1) := dk_27 (dk_at dksX0_holds_0 19 rfl rfl)
theorem dX0_holds_20 : decode cX0_holds 20 = .ok (.ifCond .lt 47, 3) := dk_155 0 47 (dk_at dksX0_holds_0 20 rfl rfl)
theorem dX0_holds_23 : decode cX0_holds 23 = .ok (.aload_n 0, 1) := dk_42 (dk_at dksX0_holds_0 23 rfl rfl)
theorem dX0_holds_24 : decode cX0_holds 24 = .ok (.iload_n 1, 1) := dk_27 (dk_at dksX0_holds_1 0 rfl rfl)
theorem dX0_holds_25 : decode cX0_holds 25 = .ok (.invokevirtual 384, 3) := dk_182 1 128 (dk_at dksX0_holds_1 1 rfl rfl)
theorem dX0_holds_28 : decode cX0_holds 28 = .ok (.ifCond .eq 33, 3) := dk_153 0 33 (dk_at dksX0_holds_1 4 rfl rfl)
theorem dX0_holds_31 : decode cX0_holds 31 = .ok (.aload_n 0, 1) := dk_42 (dk_at dksX0_holds_1 7 rfl rfl)
theorem dX0_holds_32 : decode cX0_holds 32 = .ok (.dup, 1) := dk_89 (dk_at dksX0_holds_1 8 rfl rfl)
theorem dX0_holds_33 : decode cX0_holds 33 = .ok (.getfield 375, 3) := dk_180 1 119 (dk_at dksX0_holds_1 9 rfl rfl)
theorem dX0_holds_36 : decode cX0_holds 36 = .ok (.iconst 1, 1) := dk_4 (dk_at dksX0_holds_1 12 rfl rfl)
theorem dX0_holds_37 : decode cX0_holds 37 = .ok (.iadd, 1) := dk_96 (dk_at dksX0_holds_1 13 rfl rfl)
theorem dX0_holds_38 : decode cX0_holds 38 = .ok (.putfield 375, 3) := dk_181 1 119 (dk_at dksX0_holds_1 14 rfl rfl)
theorem dX0_holds_41 : decode cX0_holds 41 = .ok (.aload_n 0, 1) := dk_42 (dk_at dksX0_holds_1 17 rfl rfl)
theorem dX0_holds_42 : decode cX0_holds 42 = .ok (.dup, 1) := dk_89 (dk_at dksX0_holds_1 18 rfl rfl)
theorem dX0_holds_43 : decode cX0_holds 43 = .ok (.getfield 378, 3) := dk_180 1 122 (dk_at dksX0_holds_1 19 rfl rfl)
theorem dX0_holds_46 : decode cX0_holds 46 = .ok (.iconst 1, 1) := dk_4 (dk_at dksX0_holds_1 22 rfl rfl)
theorem dX0_holds_47 : decode cX0_holds 47 = .ok (.iload_n 1, 1) := dk_27 (dk_at dksX0_holds_1 23 rfl rfl)
theorem dX0_holds_48 : decode cX0_holds 48 = .ok (.bipush 60, 2) := dk_16 60 (dk_at dksX0_holds_2 0 rfl rfl)
theorem dX0_holds_50 : decode cX0_holds 50 = .ok (.idiv, 1) := dk_108 (dk_at dksX0_holds_2 2 rfl rfl)
theorem dX0_holds_51 : decode cX0_holds 51 = .ok (.ishl, 1) := dk_120 (dk_at dksX0_holds_2 3 rfl rfl)
theorem dX0_holds_52 : decode cX0_holds 52 = .ok (.ior, 1) := dk_128 (dk_at dksX0_holds_2 4 rfl rfl)
theorem dX0_holds_53 : decode cX0_holds 53 = .ok (.putfield 378, 3) := dk_181 1 122 (dk_at dksX0_holds_2 5 rfl rfl)
theorem dX0_holds_56 : decode cX0_holds 56 = .ok (.aload_n 0, 1) := dk_42 (dk_at dksX0_holds_2 8 rfl rfl)
theorem dX0_holds_57 : decode cX0_holds 57 = .ok (.iload_n 1, 1) := dk_27 (dk_at dksX0_holds_2 9 rfl rfl)
theorem dX0_holds_58 : decode cX0_holds 58 = .ok (.putfield 381, 3) := dk_181 1 125 (dk_at dksX0_holds_2 10 rfl rfl)
theorem dX0_holds_61 : decode cX0_holds 61 = .ok (.iinc 1 (-1), 3) := dk_132 1 255 (dk_at dksX0_holds_2 13 rfl rfl)
theorem dX0_holds_64 : decode cX0_holds 64 = .ok (.goto (-45), 3) := dk_167 255 211 (dk_at dksX0_holds_2 16 rfl rfl)
theorem dX0_holds_67 : decode cX0_holds 67 = .ok (.aload_n 0, 1) := dk_42 (dk_at dksX0_holds_2 19 rfl rfl)
theorem dX0_holds_68 : decode cX0_holds 68 = .ok (.getfield 375, 3) := dk_180 1 119 (dk_at dksX0_holds_2 20 rfl rfl)
theorem dX0_holds_71 : decode cX0_holds 71 = .ok (.ireturn, 1) := dk_172 (dk_at dksX0_holds_2 23 rfl rfl)
abbrev cX0_next : ByteArray := prog_1_method_65_code
def yX0_next : MethodName := ⟨RX0, "next", "()I"⟩
def dkwX0_next_1 : List UInt8 := [158, 0, 5, 27, 172, 132, 1, 1, 167, 255, 226, 18, 3, 172]
abbrev dktX0_next_1 : List UInt8 := dkwX0_next_1 ++ []
def dkwX0_next_0 : List UInt8 := [4, 60, 27, 16, 60, 163, 0, 30, 42, 42, 182, 1, 55, 27, 96, 4, 100, 17, 2, 208, 112, 182, 1, 80]
abbrev dktX0_next_0 : List UInt8 := dkwX0_next_0 ++ dktX0_next_1
theorem dksX0_next_0 : cX0_next.data.toList.drop 0 = dktX0_next_0 := by decide +kernel
theorem dksX0_next_1 : cX0_next.data.toList.drop 24 = dktX0_next_1 := dk_seg dksX0_next_0 24 rfl rfl
theorem dX0_next_0 : decode cX0_next 0 = .ok (.iconst 1, 1) := dk_4 (dk_at dksX0_next_0 0 rfl rfl)
theorem dX0_next_1 : decode cX0_next 1 = .ok (.istore_n 1, 1) := dk_60 (dk_at dksX0_next_0 1 rfl rfl)
theorem dX0_next_2 : decode cX0_next 2 = .ok (.iload_n 1, 1) := dk_27 (dk_at dksX0_next_0 2 rfl rfl)
theorem dX0_next_3 : decode cX0_next 3 = .ok (.bipush 60, 2) := dk_16 60 (dk_at dksX0_next_0 3 rfl rfl)
theorem dX0_next_5 : decode cX0_next 5 = .ok (.if_icmp .gt 30, 3) := dk_163 0 30 (dk_at dksX0_next_0 5 rfl rfl)
theorem dX0_next_8 : decode cX0_next 8 = .ok (.aload_n 0, 1) := dk_42 (dk_at dksX0_next_0 8 rfl rfl)
theorem dX0_next_9 : decode cX0_next 9 = .ok (.aload_n 0, 1) := dk_42 (dk_at dksX0_next_0 9 rfl rfl)
theorem dX0_next_10 : decode cX0_next 10 = .ok (.invokevirtual 311, 3) := dk_182 1 55 (dk_at dksX0_next_0 10 rfl rfl)
theorem dX0_next_13 : decode cX0_next 13 = .ok (.iload_n 1, 1) := dk_27 (dk_at dksX0_next_0 13 rfl rfl)
theorem dX0_next_14 : decode cX0_next 14 = .ok (.iadd, 1) := dk_96 (dk_at dksX0_next_0 14 rfl rfl)
theorem dX0_next_15 : decode cX0_next 15 = .ok (.iconst 1, 1) := dk_4 (dk_at dksX0_next_0 15 rfl rfl)
theorem dX0_next_16 : decode cX0_next 16 = .ok (.isub, 1) := dk_100 (dk_at dksX0_next_0 16 rfl rfl)
theorem dX0_next_17 : decode cX0_next 17 = .ok (.sipush 720, 3) := dk_17 2 208 (dk_at dksX0_next_0 17 rfl rfl)
theorem dX0_next_20 : decode cX0_next 20 = .ok (.irem, 1) := dk_112 (dk_at dksX0_next_0 20 rfl rfl)
theorem dX0_next_21 : decode cX0_next 21 = .ok (.invokevirtual 336, 3) := dk_182 1 80 (dk_at dksX0_next_0 21 rfl rfl)
theorem dX0_next_24 : decode cX0_next 24 = .ok (.ifCond .le 5, 3) := dk_158 0 5 (dk_at dksX0_next_1 0 rfl rfl)
theorem dX0_next_27 : decode cX0_next 27 = .ok (.iload_n 1, 1) := dk_27 (dk_at dksX0_next_1 3 rfl rfl)
theorem dX0_next_28 : decode cX0_next 28 = .ok (.ireturn, 1) := dk_172 (dk_at dksX0_next_1 4 rfl rfl)
theorem dX0_next_29 : decode cX0_next 29 = .ok (.iinc 1 1, 3) := dk_132 1 1 (dk_at dksX0_next_1 5 rfl rfl)
theorem dX0_next_32 : decode cX0_next 32 = .ok (.goto (-30), 3) := dk_167 255 226 (dk_at dksX0_next_1 8 rfl rfl)
theorem dX0_next_35 : decode cX0_next 35 = .ok (.ldc 3, 2) := dk_18 3 (dk_at dksX0_next_1 11 rfl rfl)
theorem dX0_next_37 : decode cX0_next 37 = .ok (.ireturn, 1) := dk_172 (dk_at dksX0_next_1 13 rfl rfl)
abbrev cX0_parts : ByteArray := prog_1_method_66_code
def yX0_parts : MethodName := ⟨RX0, "parts", "(II)I"⟩
def dkwX0_parts_5 : List UInt8 := [96, 62, 132, 4, 1, 167, 255, 157, 29, 172]
abbrev dktX0_parts_5 : List UInt8 := dkwX0_parts_5 ++ []
def dkwX0_parts_4 : List UInt8 := [164, 0, 6, 167, 0, 23, 132, 6, 1, 167, 255, 197, 29, 21, 5, 28, 160, 0, 7, 4, 167, 0, 4, 3]
abbrev dktX0_parts_4 : List UInt8 := dkwX0_parts_4 ++ dktX0_parts_5
def dkwX0_parts_3 : List UInt8 := [180, 0, 46, 180, 1, 11, 21, 6, 50, 27, 182, 1, 43, 167, 0, 4, 3, 96, 54, 5, 21, 5, 28]
abbrev dktX0_parts_3 : List UInt8 := dkwX0_parts_3 ++ dktX0_parts_4
def dkwX0_parts_2 : List UInt8 := [180, 0, 46, 180, 0, 104, 162, 0, 53, 21, 5, 21, 4, 21, 6, 122, 4, 126, 4, 160, 0, 21, 42, 42]
abbrev dktX0_parts_2 : List UInt8 := dkwX0_parts_2 ++ dktX0_parts_3
def dkwX0_parts_1 : List UInt8 := [21, 4, 4, 42, 180, 0, 46, 180, 0, 104, 120, 162, 0, 91, 3, 54, 5, 3, 54, 6, 21, 6, 42]
abbrev dktX0_parts_1 : List UInt8 := dkwX0_parts_1 ++ dktX0_parts_2
def dkwX0_parts_0 : List UInt8 := [27, 3, 17, 2, 207, 184, 0, 108, 153, 0, 7, 28, 156, 0, 6, 18, 133, 172, 3, 62, 3, 54, 4]
abbrev dktX0_parts_0 : List UInt8 := dkwX0_parts_0 ++ dktX0_parts_1
theorem dksX0_parts_0 : cX0_parts.data.toList.drop 0 = dktX0_parts_0 := by decide +kernel
theorem dksX0_parts_1 : cX0_parts.data.toList.drop 23 = dktX0_parts_1 := dk_seg dksX0_parts_0 23 rfl rfl
theorem dksX0_parts_2 : cX0_parts.data.toList.drop 46 = dktX0_parts_2 := dk_seg dksX0_parts_1 23 rfl rfl
theorem dksX0_parts_3 : cX0_parts.data.toList.drop 70 = dktX0_parts_3 := dk_seg dksX0_parts_2 24 rfl rfl
theorem dksX0_parts_4 : cX0_parts.data.toList.drop 93 = dktX0_parts_4 := dk_seg dksX0_parts_3 23 rfl rfl
theorem dksX0_parts_5 : cX0_parts.data.toList.drop 117 = dktX0_parts_5 := dk_seg dksX0_parts_4 24 rfl rfl
theorem dX0_parts_0 : decode cX0_parts 0 = .ok (.iload_n 1, 1) := dk_27 (dk_at dksX0_parts_0 0 rfl rfl)
theorem dX0_parts_1 : decode cX0_parts 1 = .ok (.iconst 0, 1) := dk_3 (dk_at dksX0_parts_0 1 rfl rfl)
theorem dX0_parts_2 : decode cX0_parts 2 = .ok (.sipush 719, 3) := dk_17 2 207 (dk_at dksX0_parts_0 2 rfl rfl)
theorem dX0_parts_5 : decode cX0_parts 5 = .ok (.invokestatic 108, 3) := dk_184 0 108 (dk_at dksX0_parts_0 5 rfl rfl)
theorem dX0_parts_8 : decode cX0_parts 8 = .ok (.ifCond .eq 7, 3) := dk_153 0 7 (dk_at dksX0_parts_0 8 rfl rfl)
theorem dX0_parts_11 : decode cX0_parts 11 = .ok (.iload_n 2, 1) := dk_28 (dk_at dksX0_parts_0 11 rfl rfl)
theorem dX0_parts_12 : decode cX0_parts 12 = .ok (.ifCond .ge 6, 3) := dk_156 0 6 (dk_at dksX0_parts_0 12 rfl rfl)
theorem dX0_parts_15 : decode cX0_parts 15 = .ok (.ldc 133, 2) := dk_18 133 (dk_at dksX0_parts_0 15 rfl rfl)
theorem dX0_parts_17 : decode cX0_parts 17 = .ok (.ireturn, 1) := dk_172 (dk_at dksX0_parts_0 17 rfl rfl)
theorem dX0_parts_18 : decode cX0_parts 18 = .ok (.iconst 0, 1) := dk_3 (dk_at dksX0_parts_0 18 rfl rfl)
theorem dX0_parts_19 : decode cX0_parts 19 = .ok (.istore_n 3, 1) := dk_62 (dk_at dksX0_parts_0 19 rfl rfl)
theorem dX0_parts_20 : decode cX0_parts 20 = .ok (.iconst 0, 1) := dk_3 (dk_at dksX0_parts_0 20 rfl rfl)
theorem dX0_parts_21 : decode cX0_parts 21 = .ok (.istore 4, 2) := dk_54 4 (dk_at dksX0_parts_0 21 rfl rfl)
theorem dX0_parts_23 : decode cX0_parts 23 = .ok (.iload 4, 2) := dk_21 4 (dk_at dksX0_parts_1 0 rfl rfl)
theorem dX0_parts_25 : decode cX0_parts 25 = .ok (.iconst 1, 1) := dk_4 (dk_at dksX0_parts_1 2 rfl rfl)
theorem dX0_parts_26 : decode cX0_parts 26 = .ok (.aload_n 0, 1) := dk_42 (dk_at dksX0_parts_1 3 rfl rfl)
theorem dX0_parts_27 : decode cX0_parts 27 = .ok (.getfield 46, 3) := dk_180 0 46 (dk_at dksX0_parts_1 4 rfl rfl)
theorem dX0_parts_30 : decode cX0_parts 30 = .ok (.getfield 104, 3) := dk_180 0 104 (dk_at dksX0_parts_1 7 rfl rfl)
theorem dX0_parts_33 : decode cX0_parts 33 = .ok (.ishl, 1) := dk_120 (dk_at dksX0_parts_1 10 rfl rfl)
theorem dX0_parts_34 : decode cX0_parts 34 = .ok (.if_icmp .ge 91, 3) := dk_162 0 91 (dk_at dksX0_parts_1 11 rfl rfl)
theorem dX0_parts_37 : decode cX0_parts 37 = .ok (.iconst 0, 1) := dk_3 (dk_at dksX0_parts_1 14 rfl rfl)
theorem dX0_parts_38 : decode cX0_parts 38 = .ok (.istore 5, 2) := dk_54 5 (dk_at dksX0_parts_1 15 rfl rfl)
theorem dX0_parts_40 : decode cX0_parts 40 = .ok (.iconst 0, 1) := dk_3 (dk_at dksX0_parts_1 17 rfl rfl)
theorem dX0_parts_41 : decode cX0_parts 41 = .ok (.istore 6, 2) := dk_54 6 (dk_at dksX0_parts_1 18 rfl rfl)
theorem dX0_parts_43 : decode cX0_parts 43 = .ok (.iload 6, 2) := dk_21 6 (dk_at dksX0_parts_1 20 rfl rfl)
theorem dX0_parts_45 : decode cX0_parts 45 = .ok (.aload_n 0, 1) := dk_42 (dk_at dksX0_parts_1 22 rfl rfl)
theorem dX0_parts_46 : decode cX0_parts 46 = .ok (.getfield 46, 3) := dk_180 0 46 (dk_at dksX0_parts_2 0 rfl rfl)
theorem dX0_parts_49 : decode cX0_parts 49 = .ok (.getfield 104, 3) := dk_180 0 104 (dk_at dksX0_parts_2 3 rfl rfl)
theorem dX0_parts_52 : decode cX0_parts 52 = .ok (.if_icmp .ge 53, 3) := dk_162 0 53 (dk_at dksX0_parts_2 6 rfl rfl)
theorem dX0_parts_55 : decode cX0_parts 55 = .ok (.iload 5, 2) := dk_21 5 (dk_at dksX0_parts_2 9 rfl rfl)
theorem dX0_parts_57 : decode cX0_parts 57 = .ok (.iload 4, 2) := dk_21 4 (dk_at dksX0_parts_2 11 rfl rfl)
theorem dX0_parts_59 : decode cX0_parts 59 = .ok (.iload 6, 2) := dk_21 6 (dk_at dksX0_parts_2 13 rfl rfl)
theorem dX0_parts_61 : decode cX0_parts 61 = .ok (.ishr, 1) := dk_122 (dk_at dksX0_parts_2 15 rfl rfl)
theorem dX0_parts_62 : decode cX0_parts 62 = .ok (.iconst 1, 1) := dk_4 (dk_at dksX0_parts_2 16 rfl rfl)
theorem dX0_parts_63 : decode cX0_parts 63 = .ok (.iand, 1) := dk_126 (dk_at dksX0_parts_2 17 rfl rfl)
theorem dX0_parts_64 : decode cX0_parts 64 = .ok (.iconst 1, 1) := dk_4 (dk_at dksX0_parts_2 18 rfl rfl)
theorem dX0_parts_65 : decode cX0_parts 65 = .ok (.if_icmp .ne 21, 3) := dk_160 0 21 (dk_at dksX0_parts_2 19 rfl rfl)
theorem dX0_parts_68 : decode cX0_parts 68 = .ok (.aload_n 0, 1) := dk_42 (dk_at dksX0_parts_2 22 rfl rfl)
theorem dX0_parts_69 : decode cX0_parts 69 = .ok (.aload_n 0, 1) := dk_42 (dk_at dksX0_parts_2 23 rfl rfl)
theorem dX0_parts_70 : decode cX0_parts 70 = .ok (.getfield 46, 3) := dk_180 0 46 (dk_at dksX0_parts_3 0 rfl rfl)
theorem dX0_parts_73 : decode cX0_parts 73 = .ok (.getfield 267, 3) := dk_180 1 11 (dk_at dksX0_parts_3 3 rfl rfl)
theorem dX0_parts_76 : decode cX0_parts 76 = .ok (.iload 6, 2) := dk_21 6 (dk_at dksX0_parts_3 6 rfl rfl)
theorem dX0_parts_78 : decode cX0_parts 78 = .ok (.aaload, 1) := dk_50 (dk_at dksX0_parts_3 8 rfl rfl)
theorem dX0_parts_79 : decode cX0_parts 79 = .ok (.iload_n 1, 1) := dk_27 (dk_at dksX0_parts_3 9 rfl rfl)
theorem dX0_parts_80 : decode cX0_parts 80 = .ok (.invokevirtual 299, 3) := dk_182 1 43 (dk_at dksX0_parts_3 10 rfl rfl)
theorem dX0_parts_83 : decode cX0_parts 83 = .ok (.goto 4, 3) := dk_167 0 4 (dk_at dksX0_parts_3 13 rfl rfl)
theorem dX0_parts_86 : decode cX0_parts 86 = .ok (.iconst 0, 1) := dk_3 (dk_at dksX0_parts_3 16 rfl rfl)
theorem dX0_parts_87 : decode cX0_parts 87 = .ok (.iadd, 1) := dk_96 (dk_at dksX0_parts_3 17 rfl rfl)
theorem dX0_parts_88 : decode cX0_parts 88 = .ok (.istore 5, 2) := dk_54 5 (dk_at dksX0_parts_3 18 rfl rfl)
theorem dX0_parts_90 : decode cX0_parts 90 = .ok (.iload 5, 2) := dk_21 5 (dk_at dksX0_parts_3 20 rfl rfl)
theorem dX0_parts_92 : decode cX0_parts 92 = .ok (.iload_n 2, 1) := dk_28 (dk_at dksX0_parts_3 22 rfl rfl)
theorem dX0_parts_93 : decode cX0_parts 93 = .ok (.if_icmp .le 6, 3) := dk_164 0 6 (dk_at dksX0_parts_4 0 rfl rfl)
theorem dX0_parts_96 : decode cX0_parts 96 = .ok (.goto 23, 3) := dk_167 0 23 (dk_at dksX0_parts_4 3 rfl rfl)
theorem dX0_parts_99 : decode cX0_parts 99 = .ok (.iinc 6 1, 3) := dk_132 6 1 (dk_at dksX0_parts_4 6 rfl rfl)
theorem dX0_parts_102 : decode cX0_parts 102 = .ok (.goto (-59), 3) := dk_167 255 197 (dk_at dksX0_parts_4 9 rfl rfl)
theorem dX0_parts_105 : decode cX0_parts 105 = .ok (.iload_n 3, 1) := dk_29 (dk_at dksX0_parts_4 12 rfl rfl)
theorem dX0_parts_106 : decode cX0_parts 106 = .ok (.iload 5, 2) := dk_21 5 (dk_at dksX0_parts_4 13 rfl rfl)
theorem dX0_parts_108 : decode cX0_parts 108 = .ok (.iload_n 2, 1) := dk_28 (dk_at dksX0_parts_4 15 rfl rfl)
theorem dX0_parts_109 : decode cX0_parts 109 = .ok (.if_icmp .ne 7, 3) := dk_160 0 7 (dk_at dksX0_parts_4 16 rfl rfl)
theorem dX0_parts_112 : decode cX0_parts 112 = .ok (.iconst 1, 1) := dk_4 (dk_at dksX0_parts_4 19 rfl rfl)
theorem dX0_parts_113 : decode cX0_parts 113 = .ok (.goto 4, 3) := dk_167 0 4 (dk_at dksX0_parts_4 20 rfl rfl)
theorem dX0_parts_116 : decode cX0_parts 116 = .ok (.iconst 0, 1) := dk_3 (dk_at dksX0_parts_4 23 rfl rfl)
theorem dX0_parts_117 : decode cX0_parts 117 = .ok (.iadd, 1) := dk_96 (dk_at dksX0_parts_5 0 rfl rfl)
theorem dX0_parts_118 : decode cX0_parts 118 = .ok (.istore_n 3, 1) := dk_62 (dk_at dksX0_parts_5 1 rfl rfl)
theorem dX0_parts_119 : decode cX0_parts 119 = .ok (.iinc 4 1, 3) := dk_132 4 1 (dk_at dksX0_parts_5 2 rfl rfl)
theorem dX0_parts_122 : decode cX0_parts 122 = .ok (.goto (-99), 3) := dk_167 255 157 (dk_at dksX0_parts_5 5 rfl rfl)
theorem dX0_parts_125 : decode cX0_parts 125 = .ok (.iload_n 3, 1) := dk_29 (dk_at dksX0_parts_5 8 rfl rfl)
theorem dX0_parts_126 : decode cX0_parts 126 = .ok (.ireturn, 1) := dk_172 (dk_at dksX0_parts_5 9 rfl rfl)
abbrev cX0_astray : ByteArray := prog_1_method_67_code
def yX0_astray : MethodName := ⟨RX0, "astray", "(I)I"⟩
def dkwX0_astray_4 : List UInt8 := [167, 255, 185, 28, 2, 160, 0, 8, 18, 3, 167, 0, 12, 27, 154, 0, 7, 28, 167, 0, 4, 29, 172]
abbrev dktX0_astray_4 : List UInt8 := dkwX0_astray_4 ++ []
def dkwX0_astray_3 : List UInt8 := [21, 5, 29, 164, 0, 8, 21, 4, 167, 0, 4, 28, 61, 29, 21, 5, 184, 0, 10, 62, 132, 4, 1]
abbrev dktX0_astray_3 : List UInt8 := dkwX0_astray_3 ++ dktX0_astray_4
def dkwX0_astray_2 : List UInt8 := [182, 1, 115, 42, 182, 1, 134, 54, 5, 42, 4, 42, 180, 0, 46, 180, 1, 11, 21, 4, 50, 182, 1, 115]
abbrev dktX0_astray_2 : List UInt8 := dkwX0_astray_2 ++ dktX0_astray_3
def dkwX0_astray_1 : List UInt8 := [21, 4, 42, 180, 0, 46, 180, 0, 104, 162, 0, 65, 42, 2, 42, 180, 0, 46, 180, 1, 11, 21, 4, 50]
abbrev dktX0_astray_1 : List UInt8 := dkwX0_astray_1 ++ dktX0_astray_2
def dkwX0_astray_0 : List UInt8 := [27, 3, 4, 184, 0, 108, 154, 0, 6, 18, 133, 172, 2, 61, 2, 62, 42, 182, 1, 131, 3, 54, 4]
abbrev dktX0_astray_0 : List UInt8 := dkwX0_astray_0 ++ dktX0_astray_1
theorem dksX0_astray_0 : cX0_astray.data.toList.drop 0 = dktX0_astray_0 := by decide +kernel
theorem dksX0_astray_1 : cX0_astray.data.toList.drop 23 = dktX0_astray_1 := dk_seg dksX0_astray_0 23 rfl rfl
theorem dksX0_astray_2 : cX0_astray.data.toList.drop 47 = dktX0_astray_2 := dk_seg dksX0_astray_1 24 rfl rfl
theorem dksX0_astray_3 : cX0_astray.data.toList.drop 71 = dktX0_astray_3 := dk_seg dksX0_astray_2 24 rfl rfl
theorem dksX0_astray_4 : cX0_astray.data.toList.drop 94 = dktX0_astray_4 := dk_seg dksX0_astray_3 23 rfl rfl
theorem dX0_astray_0 : decode cX0_astray 0 = .ok (.iload_n 1, 1) := dk_27 (dk_at dksX0_astray_0 0 rfl rfl)
theorem dX0_astray_1 : decode cX0_astray 1 = .ok (.iconst 0, 1) := dk_3 (dk_at dksX0_astray_0 1 rfl rfl)
theorem dX0_astray_2 : decode cX0_astray 2 = .ok (.iconst 1, 1) := dk_4 (dk_at dksX0_astray_0 2 rfl rfl)
theorem dX0_astray_3 : decode cX0_astray 3 = .ok (.invokestatic 108, 3) := dk_184 0 108 (dk_at dksX0_astray_0 3 rfl rfl)
theorem dX0_astray_6 : decode cX0_astray 6 = .ok (.ifCond .ne 6, 3) := dk_154 0 6 (dk_at dksX0_astray_0 6 rfl rfl)
theorem dX0_astray_9 : decode cX0_astray 9 = .ok (.ldc 133, 2) := dk_18 133 (dk_at dksX0_astray_0 9 rfl rfl)
theorem dX0_astray_11 : decode cX0_astray 11 = .ok (.ireturn, 1) := dk_172 (dk_at dksX0_astray_0 11 rfl rfl)
theorem dX0_astray_12 : decode cX0_astray 12 = .ok (.iconst (-1), 1) := dk_2 (dk_at dksX0_astray_0 12 rfl rfl)
theorem dX0_astray_13 : decode cX0_astray 13 = .ok (.istore_n 2, 1) := dk_61 (dk_at dksX0_astray_0 13 rfl rfl)
theorem dX0_astray_14 : decode cX0_astray 14 = .ok (.iconst (-1), 1) := dk_2 (dk_at dksX0_astray_0 14 rfl rfl)
theorem dX0_astray_15 : decode cX0_astray 15 = .ok (.istore_n 3, 1) := dk_62 (dk_at dksX0_astray_0 15 rfl rfl)
theorem dX0_astray_16 : decode cX0_astray 16 = .ok (.aload_n 0, 1) := dk_42 (dk_at dksX0_astray_0 16 rfl rfl)
theorem dX0_astray_17 : decode cX0_astray 17 = .ok (.invokevirtual 387, 3) := dk_182 1 131 (dk_at dksX0_astray_0 17 rfl rfl)
theorem dX0_astray_20 : decode cX0_astray 20 = .ok (.iconst 0, 1) := dk_3 (dk_at dksX0_astray_0 20 rfl rfl)
theorem dX0_astray_21 : decode cX0_astray 21 = .ok (.istore 4, 2) := dk_54 4 (dk_at dksX0_astray_0 21 rfl rfl)
theorem dX0_astray_23 : decode cX0_astray 23 = .ok (.iload 4, 2) := dk_21 4 (dk_at dksX0_astray_1 0 rfl rfl)
theorem dX0_astray_25 : decode cX0_astray 25 = .ok (.aload_n 0, 1) := dk_42 (dk_at dksX0_astray_1 2 rfl rfl)
theorem dX0_astray_26 : decode cX0_astray 26 = .ok (.getfield 46, 3) := dk_180 0 46 (dk_at dksX0_astray_1 3 rfl rfl)
theorem dX0_astray_29 : decode cX0_astray 29 = .ok (.getfield 104, 3) := dk_180 0 104 (dk_at dksX0_astray_1 6 rfl rfl)
theorem dX0_astray_32 : decode cX0_astray 32 = .ok (.if_icmp .ge 65, 3) := dk_162 0 65 (dk_at dksX0_astray_1 9 rfl rfl)
theorem dX0_astray_35 : decode cX0_astray 35 = .ok (.aload_n 0, 1) := dk_42 (dk_at dksX0_astray_1 12 rfl rfl)
theorem dX0_astray_36 : decode cX0_astray 36 = .ok (.iconst (-1), 1) := dk_2 (dk_at dksX0_astray_1 13 rfl rfl)
theorem dX0_astray_37 : decode cX0_astray 37 = .ok (.aload_n 0, 1) := dk_42 (dk_at dksX0_astray_1 14 rfl rfl)
theorem dX0_astray_38 : decode cX0_astray 38 = .ok (.getfield 46, 3) := dk_180 0 46 (dk_at dksX0_astray_1 15 rfl rfl)
theorem dX0_astray_41 : decode cX0_astray 41 = .ok (.getfield 267, 3) := dk_180 1 11 (dk_at dksX0_astray_1 18 rfl rfl)
theorem dX0_astray_44 : decode cX0_astray 44 = .ok (.iload 4, 2) := dk_21 4 (dk_at dksX0_astray_1 21 rfl rfl)
theorem dX0_astray_46 : decode cX0_astray 46 = .ok (.aaload, 1) := dk_50 (dk_at dksX0_astray_1 23 rfl rfl)
theorem dX0_astray_47 : decode cX0_astray 47 = .ok (.invokevirtual 371, 3) := dk_182 1 115 (dk_at dksX0_astray_2 0 rfl rfl)
theorem dX0_astray_50 : decode cX0_astray 50 = .ok (.aload_n 0, 1) := dk_42 (dk_at dksX0_astray_2 3 rfl rfl)
theorem dX0_astray_51 : decode cX0_astray 51 = .ok (.invokevirtual 390, 3) := dk_182 1 134 (dk_at dksX0_astray_2 4 rfl rfl)
theorem dX0_astray_54 : decode cX0_astray 54 = .ok (.istore 5, 2) := dk_54 5 (dk_at dksX0_astray_2 7 rfl rfl)
theorem dX0_astray_56 : decode cX0_astray 56 = .ok (.aload_n 0, 1) := dk_42 (dk_at dksX0_astray_2 9 rfl rfl)
theorem dX0_astray_57 : decode cX0_astray 57 = .ok (.iconst 1, 1) := dk_4 (dk_at dksX0_astray_2 10 rfl rfl)
theorem dX0_astray_58 : decode cX0_astray 58 = .ok (.aload_n 0, 1) := dk_42 (dk_at dksX0_astray_2 11 rfl rfl)
theorem dX0_astray_59 : decode cX0_astray 59 = .ok (.getfield 46, 3) := dk_180 0 46 (dk_at dksX0_astray_2 12 rfl rfl)
theorem dX0_astray_62 : decode cX0_astray 62 = .ok (.getfield 267, 3) := dk_180 1 11 (dk_at dksX0_astray_2 15 rfl rfl)
theorem dX0_astray_65 : decode cX0_astray 65 = .ok (.iload 4, 2) := dk_21 4 (dk_at dksX0_astray_2 18 rfl rfl)
theorem dX0_astray_67 : decode cX0_astray 67 = .ok (.aaload, 1) := dk_50 (dk_at dksX0_astray_2 20 rfl rfl)
theorem dX0_astray_68 : decode cX0_astray 68 = .ok (.invokevirtual 371, 3) := dk_182 1 115 (dk_at dksX0_astray_2 21 rfl rfl)
theorem dX0_astray_71 : decode cX0_astray 71 = .ok (.iload 5, 2) := dk_21 5 (dk_at dksX0_astray_3 0 rfl rfl)
theorem dX0_astray_73 : decode cX0_astray 73 = .ok (.iload_n 3, 1) := dk_29 (dk_at dksX0_astray_3 2 rfl rfl)
theorem dX0_astray_74 : decode cX0_astray 74 = .ok (.if_icmp .le 8, 3) := dk_164 0 8 (dk_at dksX0_astray_3 3 rfl rfl)
theorem dX0_astray_77 : decode cX0_astray 77 = .ok (.iload 4, 2) := dk_21 4 (dk_at dksX0_astray_3 6 rfl rfl)
theorem dX0_astray_79 : decode cX0_astray 79 = .ok (.goto 4, 3) := dk_167 0 4 (dk_at dksX0_astray_3 8 rfl rfl)
theorem dX0_astray_82 : decode cX0_astray 82 = .ok (.iload_n 2, 1) := dk_28 (dk_at dksX0_astray_3 11 rfl rfl)
theorem dX0_astray_83 : decode cX0_astray 83 = .ok (.istore_n 2, 1) := dk_61 (dk_at dksX0_astray_3 12 rfl rfl)
theorem dX0_astray_84 : decode cX0_astray 84 = .ok (.iload_n 3, 1) := dk_29 (dk_at dksX0_astray_3 13 rfl rfl)
theorem dX0_astray_85 : decode cX0_astray 85 = .ok (.iload 5, 2) := dk_21 5 (dk_at dksX0_astray_3 14 rfl rfl)
theorem dX0_astray_87 : decode cX0_astray 87 = .ok (.invokestatic 10, 3) := dk_184 0 10 (dk_at dksX0_astray_3 16 rfl rfl)
theorem dX0_astray_90 : decode cX0_astray 90 = .ok (.istore_n 3, 1) := dk_62 (dk_at dksX0_astray_3 19 rfl rfl)
theorem dX0_astray_91 : decode cX0_astray 91 = .ok (.iinc 4 1, 3) := dk_132 4 1 (dk_at dksX0_astray_3 20 rfl rfl)
theorem dX0_astray_94 : decode cX0_astray 94 = .ok (.goto (-71), 3) := dk_167 255 185 (dk_at dksX0_astray_4 0 rfl rfl)
theorem dX0_astray_97 : decode cX0_astray 97 = .ok (.iload_n 2, 1) := dk_28 (dk_at dksX0_astray_4 3 rfl rfl)
theorem dX0_astray_98 : decode cX0_astray 98 = .ok (.iconst (-1), 1) := dk_2 (dk_at dksX0_astray_4 4 rfl rfl)
theorem dX0_astray_99 : decode cX0_astray 99 = .ok (.if_icmp .ne 8, 3) := dk_160 0 8 (dk_at dksX0_astray_4 5 rfl rfl)
theorem dX0_astray_102 : decode cX0_astray 102 = .ok (.ldc 3, 2) := dk_18 3 (dk_at dksX0_astray_4 8 rfl rfl)
theorem dX0_astray_104 : decode cX0_astray 104 = .ok (.goto 12, 3) := dk_167 0 12 (dk_at dksX0_astray_4 10 rfl rfl)
theorem dX0_astray_107 : decode cX0_astray 107 = .ok (.iload_n 1, 1) := dk_27 (dk_at dksX0_astray_4 13 rfl rfl)
theorem dX0_astray_108 : decode cX0_astray 108 = .ok (.ifCond .ne 7, 3) := dk_154 0 7 (dk_at dksX0_astray_4 14 rfl rfl)
theorem dX0_astray_111 : decode cX0_astray 111 = .ok (.iload_n 2, 1) := dk_28 (dk_at dksX0_astray_4 17 rfl rfl)
theorem dX0_astray_112 : decode cX0_astray 112 = .ok (.goto 4, 3) := dk_167 0 4 (dk_at dksX0_astray_4 18 rfl rfl)
theorem dX0_astray_115 : decode cX0_astray 115 = .ok (.iload_n 3, 1) := dk_29 (dk_at dksX0_astray_4 21 rfl rfl)
theorem dX0_astray_116 : decode cX0_astray 116 = .ok (.ireturn, 1) := dk_172 (dk_at dksX0_astray_4 22 rfl rfl)
abbrev cX0_right : ByteArray := prog_1_method_68_code
def yX0_right : MethodName := ⟨RX0, "right", "(II)I"⟩
def dkwX0_right_6 : List UInt8 := [167, 0, 14, 28, 154, 0, 8, 21, 5, 167, 0, 5, 21, 6, 172]
abbrev dktX0_right_6 : List UInt8 := dkwX0_right_6 ++ []
def dkwX0_right_5 : List UInt8 := [54, 6, 132, 7, 1, 167, 255, 182, 45, 21, 4, 181, 1, 5, 21, 5, 2, 160, 0, 8, 18, 3]
abbrev dktX0_right_5 : List UInt8 := dkwX0_right_5 ++ dktX0_right_6
def dkwX0_right_4 : List UInt8 := [167, 0, 5, 21, 5, 54, 5, 21, 8, 158, 0, 13, 21, 6, 21, 8, 184, 0, 4, 167, 0, 5, 21, 6]
abbrev dktX0_right_4 : List UInt8 := dkwX0_right_4 ++ dktX0_right_5
def dkwX0_right_3 : List UInt8 := [45, 182, 1, 115, 42, 182, 1, 134, 54, 8, 21, 8, 158, 0, 15, 21, 8, 21, 6, 162, 0, 8, 21, 7]
abbrev dktX0_right_3 : List UInt8 := dkwX0_right_3 ++ dktX0_right_4
def dkwX0_right_2 : List UInt8 := [3, 54, 7, 21, 7, 16, 59, 163, 0, 73, 42, 2, 45, 182, 1, 115, 45, 21, 7, 181, 1, 5, 42, 4]
abbrev dktX0_right_2 : List UInt8 := dkwX0_right_2 ++ dktX0_right_3
def dkwX0_right_1 : List UInt8 := [180, 1, 11, 27, 50, 78, 45, 180, 1, 5, 54, 4, 2, 54, 5, 19, 1, 146, 54, 6, 42, 182, 1, 131]
abbrev dktX0_right_1 : List UInt8 := dkwX0_right_1 ++ dktX0_right_2
def dkwX0_right_0 : List UInt8 := [42, 27, 182, 1, 49, 153, 0, 12, 28, 3, 4, 184, 0, 108, 154, 0, 6, 18, 133, 172, 42, 180, 0, 46]
abbrev dktX0_right_0 : List UInt8 := dkwX0_right_0 ++ dktX0_right_1
theorem dksX0_right_0 : cX0_right.data.toList.drop 0 = dktX0_right_0 := by decide +kernel
theorem dksX0_right_1 : cX0_right.data.toList.drop 24 = dktX0_right_1 := dk_seg dksX0_right_0 24 rfl rfl
theorem dksX0_right_2 : cX0_right.data.toList.drop 48 = dktX0_right_2 := dk_seg dksX0_right_1 24 rfl rfl
theorem dksX0_right_3 : cX0_right.data.toList.drop 72 = dktX0_right_3 := dk_seg dksX0_right_2 24 rfl rfl
theorem dksX0_right_4 : cX0_right.data.toList.drop 96 = dktX0_right_4 := dk_seg dksX0_right_3 24 rfl rfl
theorem dksX0_right_5 : cX0_right.data.toList.drop 120 = dktX0_right_5 := dk_seg dksX0_right_4 24 rfl rfl
theorem dksX0_right_6 : cX0_right.data.toList.drop 142 = dktX0_right_6 := dk_seg dksX0_right_5 22 rfl rfl
theorem dX0_right_0 : decode cX0_right 0 = .ok (.aload_n 0, 1) := dk_42 (dk_at dksX0_right_0 0 rfl rfl)
theorem dX0_right_1 : decode cX0_right 1 = .ok (.iload_n 1, 1) := dk_27 (dk_at dksX0_right_0 1 rfl rfl)
theorem dX0_right_2 : decode cX0_right 2 = .ok (.invokevirtual 305, 3) := dk_182 1 49 (dk_at dksX0_right_0 2 rfl rfl)
theorem dX0_right_5 : decode cX0_right 5 = .ok (.ifCond .eq 12, 3) := dk_153 0 12 (dk_at dksX0_right_0 5 rfl rfl)
theorem dX0_right_8 : decode cX0_right 8 = .ok (.iload_n 2, 1) := dk_28 (dk_at dksX0_right_0 8 rfl rfl)
theorem dX0_right_9 : decode cX0_right 9 = .ok (.iconst 0, 1) := dk_3 (dk_at dksX0_right_0 9 rfl rfl)
theorem dX0_right_10 : decode cX0_right 10 = .ok (.iconst 1, 1) := dk_4 (dk_at dksX0_right_0 10 rfl rfl)
theorem dX0_right_11 : decode cX0_right 11 = .ok (.invokestatic 108, 3) := dk_184 0 108 (dk_at dksX0_right_0 11 rfl rfl)
theorem dX0_right_14 : decode cX0_right 14 = .ok (.ifCond .ne 6, 3) := dk_154 0 6 (dk_at dksX0_right_0 14 rfl rfl)
theorem dX0_right_17 : decode cX0_right 17 = .ok (.ldc 133, 2) := dk_18 133 (dk_at dksX0_right_0 17 rfl rfl)
theorem dX0_right_19 : decode cX0_right 19 = .ok (.ireturn, 1) := dk_172 (dk_at dksX0_right_0 19 rfl rfl)
theorem dX0_right_20 : decode cX0_right 20 = .ok (.aload_n 0, 1) := dk_42 (dk_at dksX0_right_0 20 rfl rfl)
theorem dX0_right_21 : decode cX0_right 21 = .ok (.getfield 46, 3) := dk_180 0 46 (dk_at dksX0_right_0 21 rfl rfl)
theorem dX0_right_24 : decode cX0_right 24 = .ok (.getfield 267, 3) := dk_180 1 11 (dk_at dksX0_right_1 0 rfl rfl)
theorem dX0_right_27 : decode cX0_right 27 = .ok (.iload_n 1, 1) := dk_27 (dk_at dksX0_right_1 3 rfl rfl)
theorem dX0_right_28 : decode cX0_right 28 = .ok (.aaload, 1) := dk_50 (dk_at dksX0_right_1 4 rfl rfl)
theorem dX0_right_29 : decode cX0_right 29 = .ok (.astore_n 3, 1) := dk_78 (dk_at dksX0_right_1 5 rfl rfl)
theorem dX0_right_30 : decode cX0_right 30 = .ok (.aload_n 3, 1) := dk_45 (dk_at dksX0_right_1 6 rfl rfl)
theorem dX0_right_31 : decode cX0_right 31 = .ok (.getfield 261, 3) := dk_180 1 5 (dk_at dksX0_right_1 7 rfl rfl)
theorem dX0_right_34 : decode cX0_right 34 = .ok (.istore 4, 2) := dk_54 4 (dk_at dksX0_right_1 10 rfl rfl)
theorem dX0_right_36 : decode cX0_right 36 = .ok (.iconst (-1), 1) := dk_2 (dk_at dksX0_right_1 12 rfl rfl)
theorem dX0_right_37 : decode cX0_right 37 = .ok (.istore 5, 2) := dk_54 5 (dk_at dksX0_right_1 13 rfl rfl)
theorem dX0_right_39 : decode cX0_right 39 = .ok (.ldc_w 402, 3) := dk_19 1 146 (dk_at dksX0_right_1 15 rfl rfl)
theorem dX0_right_42 : decode cX0_right 42 = .ok (.istore 6, 2) := dk_54 6 (dk_at dksX0_right_1 18 rfl rfl)
theorem dX0_right_44 : decode cX0_right 44 = .ok (.aload_n 0, 1) := dk_42 (dk_at dksX0_right_1 20 rfl rfl)
theorem dX0_right_45 : decode cX0_right 45 = .ok (.invokevirtual 387, 3) := dk_182 1 131 (dk_at dksX0_right_1 21 rfl rfl)
theorem dX0_right_48 : decode cX0_right 48 = .ok (.iconst 0, 1) := dk_3 (dk_at dksX0_right_2 0 rfl rfl)
theorem dX0_right_49 : decode cX0_right 49 = .ok (.istore 7, 2) := dk_54 7 (dk_at dksX0_right_2 1 rfl rfl)
theorem dX0_right_51 : decode cX0_right 51 = .ok (.iload 7, 2) := dk_21 7 (dk_at dksX0_right_2 3 rfl rfl)
theorem dX0_right_53 : decode cX0_right 53 = .ok (.bipush 59, 2) := dk_16 59 (dk_at dksX0_right_2 5 rfl rfl)
theorem dX0_right_55 : decode cX0_right 55 = .ok (.if_icmp .gt 73, 3) := dk_163 0 73 (dk_at dksX0_right_2 7 rfl rfl)
theorem dX0_right_58 : decode cX0_right 58 = .ok (.aload_n 0, 1) := dk_42 (dk_at dksX0_right_2 10 rfl rfl)
theorem dX0_right_59 : decode cX0_right 59 = .ok (.iconst (-1), 1) := dk_2 (dk_at dksX0_right_2 11 rfl rfl)
theorem dX0_right_60 : decode cX0_right 60 = .ok (.aload_n 3, 1) := dk_45 (dk_at dksX0_right_2 12 rfl rfl)
theorem dX0_right_61 : decode cX0_right 61 = .ok (.invokevirtual 371, 3) := dk_182 1 115 (dk_at dksX0_right_2 13 rfl rfl)
theorem dX0_right_64 : decode cX0_right 64 = .ok (.aload_n 3, 1) := dk_45 (dk_at dksX0_right_2 16 rfl rfl)
theorem dX0_right_65 : decode cX0_right 65 = .ok (.iload 7, 2) := dk_21 7 (dk_at dksX0_right_2 17 rfl rfl)
theorem dX0_right_67 : decode cX0_right 67 = .ok (.putfield 261, 3) := dk_181 1 5 (dk_at dksX0_right_2 19 rfl rfl)
theorem dX0_right_70 : decode cX0_right 70 = .ok (.aload_n 0, 1) := dk_42 (dk_at dksX0_right_2 22 rfl rfl)
theorem dX0_right_71 : decode cX0_right 71 = .ok (.iconst 1, 1) := dk_4 (dk_at dksX0_right_2 23 rfl rfl)
theorem dX0_right_72 : decode cX0_right 72 = .ok (.aload_n 3, 1) := dk_45 (dk_at dksX0_right_3 0 rfl rfl)
theorem dX0_right_73 : decode cX0_right 73 = .ok (.invokevirtual 371, 3) := dk_182 1 115 (dk_at dksX0_right_3 1 rfl rfl)
theorem dX0_right_76 : decode cX0_right 76 = .ok (.aload_n 0, 1) := dk_42 (dk_at dksX0_right_3 4 rfl rfl)
theorem dX0_right_77 : decode cX0_right 77 = .ok (.invokevirtual 390, 3) := dk_182 1 134 (dk_at dksX0_right_3 5 rfl rfl)
theorem dX0_right_80 : decode cX0_right 80 = .ok (.istore 8, 2) := dk_54 8 (dk_at dksX0_right_3 8 rfl rfl)
theorem dX0_right_82 : decode cX0_right 82 = .ok (.iload 8, 2) := dk_21 8 (dk_at dksX0_right_3 10 rfl rfl)
theorem dX0_right_84 : decode cX0_right 84 = .ok (.ifCond .le 15, 3) := dk_158 0 15 (dk_at dksX0_right_3 12 rfl rfl)
theorem dX0_right_87 : decode cX0_right 87 = .ok (.iload 8, 2) := dk_21 8 (dk_at dksX0_right_3 15 rfl rfl)
theorem dX0_right_89 : decode cX0_right 89 = .ok (.iload 6, 2) := dk_21 6 (dk_at dksX0_right_3 17 rfl rfl)
theorem dX0_right_91 : decode cX0_right 91 = .ok (.if_icmp .ge 8, 3) := dk_162 0 8 (dk_at dksX0_right_3 19 rfl rfl)
theorem dX0_right_94 : decode cX0_right 94 = .ok (.iload 7, 2) := dk_21 7 (dk_at dksX0_right_3 22 rfl rfl)
theorem dX0_right_96 : decode cX0_right 96 = .ok (.goto 5, 3) := dk_167 0 5 (dk_at dksX0_right_4 0 rfl rfl)
theorem dX0_right_99 : decode cX0_right 99 = .ok (.iload 5, 2) := dk_21 5 (dk_at dksX0_right_4 3 rfl rfl)
theorem dX0_right_101 : decode cX0_right 101 = .ok (.istore 5, 2) := dk_54 5 (dk_at dksX0_right_4 5 rfl rfl)
theorem dX0_right_103 : decode cX0_right 103 = .ok (.iload 8, 2) := dk_21 8 (dk_at dksX0_right_4 7 rfl rfl)
theorem dX0_right_105 : decode cX0_right 105 = .ok (.ifCond .le 13, 3) := dk_158 0 13 (dk_at dksX0_right_4 9 rfl rfl)
theorem dX0_right_108 : decode cX0_right 108 = .ok (.iload 6, 2) := dk_21 6 (dk_at dksX0_right_4 12 rfl rfl)
theorem dX0_right_110 : decode cX0_right 110 = .ok (.iload 8, 2) := dk_21 8 (dk_at dksX0_right_4 14 rfl rfl)
theorem dX0_right_112 : decode cX0_right 112 = .ok (.invokestatic 4, 3) := dk_184 0 4 (dk_at dksX0_right_4 16 rfl rfl)
theorem dX0_right_115 : decode cX0_right 115 = .ok (.goto 5, 3) := dk_167 0 5 (dk_at dksX0_right_4 19 rfl rfl)
theorem dX0_right_118 : decode cX0_right 118 = .ok (.iload 6, 2) := dk_21 6 (dk_at dksX0_right_4 22 rfl rfl)
theorem dX0_right_120 : decode cX0_right 120 = .ok (.istore 6, 2) := dk_54 6 (dk_at dksX0_right_5 0 rfl rfl)
theorem dX0_right_122 : decode cX0_right 122 = .ok (.iinc 7 1, 3) := dk_132 7 1 (dk_at dksX0_right_5 2 rfl rfl)
theorem dX0_right_125 : decode cX0_right 125 = .ok (.goto (-74), 3) := dk_167 255 182 (dk_at dksX0_right_5 5 rfl rfl)
theorem dX0_right_128 : decode cX0_right 128 = .ok (.aload_n 3, 1) := dk_45 (dk_at dksX0_right_5 8 rfl rfl)
theorem dX0_right_129 : decode cX0_right 129 = .ok (.iload 4, 2) := dk_21 4 (dk_at dksX0_right_5 9 rfl rfl)
theorem dX0_right_131 : decode cX0_right 131 = .ok (.putfield 261, 3) := dk_181 1 5 (dk_at dksX0_right_5 11 rfl rfl)
theorem dX0_right_134 : decode cX0_right 134 = .ok (.iload 5, 2) := dk_21 5 (dk_at dksX0_right_5 14 rfl rfl)
theorem dX0_right_136 : decode cX0_right 136 = .ok (.iconst (-1), 1) := dk_2 (dk_at dksX0_right_5 16 rfl rfl)
theorem dX0_right_137 : decode cX0_right 137 = .ok (.if_icmp .ne 8, 3) := dk_160 0 8 (dk_at dksX0_right_5 17 rfl rfl)
theorem dX0_right_140 : decode cX0_right 140 = .ok (.ldc 3, 2) := dk_18 3 (dk_at dksX0_right_5 20 rfl rfl)
theorem dX0_right_142 : decode cX0_right 142 = .ok (.goto 14, 3) := dk_167 0 14 (dk_at dksX0_right_6 0 rfl rfl)
theorem dX0_right_145 : decode cX0_right 145 = .ok (.iload_n 2, 1) := dk_28 (dk_at dksX0_right_6 3 rfl rfl)
theorem dX0_right_146 : decode cX0_right 146 = .ok (.ifCond .ne 8, 3) := dk_154 0 8 (dk_at dksX0_right_6 4 rfl rfl)
theorem dX0_right_149 : decode cX0_right 149 = .ok (.iload 5, 2) := dk_21 5 (dk_at dksX0_right_6 7 rfl rfl)
theorem dX0_right_151 : decode cX0_right 151 = .ok (.goto 5, 3) := dk_167 0 5 (dk_at dksX0_right_6 9 rfl rfl)
theorem dX0_right_154 : decode cX0_right 154 = .ok (.iload 6, 2) := dk_21 6 (dk_at dksX0_right_6 12 rfl rfl)
theorem dX0_right_156 : decode cX0_right 156 = .ok (.ireturn, 1) := dk_172 (dk_at dksX0_right_6 14 rfl rfl)
abbrev cX0_telling : ByteArray := prog_1_method_69_code
def yX0_telling : MethodName := ⟨RX0, "telling", "()I"⟩
def dkwX0_telling_5 : List UInt8 := [172]
abbrev dktX0_telling_5 : List UInt8 := dkwX0_telling_5 ++ []
def dkwX0_telling_4 : List UInt8 := [132, 4, 1, 167, 255, 179, 27, 16, 60, 161, 0, 6, 18, 3, 172, 132, 2, 1, 167, 255, 152, 27, 4, 96]
abbrev dktX0_telling_4 : List UInt8 := dkwX0_telling_4 ++ dktX0_telling_5
def dkwX0_telling_3 : List UInt8 := [62, 21, 5, 16, 60, 108, 21, 6, 16, 60, 108, 159, 0, 11, 27, 29, 184, 0, 10, 167, 0, 4, 27, 60]
abbrev dktX0_telling_3 : List UInt8 := dkwX0_telling_3 ++ dktX0_telling_4
def dkwX0_telling_2 : List UInt8 := [42, 180, 0, 77, 21, 5, 46, 42, 180, 0, 77, 21, 6, 46, 160, 0, 9, 29, 4, 96, 167, 0, 4, 3]
abbrev dktX0_telling_2 : List UInt8 := dkwX0_telling_2 ++ dktX0_telling_3
def dkwX0_telling_1 : List UInt8 := [17, 5, 160, 162, 0, 75, 21, 4, 17, 2, 208, 112, 54, 5, 21, 5, 28, 96, 17, 2, 208, 112, 54, 6]
abbrev dktX0_telling_1 : List UInt8 := dkwX0_telling_1 ++ dktX0_telling_2
def dkwX0_telling_0 : List UInt8 := [42, 182, 1, 131, 3, 60, 4, 61, 28, 17, 1, 104, 163, 0, 103, 3, 62, 3, 54, 4, 21, 4]
abbrev dktX0_telling_0 : List UInt8 := dkwX0_telling_0 ++ dktX0_telling_1
theorem dksX0_telling_0 : cX0_telling.data.toList.drop 0 = dktX0_telling_0 := by decide +kernel
theorem dksX0_telling_1 : cX0_telling.data.toList.drop 22 = dktX0_telling_1 := dk_seg dksX0_telling_0 22 rfl rfl
theorem dksX0_telling_2 : cX0_telling.data.toList.drop 46 = dktX0_telling_2 := dk_seg dksX0_telling_1 24 rfl rfl
theorem dksX0_telling_3 : cX0_telling.data.toList.drop 70 = dktX0_telling_3 := dk_seg dksX0_telling_2 24 rfl rfl
theorem dksX0_telling_4 : cX0_telling.data.toList.drop 94 = dktX0_telling_4 := dk_seg dksX0_telling_3 24 rfl rfl
theorem dksX0_telling_5 : cX0_telling.data.toList.drop 118 = dktX0_telling_5 := dk_seg dksX0_telling_4 24 rfl rfl
theorem dX0_telling_0 : decode cX0_telling 0 = .ok (.aload_n 0, 1) := dk_42 (dk_at dksX0_telling_0 0 rfl rfl)
theorem dX0_telling_1 : decode cX0_telling 1 = .ok (.invokevirtual 387, 3) := dk_182 1 131 (dk_at dksX0_telling_0 1 rfl rfl)
theorem dX0_telling_4 : decode cX0_telling 4 = .ok (.iconst 0, 1) := dk_3 (dk_at dksX0_telling_0 4 rfl rfl)
theorem dX0_telling_5 : decode cX0_telling 5 = .ok (.istore_n 1, 1) := dk_60 (dk_at dksX0_telling_0 5 rfl rfl)
theorem dX0_telling_6 : decode cX0_telling 6 = .ok (.iconst 1, 1) := dk_4 (dk_at dksX0_telling_0 6 rfl rfl)
theorem dX0_telling_7 : decode cX0_telling 7 = .ok (.istore_n 2, 1) := dk_61 (dk_at dksX0_telling_0 7 rfl rfl)
theorem dX0_telling_8 : decode cX0_telling 8 = .ok (.iload_n 2, 1) := dk_28 (dk_at dksX0_telling_0 8 rfl rfl)
theorem dX0_telling_9 : decode cX0_telling 9 = .ok (.sipush 360, 3) := dk_17 1 104 (dk_at dksX0_telling_0 9 rfl rfl)
theorem dX0_telling_12 : decode cX0_telling 12 = .ok (.if_icmp .gt 103, 3) := dk_163 0 103 (dk_at dksX0_telling_0 12 rfl rfl)
theorem dX0_telling_15 : decode cX0_telling 15 = .ok (.iconst 0, 1) := dk_3 (dk_at dksX0_telling_0 15 rfl rfl)
theorem dX0_telling_16 : decode cX0_telling 16 = .ok (.istore_n 3, 1) := dk_62 (dk_at dksX0_telling_0 16 rfl rfl)
theorem dX0_telling_17 : decode cX0_telling 17 = .ok (.iconst 0, 1) := dk_3 (dk_at dksX0_telling_0 17 rfl rfl)
theorem dX0_telling_18 : decode cX0_telling 18 = .ok (.istore 4, 2) := dk_54 4 (dk_at dksX0_telling_0 18 rfl rfl)
theorem dX0_telling_20 : decode cX0_telling 20 = .ok (.iload 4, 2) := dk_21 4 (dk_at dksX0_telling_0 20 rfl rfl)
theorem dX0_telling_22 : decode cX0_telling 22 = .ok (.sipush 1440, 3) := dk_17 5 160 (dk_at dksX0_telling_1 0 rfl rfl)
theorem dX0_telling_25 : decode cX0_telling 25 = .ok (.if_icmp .ge 75, 3) := dk_162 0 75 (dk_at dksX0_telling_1 3 rfl rfl)
theorem dX0_telling_28 : decode cX0_telling 28 = .ok (.iload 4, 2) := dk_21 4 (dk_at dksX0_telling_1 6 rfl rfl)
theorem dX0_telling_30 : decode cX0_telling 30 = .ok (.sipush 720, 3) := dk_17 2 208 (dk_at dksX0_telling_1 8 rfl rfl)
theorem dX0_telling_33 : decode cX0_telling 33 = .ok (.irem, 1) := dk_112 (dk_at dksX0_telling_1 11 rfl rfl)
theorem dX0_telling_34 : decode cX0_telling 34 = .ok (.istore 5, 2) := dk_54 5 (dk_at dksX0_telling_1 12 rfl rfl)
theorem dX0_telling_36 : decode cX0_telling 36 = .ok (.iload 5, 2) := dk_21 5 (dk_at dksX0_telling_1 14 rfl rfl)
theorem dX0_telling_38 : decode cX0_telling 38 = .ok (.iload_n 2, 1) := dk_28 (dk_at dksX0_telling_1 16 rfl rfl)
theorem dX0_telling_39 : decode cX0_telling 39 = .ok (.iadd, 1) := dk_96 (dk_at dksX0_telling_1 17 rfl rfl)
theorem dX0_telling_40 : decode cX0_telling 40 = .ok (.sipush 720, 3) := dk_17 2 208 (dk_at dksX0_telling_1 18 rfl rfl)
theorem dX0_telling_43 : decode cX0_telling 43 = .ok (.irem, 1) := dk_112 (dk_at dksX0_telling_1 21 rfl rfl)
theorem dX0_telling_44 : decode cX0_telling 44 = .ok (.istore 6, 2) := dk_54 6 (dk_at dksX0_telling_1 22 rfl rfl)
theorem dX0_telling_46 : decode cX0_telling 46 = .ok (.aload_n 0, 1) := dk_42 (dk_at dksX0_telling_2 0 rfl rfl)
theorem dX0_telling_47 : decode cX0_telling 47 = .ok (.getfield 77, 3) := dk_180 0 77 (dk_at dksX0_telling_2 1 rfl rfl)
theorem dX0_telling_50 : decode cX0_telling 50 = .ok (.iload 5, 2) := dk_21 5 (dk_at dksX0_telling_2 4 rfl rfl)
theorem dX0_telling_52 : decode cX0_telling 52 = .ok (.iaload, 1) := dk_46 (dk_at dksX0_telling_2 6 rfl rfl)
theorem dX0_telling_53 : decode cX0_telling 53 = .ok (.aload_n 0, 1) := dk_42 (dk_at dksX0_telling_2 7 rfl rfl)
theorem dX0_telling_54 : decode cX0_telling 54 = .ok (.getfield 77, 3) := dk_180 0 77 (dk_at dksX0_telling_2 8 rfl rfl)
theorem dX0_telling_57 : decode cX0_telling 57 = .ok (.iload 6, 2) := dk_21 6 (dk_at dksX0_telling_2 11 rfl rfl)
theorem dX0_telling_59 : decode cX0_telling 59 = .ok (.iaload, 1) := dk_46 (dk_at dksX0_telling_2 13 rfl rfl)
theorem dX0_telling_60 : decode cX0_telling 60 = .ok (.if_icmp .ne 9, 3) := dk_160 0 9 (dk_at dksX0_telling_2 14 rfl rfl)
theorem dX0_telling_63 : decode cX0_telling 63 = .ok (.iload_n 3, 1) := dk_29 (dk_at dksX0_telling_2 17 rfl rfl)
theorem dX0_telling_64 : decode cX0_telling 64 = .ok (.iconst 1, 1) := dk_4 (dk_at dksX0_telling_2 18 rfl rfl)
theorem dX0_telling_65 : decode cX0_telling 65 = .ok (.iadd, 1) := dk_96 (dk_at dksX0_telling_2 19 rfl rfl)
theorem dX0_telling_66 : decode cX0_telling 66 = .ok (.goto 4, 3) := dk_167 0 4 (dk_at dksX0_telling_2 20 rfl rfl)
theorem dX0_telling_69 : decode cX0_telling 69 = .ok (.iconst 0, 1) := dk_3 (dk_at dksX0_telling_2 23 rfl rfl)
theorem dX0_telling_70 : decode cX0_telling 70 = .ok (.istore_n 3, 1) := dk_62 (dk_at dksX0_telling_3 0 rfl rfl)
theorem dX0_telling_71 : decode cX0_telling 71 = .ok (.iload 5, 2) := dk_21 5 (dk_at dksX0_telling_3 1 rfl rfl)
theorem dX0_telling_73 : decode cX0_telling 73 = .ok (.bipush 60, 2) := dk_16 60 (dk_at dksX0_telling_3 3 rfl rfl)
theorem dX0_telling_75 : decode cX0_telling 75 = .ok (.idiv, 1) := dk_108 (dk_at dksX0_telling_3 5 rfl rfl)
theorem dX0_telling_76 : decode cX0_telling 76 = .ok (.iload 6, 2) := dk_21 6 (dk_at dksX0_telling_3 6 rfl rfl)
theorem dX0_telling_78 : decode cX0_telling 78 = .ok (.bipush 60, 2) := dk_16 60 (dk_at dksX0_telling_3 8 rfl rfl)
theorem dX0_telling_80 : decode cX0_telling 80 = .ok (.idiv, 1) := dk_108 (dk_at dksX0_telling_3 10 rfl rfl)
theorem dX0_telling_81 : decode cX0_telling 81 = .ok (.if_icmp .eq 11, 3) := dk_159 0 11 (dk_at dksX0_telling_3 11 rfl rfl)
theorem dX0_telling_84 : decode cX0_telling 84 = .ok (.iload_n 1, 1) := dk_27 (dk_at dksX0_telling_3 14 rfl rfl)
theorem dX0_telling_85 : decode cX0_telling 85 = .ok (.iload_n 3, 1) := dk_29 (dk_at dksX0_telling_3 15 rfl rfl)
theorem dX0_telling_86 : decode cX0_telling 86 = .ok (.invokestatic 10, 3) := dk_184 0 10 (dk_at dksX0_telling_3 16 rfl rfl)
theorem dX0_telling_89 : decode cX0_telling 89 = .ok (.goto 4, 3) := dk_167 0 4 (dk_at dksX0_telling_3 19 rfl rfl)
theorem dX0_telling_92 : decode cX0_telling 92 = .ok (.iload_n 1, 1) := dk_27 (dk_at dksX0_telling_3 22 rfl rfl)
theorem dX0_telling_93 : decode cX0_telling 93 = .ok (.istore_n 1, 1) := dk_60 (dk_at dksX0_telling_3 23 rfl rfl)
theorem dX0_telling_94 : decode cX0_telling 94 = .ok (.iinc 4 1, 3) := dk_132 4 1 (dk_at dksX0_telling_4 0 rfl rfl)
theorem dX0_telling_97 : decode cX0_telling 97 = .ok (.goto (-77), 3) := dk_167 255 179 (dk_at dksX0_telling_4 3 rfl rfl)
theorem dX0_telling_100 : decode cX0_telling 100 = .ok (.iload_n 1, 1) := dk_27 (dk_at dksX0_telling_4 6 rfl rfl)
theorem dX0_telling_101 : decode cX0_telling 101 = .ok (.bipush 60, 2) := dk_16 60 (dk_at dksX0_telling_4 7 rfl rfl)
theorem dX0_telling_103 : decode cX0_telling 103 = .ok (.if_icmp .lt 6, 3) := dk_161 0 6 (dk_at dksX0_telling_4 9 rfl rfl)
theorem dX0_telling_106 : decode cX0_telling 106 = .ok (.ldc 3, 2) := dk_18 3 (dk_at dksX0_telling_4 12 rfl rfl)
theorem dX0_telling_108 : decode cX0_telling 108 = .ok (.ireturn, 1) := dk_172 (dk_at dksX0_telling_4 14 rfl rfl)
theorem dX0_telling_109 : decode cX0_telling 109 = .ok (.iinc 2 1, 3) := dk_132 2 1 (dk_at dksX0_telling_4 15 rfl rfl)
theorem dX0_telling_112 : decode cX0_telling 112 = .ok (.goto (-104), 3) := dk_167 255 152 (dk_at dksX0_telling_4 18 rfl rfl)
theorem dX0_telling_115 : decode cX0_telling 115 = .ok (.iload_n 1, 1) := dk_27 (dk_at dksX0_telling_4 21 rfl rfl)
theorem dX0_telling_116 : decode cX0_telling 116 = .ok (.iconst 1, 1) := dk_4 (dk_at dksX0_telling_4 22 rfl rfl)
theorem dX0_telling_117 : decode cX0_telling 117 = .ok (.iadd, 1) := dk_96 (dk_at dksX0_telling_4 23 rfl rfl)
theorem dX0_telling_118 : decode cX0_telling 118 = .ok (.ireturn, 1) := dk_172 (dk_at dksX0_telling_5 0 rfl rfl)
abbrev cX0_behind : ByteArray := prog_1_method_72_code
def yX0_behind : MethodName := ⟨RX0, "behind", "(II)I"⟩
def dkwX0_behind_3 : List UInt8 := [180, 0, 46, 180, 1, 98, 167, 0, 7, 42, 182, 1, 134, 62, 42, 182, 1, 154, 29, 172]
abbrev dktX0_behind_3 : List UInt8 := dkwX0_behind_3 ++ []
def dkwX0_behind_2 : List UInt8 := [167, 0, 37, 28, 4, 160, 0, 13, 42, 180, 0, 46, 180, 1, 92, 167, 0, 22, 28, 5, 160, 0, 13, 42]
abbrev dktX0_behind_2 : List UInt8 := dkwX0_behind_2 ++ dktX0_behind_3
def dkwX0_behind_1 : List UInt8 := [182, 1, 151, 42, 27, 182, 1, 107, 42, 182, 1, 131, 28, 154, 0, 13, 42, 180, 0, 46, 180, 1, 95]
abbrev dktX0_behind_1 : List UInt8 := dkwX0_behind_1 ++ dktX0_behind_2
def dkwX0_behind_0 : List UInt8 := [27, 3, 16, 100, 184, 0, 108, 153, 0, 12, 28, 3, 6, 184, 0, 108, 154, 0, 6, 18, 133, 172, 42]
abbrev dktX0_behind_0 : List UInt8 := dkwX0_behind_0 ++ dktX0_behind_1
theorem dksX0_behind_0 : cX0_behind.data.toList.drop 0 = dktX0_behind_0 := by decide +kernel
theorem dksX0_behind_1 : cX0_behind.data.toList.drop 23 = dktX0_behind_1 := dk_seg dksX0_behind_0 23 rfl rfl
theorem dksX0_behind_2 : cX0_behind.data.toList.drop 46 = dktX0_behind_2 := dk_seg dksX0_behind_1 23 rfl rfl
theorem dksX0_behind_3 : cX0_behind.data.toList.drop 70 = dktX0_behind_3 := dk_seg dksX0_behind_2 24 rfl rfl
theorem dX0_behind_0 : decode cX0_behind 0 = .ok (.iload_n 1, 1) := dk_27 (dk_at dksX0_behind_0 0 rfl rfl)
theorem dX0_behind_1 : decode cX0_behind 1 = .ok (.iconst 0, 1) := dk_3 (dk_at dksX0_behind_0 1 rfl rfl)
theorem dX0_behind_2 : decode cX0_behind 2 = .ok (.bipush 100, 2) := dk_16 100 (dk_at dksX0_behind_0 2 rfl rfl)
theorem dX0_behind_4 : decode cX0_behind 4 = .ok (.invokestatic 108, 3) := dk_184 0 108 (dk_at dksX0_behind_0 4 rfl rfl)
theorem dX0_behind_7 : decode cX0_behind 7 = .ok (.ifCond .eq 12, 3) := dk_153 0 12 (dk_at dksX0_behind_0 7 rfl rfl)
theorem dX0_behind_10 : decode cX0_behind 10 = .ok (.iload_n 2, 1) := dk_28 (dk_at dksX0_behind_0 10 rfl rfl)
theorem dX0_behind_11 : decode cX0_behind 11 = .ok (.iconst 0, 1) := dk_3 (dk_at dksX0_behind_0 11 rfl rfl)
theorem dX0_behind_12 : decode cX0_behind 12 = .ok (.iconst 3, 1) := dk_6 (dk_at dksX0_behind_0 12 rfl rfl)
theorem dX0_behind_13 : decode cX0_behind 13 = .ok (.invokestatic 108, 3) := dk_184 0 108 (dk_at dksX0_behind_0 13 rfl rfl)
theorem dX0_behind_16 : decode cX0_behind 16 = .ok (.ifCond .ne 6, 3) := dk_154 0 6 (dk_at dksX0_behind_0 16 rfl rfl)
theorem dX0_behind_19 : decode cX0_behind 19 = .ok (.ldc 133, 2) := dk_18 133 (dk_at dksX0_behind_0 19 rfl rfl)
theorem dX0_behind_21 : decode cX0_behind 21 = .ok (.ireturn, 1) := dk_172 (dk_at dksX0_behind_0 21 rfl rfl)
theorem dX0_behind_22 : decode cX0_behind 22 = .ok (.aload_n 0, 1) := dk_42 (dk_at dksX0_behind_0 22 rfl rfl)
theorem dX0_behind_23 : decode cX0_behind 23 = .ok (.invokevirtual 407, 3) := dk_182 1 151 (dk_at dksX0_behind_1 0 rfl rfl)
theorem dX0_behind_26 : decode cX0_behind 26 = .ok (.aload_n 0, 1) := dk_42 (dk_at dksX0_behind_1 3 rfl rfl)
theorem dX0_behind_27 : decode cX0_behind 27 = .ok (.iload_n 1, 1) := dk_27 (dk_at dksX0_behind_1 4 rfl rfl)
theorem dX0_behind_28 : decode cX0_behind 28 = .ok (.invokevirtual 363, 3) := dk_182 1 107 (dk_at dksX0_behind_1 5 rfl rfl)
theorem dX0_behind_31 : decode cX0_behind 31 = .ok (.aload_n 0, 1) := dk_42 (dk_at dksX0_behind_1 8 rfl rfl)
theorem dX0_behind_32 : decode cX0_behind 32 = .ok (.invokevirtual 387, 3) := dk_182 1 131 (dk_at dksX0_behind_1 9 rfl rfl)
theorem dX0_behind_35 : decode cX0_behind 35 = .ok (.iload_n 2, 1) := dk_28 (dk_at dksX0_behind_1 12 rfl rfl)
theorem dX0_behind_36 : decode cX0_behind 36 = .ok (.ifCond .ne 13, 3) := dk_154 0 13 (dk_at dksX0_behind_1 13 rfl rfl)
theorem dX0_behind_39 : decode cX0_behind 39 = .ok (.aload_n 0, 1) := dk_42 (dk_at dksX0_behind_1 16 rfl rfl)
theorem dX0_behind_40 : decode cX0_behind 40 = .ok (.getfield 46, 3) := dk_180 0 46 (dk_at dksX0_behind_1 17 rfl rfl)
theorem dX0_behind_43 : decode cX0_behind 43 = .ok (.getfield 351, 3) := dk_180 1 95 (dk_at dksX0_behind_1 20 rfl rfl)
theorem dX0_behind_46 : decode cX0_behind 46 = .ok (.goto 37, 3) := dk_167 0 37 (dk_at dksX0_behind_2 0 rfl rfl)
theorem dX0_behind_49 : decode cX0_behind 49 = .ok (.iload_n 2, 1) := dk_28 (dk_at dksX0_behind_2 3 rfl rfl)
theorem dX0_behind_50 : decode cX0_behind 50 = .ok (.iconst 1, 1) := dk_4 (dk_at dksX0_behind_2 4 rfl rfl)
theorem dX0_behind_51 : decode cX0_behind 51 = .ok (.if_icmp .ne 13, 3) := dk_160 0 13 (dk_at dksX0_behind_2 5 rfl rfl)
theorem dX0_behind_54 : decode cX0_behind 54 = .ok (.aload_n 0, 1) := dk_42 (dk_at dksX0_behind_2 8 rfl rfl)
theorem dX0_behind_55 : decode cX0_behind 55 = .ok (.getfield 46, 3) := dk_180 0 46 (dk_at dksX0_behind_2 9 rfl rfl)
theorem dX0_behind_58 : decode cX0_behind 58 = .ok (.getfield 348, 3) := dk_180 1 92 (dk_at dksX0_behind_2 12 rfl rfl)
theorem dX0_behind_61 : decode cX0_behind 61 = .ok (.goto 22, 3) := dk_167 0 22 (dk_at dksX0_behind_2 15 rfl rfl)
theorem dX0_behind_64 : decode cX0_behind 64 = .ok (.iload_n 2, 1) := dk_28 (dk_at dksX0_behind_2 18 rfl rfl)
theorem dX0_behind_65 : decode cX0_behind 65 = .ok (.iconst 2, 1) := dk_5 (dk_at dksX0_behind_2 19 rfl rfl)
theorem dX0_behind_66 : decode cX0_behind 66 = .ok (.if_icmp .ne 13, 3) := dk_160 0 13 (dk_at dksX0_behind_2 20 rfl rfl)
theorem dX0_behind_69 : decode cX0_behind 69 = .ok (.aload_n 0, 1) := dk_42 (dk_at dksX0_behind_2 23 rfl rfl)
theorem dX0_behind_70 : decode cX0_behind 70 = .ok (.getfield 46, 3) := dk_180 0 46 (dk_at dksX0_behind_3 0 rfl rfl)
theorem dX0_behind_73 : decode cX0_behind 73 = .ok (.getfield 354, 3) := dk_180 1 98 (dk_at dksX0_behind_3 3 rfl rfl)
theorem dX0_behind_76 : decode cX0_behind 76 = .ok (.goto 7, 3) := dk_167 0 7 (dk_at dksX0_behind_3 6 rfl rfl)
theorem dX0_behind_79 : decode cX0_behind 79 = .ok (.aload_n 0, 1) := dk_42 (dk_at dksX0_behind_3 9 rfl rfl)
theorem dX0_behind_80 : decode cX0_behind 80 = .ok (.invokevirtual 390, 3) := dk_182 1 134 (dk_at dksX0_behind_3 10 rfl rfl)
theorem dX0_behind_83 : decode cX0_behind 83 = .ok (.istore_n 3, 1) := dk_62 (dk_at dksX0_behind_3 13 rfl rfl)
theorem dX0_behind_84 : decode cX0_behind 84 = .ok (.aload_n 0, 1) := dk_42 (dk_at dksX0_behind_3 14 rfl rfl)
theorem dX0_behind_85 : decode cX0_behind 85 = .ok (.invokevirtual 410, 3) := dk_182 1 154 (dk_at dksX0_behind_3 15 rfl rfl)
theorem dX0_behind_88 : decode cX0_behind 88 = .ok (.iload_n 3, 1) := dk_29 (dk_at dksX0_behind_3 18 rfl rfl)
theorem dX0_behind_89 : decode cX0_behind 89 = .ok (.ireturn, 1) := dk_172 (dk_at dksX0_behind_3 19 rfl rfl)
abbrev cX0_thinks : ByteArray := prog_1_method_70_code
def yX0_thinks : MethodName := ⟨RX0, "thinks", "()V"⟩
def dkwX0_thinks_0 : List UInt8 := [42, 180, 0, 56, 42, 180, 0, 46, 182, 1, 147, 177]
abbrev dktX0_thinks_0 : List UInt8 := dkwX0_thinks_0 ++ []
theorem dksX0_thinks_0 : cX0_thinks.data.toList.drop 0 = dktX0_thinks_0 := by decide +kernel
theorem dX0_thinks_0 : decode cX0_thinks 0 = .ok (.aload_n 0, 1) := dk_42 (dk_at dksX0_thinks_0 0 rfl rfl)
theorem dX0_thinks_1 : decode cX0_thinks 1 = .ok (.getfield 56, 3) := dk_180 0 56 (dk_at dksX0_thinks_0 1 rfl rfl)
theorem dX0_thinks_4 : decode cX0_thinks 4 = .ok (.aload_n 0, 1) := dk_42 (dk_at dksX0_thinks_0 4 rfl rfl)
theorem dX0_thinks_5 : decode cX0_thinks 5 = .ok (.getfield 46, 3) := dk_180 0 46 (dk_at dksX0_thinks_0 5 rfl rfl)
theorem dX0_thinks_8 : decode cX0_thinks 8 = .ok (.invokevirtual 403, 3) := dk_182 1 147 (dk_at dksX0_thinks_0 8 rfl rfl)
theorem dX0_thinks_11 : decode cX0_thinks 11 = .ok (.return_, 1) := dk_177 (dk_at dksX0_thinks_0 11 rfl rfl)
abbrev cX0_copyRow : ByteArray := prog_1_method_5_code
def yX0_copyRow : MethodName := ⟨RX0, "copyRow", "([I[I)V"⟩
def dkwX0_copyRow_0 : List UInt8 := [42, 3, 43, 3, 43, 190, 184, 0, 34, 177]
abbrev dktX0_copyRow_0 : List UInt8 := dkwX0_copyRow_0 ++ []
theorem dksX0_copyRow_0 : cX0_copyRow.data.toList.drop 0 = dktX0_copyRow_0 := by decide +kernel
theorem dX0_copyRow_0 : decode cX0_copyRow 0 = .ok (.aload_n 0, 1) := dk_42 (dk_at dksX0_copyRow_0 0 rfl rfl)
theorem dX0_copyRow_1 : decode cX0_copyRow 1 = .ok (.iconst 0, 1) := dk_3 (dk_at dksX0_copyRow_0 1 rfl rfl)
theorem dX0_copyRow_2 : decode cX0_copyRow 2 = .ok (.aload_n 1, 1) := dk_43 (dk_at dksX0_copyRow_0 2 rfl rfl)
theorem dX0_copyRow_3 : decode cX0_copyRow 3 = .ok (.iconst 0, 1) := dk_3 (dk_at dksX0_copyRow_0 3 rfl rfl)
theorem dX0_copyRow_4 : decode cX0_copyRow 4 = .ok (.aload_n 1, 1) := dk_43 (dk_at dksX0_copyRow_0 4 rfl rfl)
theorem dX0_copyRow_5 : decode cX0_copyRow 5 = .ok (.arraylength, 1) := dk_190 (dk_at dksX0_copyRow_0 5 rfl rfl)
theorem dX0_copyRow_6 : decode cX0_copyRow 6 = .ok (.invokestatic 34, 3) := dk_184 0 34 (dk_at dksX0_copyRow_0 6 rfl rfl)
theorem dX0_copyRow_9 : decode cX0_copyRow 9 = .ok (.return_, 1) := dk_177 (dk_at dksX0_copyRow_0 9 rfl rfl)
abbrev cX0_putsBack : ByteArray := prog_1_method_71_code
def yX0_putsBack : MethodName := ⟨RX0, "putsBack", "()V"⟩
def dkwX0_putsBack_0 : List UInt8 := [42, 180, 0, 46, 42, 180, 0, 56, 182, 1, 147, 177]
abbrev dktX0_putsBack_0 : List UInt8 := dkwX0_putsBack_0 ++ []
theorem dksX0_putsBack_0 : cX0_putsBack.data.toList.drop 0 = dktX0_putsBack_0 := by decide +kernel
theorem dX0_putsBack_0 : decode cX0_putsBack 0 = .ok (.aload_n 0, 1) := dk_42 (dk_at dksX0_putsBack_0 0 rfl rfl)
theorem dX0_putsBack_1 : decode cX0_putsBack 1 = .ok (.getfield 46, 3) := dk_180 0 46 (dk_at dksX0_putsBack_0 1 rfl rfl)
theorem dX0_putsBack_4 : decode cX0_putsBack 4 = .ok (.aload_n 0, 1) := dk_42 (dk_at dksX0_putsBack_0 4 rfl rfl)
theorem dX0_putsBack_5 : decode cX0_putsBack 5 = .ok (.getfield 56, 3) := dk_180 0 56 (dk_at dksX0_putsBack_0 5 rfl rfl)
theorem dX0_putsBack_8 : decode cX0_putsBack 8 = .ok (.invokevirtual 403, 3) := dk_182 1 147 (dk_at dksX0_putsBack_0 8 rfl rfl)
theorem dX0_putsBack_11 : decode cX0_putsBack 11 = .ok (.return_, 1) := dk_177 (dk_at dksX0_putsBack_0 11 rfl rfl)
abbrev cX0_listen : ByteArray := prog_1_method_73_code
def yX0_listen : MethodName := ⟨RX0, "listen", "()I"⟩
def dkwX0_listen_1 : List UInt8 := [132, 1, 1, 167, 255, 236, 42, 182, 1, 154, 27, 16, 60, 163, 0, 7, 27, 167, 0, 5, 18, 3, 172]
abbrev dktX0_listen_1 : List UInt8 := dkwX0_listen_1 ++ []
def dkwX0_listen_0 : List UInt8 := [42, 182, 1, 151, 3, 60, 27, 16, 60, 163, 0, 20, 42, 182, 1, 142, 154, 0, 13, 42, 182, 1, 104]
abbrev dktX0_listen_0 : List UInt8 := dkwX0_listen_0 ++ dktX0_listen_1
theorem dksX0_listen_0 : cX0_listen.data.toList.drop 0 = dktX0_listen_0 := by decide +kernel
theorem dksX0_listen_1 : cX0_listen.data.toList.drop 23 = dktX0_listen_1 := dk_seg dksX0_listen_0 23 rfl rfl
theorem dX0_listen_0 : decode cX0_listen 0 = .ok (.aload_n 0, 1) := dk_42 (dk_at dksX0_listen_0 0 rfl rfl)
theorem dX0_listen_1 : decode cX0_listen 1 = .ok (.invokevirtual 407, 3) := dk_182 1 151 (dk_at dksX0_listen_0 1 rfl rfl)
theorem dX0_listen_4 : decode cX0_listen 4 = .ok (.iconst 0, 1) := dk_3 (dk_at dksX0_listen_0 4 rfl rfl)
theorem dX0_listen_5 : decode cX0_listen 5 = .ok (.istore_n 1, 1) := dk_60 (dk_at dksX0_listen_0 5 rfl rfl)
theorem dX0_listen_6 : decode cX0_listen 6 = .ok (.iload_n 1, 1) := dk_27 (dk_at dksX0_listen_0 6 rfl rfl)
theorem dX0_listen_7 : decode cX0_listen 7 = .ok (.bipush 60, 2) := dk_16 60 (dk_at dksX0_listen_0 7 rfl rfl)
theorem dX0_listen_9 : decode cX0_listen 9 = .ok (.if_icmp .gt 20, 3) := dk_163 0 20 (dk_at dksX0_listen_0 9 rfl rfl)
theorem dX0_listen_12 : decode cX0_listen 12 = .ok (.aload_n 0, 1) := dk_42 (dk_at dksX0_listen_0 12 rfl rfl)
theorem dX0_listen_13 : decode cX0_listen 13 = .ok (.invokevirtual 398, 3) := dk_182 1 142 (dk_at dksX0_listen_0 13 rfl rfl)
theorem dX0_listen_16 : decode cX0_listen 16 = .ok (.ifCond .ne 13, 3) := dk_154 0 13 (dk_at dksX0_listen_0 16 rfl rfl)
theorem dX0_listen_19 : decode cX0_listen 19 = .ok (.aload_n 0, 1) := dk_42 (dk_at dksX0_listen_0 19 rfl rfl)
theorem dX0_listen_20 : decode cX0_listen 20 = .ok (.invokevirtual 360, 3) := dk_182 1 104 (dk_at dksX0_listen_0 20 rfl rfl)
theorem dX0_listen_23 : decode cX0_listen 23 = .ok (.iinc 1 1, 3) := dk_132 1 1 (dk_at dksX0_listen_1 0 rfl rfl)
theorem dX0_listen_26 : decode cX0_listen 26 = .ok (.goto (-20), 3) := dk_167 255 236 (dk_at dksX0_listen_1 3 rfl rfl)
theorem dX0_listen_29 : decode cX0_listen 29 = .ok (.aload_n 0, 1) := dk_42 (dk_at dksX0_listen_1 6 rfl rfl)
theorem dX0_listen_30 : decode cX0_listen 30 = .ok (.invokevirtual 410, 3) := dk_182 1 154 (dk_at dksX0_listen_1 7 rfl rfl)
theorem dX0_listen_33 : decode cX0_listen 33 = .ok (.iload_n 1, 1) := dk_27 (dk_at dksX0_listen_1 10 rfl rfl)
theorem dX0_listen_34 : decode cX0_listen 34 = .ok (.bipush 60, 2) := dk_16 60 (dk_at dksX0_listen_1 11 rfl rfl)
theorem dX0_listen_36 : decode cX0_listen 36 = .ok (.if_icmp .gt 7, 3) := dk_163 0 7 (dk_at dksX0_listen_1 13 rfl rfl)
theorem dX0_listen_39 : decode cX0_listen 39 = .ok (.iload_n 1, 1) := dk_27 (dk_at dksX0_listen_1 16 rfl rfl)
theorem dX0_listen_40 : decode cX0_listen 40 = .ok (.goto 5, 3) := dk_167 0 5 (dk_at dksX0_listen_1 17 rfl rfl)
theorem dX0_listen_43 : decode cX0_listen 43 = .ok (.ldc 3, 2) := dk_18 3 (dk_at dksX0_listen_1 20 rfl rfl)
theorem dX0_listen_45 : decode cX0_listen 45 = .ok (.ireturn, 1) := dk_172 (dk_at dksX0_listen_1 22 rfl rfl)
abbrev cX0_fee : ByteArray := prog_1_method_74_code
def yX0_fee : MethodName := ⟨RX0, "fee", "()I"⟩
def dkwX0_fee_2 : List UInt8 := [42, 42, 180, 0, 46, 180, 0, 243, 27, 50, 180, 1, 22, 182, 1, 26, 172]
abbrev dktX0_fee_2 : List UInt8 := dkwX0_fee_2 ++ []
def dkwX0_fee_1 : List UInt8 := [16, 101, 42, 180, 0, 46, 180, 1, 95, 79, 42, 180, 0, 74, 16, 109, 42, 180, 0, 46, 180, 1, 92, 79]
abbrev dktX0_fee_1 : List UInt8 := dkwX0_fee_1 ++ dktX0_fee_2
def dkwX0_fee_0 : List UInt8 := [42, 4, 182, 0, 250, 60, 27, 2, 160, 0, 11, 42, 180, 0, 46, 180, 1, 95, 172, 42, 180, 0, 74]
abbrev dktX0_fee_0 : List UInt8 := dkwX0_fee_0 ++ dktX0_fee_1
theorem dksX0_fee_0 : cX0_fee.data.toList.drop 0 = dktX0_fee_0 := by decide +kernel
theorem dksX0_fee_1 : cX0_fee.data.toList.drop 23 = dktX0_fee_1 := dk_seg dksX0_fee_0 23 rfl rfl
theorem dksX0_fee_2 : cX0_fee.data.toList.drop 47 = dktX0_fee_2 := dk_seg dksX0_fee_1 24 rfl rfl
theorem dX0_fee_0 : decode cX0_fee 0 = .ok (.aload_n 0, 1) := dk_42 (dk_at dksX0_fee_0 0 rfl rfl)
theorem dX0_fee_1 : decode cX0_fee 1 = .ok (.iconst 1, 1) := dk_4 (dk_at dksX0_fee_0 1 rfl rfl)
theorem dX0_fee_2 : decode cX0_fee 2 = .ok (.invokevirtual 250, 3) := dk_182 0 250 (dk_at dksX0_fee_0 2 rfl rfl)
theorem dX0_fee_5 : decode cX0_fee 5 = .ok (.istore_n 1, 1) := dk_60 (dk_at dksX0_fee_0 5 rfl rfl)
theorem dX0_fee_6 : decode cX0_fee 6 = .ok (.iload_n 1, 1) := dk_27 (dk_at dksX0_fee_0 6 rfl rfl)
theorem dX0_fee_7 : decode cX0_fee 7 = .ok (.iconst (-1), 1) := dk_2 (dk_at dksX0_fee_0 7 rfl rfl)
theorem dX0_fee_8 : decode cX0_fee 8 = .ok (.if_icmp .ne 11, 3) := dk_160 0 11 (dk_at dksX0_fee_0 8 rfl rfl)
theorem dX0_fee_11 : decode cX0_fee 11 = .ok (.aload_n 0, 1) := dk_42 (dk_at dksX0_fee_0 11 rfl rfl)
theorem dX0_fee_12 : decode cX0_fee 12 = .ok (.getfield 46, 3) := dk_180 0 46 (dk_at dksX0_fee_0 12 rfl rfl)
theorem dX0_fee_15 : decode cX0_fee 15 = .ok (.getfield 351, 3) := dk_180 1 95 (dk_at dksX0_fee_0 15 rfl rfl)
theorem dX0_fee_18 : decode cX0_fee 18 = .ok (.ireturn, 1) := dk_172 (dk_at dksX0_fee_0 18 rfl rfl)
theorem dX0_fee_19 : decode cX0_fee 19 = .ok (.aload_n 0, 1) := dk_42 (dk_at dksX0_fee_0 19 rfl rfl)
theorem dX0_fee_20 : decode cX0_fee 20 = .ok (.getfield 74, 3) := dk_180 0 74 (dk_at dksX0_fee_0 20 rfl rfl)
theorem dX0_fee_23 : decode cX0_fee 23 = .ok (.bipush 101, 2) := dk_16 101 (dk_at dksX0_fee_1 0 rfl rfl)
theorem dX0_fee_25 : decode cX0_fee 25 = .ok (.aload_n 0, 1) := dk_42 (dk_at dksX0_fee_1 2 rfl rfl)
theorem dX0_fee_26 : decode cX0_fee 26 = .ok (.getfield 46, 3) := dk_180 0 46 (dk_at dksX0_fee_1 3 rfl rfl)
theorem dX0_fee_29 : decode cX0_fee 29 = .ok (.getfield 351, 3) := dk_180 1 95 (dk_at dksX0_fee_1 6 rfl rfl)
theorem dX0_fee_32 : decode cX0_fee 32 = .ok (.iastore, 1) := dk_79 (dk_at dksX0_fee_1 9 rfl rfl)
theorem dX0_fee_33 : decode cX0_fee 33 = .ok (.aload_n 0, 1) := dk_42 (dk_at dksX0_fee_1 10 rfl rfl)
theorem dX0_fee_34 : decode cX0_fee 34 = .ok (.getfield 74, 3) := dk_180 0 74 (dk_at dksX0_fee_1 11 rfl rfl)
theorem dX0_fee_37 : decode cX0_fee 37 = .ok (.bipush 109, 2) := dk_16 109 (dk_at dksX0_fee_1 14 rfl rfl)
theorem dX0_fee_39 : decode cX0_fee 39 = .ok (.aload_n 0, 1) := dk_42 (dk_at dksX0_fee_1 16 rfl rfl)
theorem dX0_fee_40 : decode cX0_fee 40 = .ok (.getfield 46, 3) := dk_180 0 46 (dk_at dksX0_fee_1 17 rfl rfl)
theorem dX0_fee_43 : decode cX0_fee 43 = .ok (.getfield 348, 3) := dk_180 1 92 (dk_at dksX0_fee_1 20 rfl rfl)
theorem dX0_fee_46 : decode cX0_fee 46 = .ok (.iastore, 1) := dk_79 (dk_at dksX0_fee_1 23 rfl rfl)
theorem dX0_fee_47 : decode cX0_fee 47 = .ok (.aload_n 0, 1) := dk_42 (dk_at dksX0_fee_2 0 rfl rfl)
theorem dX0_fee_48 : decode cX0_fee 48 = .ok (.aload_n 0, 1) := dk_42 (dk_at dksX0_fee_2 1 rfl rfl)
theorem dX0_fee_49 : decode cX0_fee 49 = .ok (.getfield 46, 3) := dk_180 0 46 (dk_at dksX0_fee_2 2 rfl rfl)
theorem dX0_fee_52 : decode cX0_fee 52 = .ok (.getfield 243, 3) := dk_180 0 243 (dk_at dksX0_fee_2 5 rfl rfl)
theorem dX0_fee_55 : decode cX0_fee 55 = .ok (.iload_n 1, 1) := dk_27 (dk_at dksX0_fee_2 8 rfl rfl)
theorem dX0_fee_56 : decode cX0_fee 56 = .ok (.aaload, 1) := dk_50 (dk_at dksX0_fee_2 9 rfl rfl)
theorem dX0_fee_57 : decode cX0_fee 57 = .ok (.getfield 278, 3) := dk_180 1 22 (dk_at dksX0_fee_2 10 rfl rfl)
theorem dX0_fee_60 : decode cX0_fee 60 = .ok (.invokevirtual 282, 3) := dk_182 1 26 (dk_at dksX0_fee_2 13 rfl rfl)
theorem dX0_fee_63 : decode cX0_fee 63 = .ok (.ireturn, 1) := dk_172 (dk_at dksX0_fee_2 16 rfl rfl)
abbrev cX0_fine : ByteArray := prog_1_method_75_code
def yX0_fine : MethodName := ⟨RX0, "fine", "(I)I"⟩
def dkwX0_fine_3 : List UInt8 := [180, 1, 22, 182, 1, 26, 172]
abbrev dktX0_fine_3 : List UInt8 := dkwX0_fine_3 ++ []
def dkwX0_fine_2 : List UInt8 := [79, 42, 180, 0, 74, 16, 116, 44, 180, 1, 8, 79, 42, 42, 180, 0, 46, 180, 0, 243, 29, 50]
abbrev dktX0_fine_2 : List UInt8 := dkwX0_fine_2 ++ dktX0_fine_3
def dkwX0_fine_1 : List UInt8 := [182, 0, 250, 62, 29, 2, 160, 0, 8, 44, 180, 1, 5, 172, 42, 180, 0, 74, 16, 111, 44, 180, 1, 5]
abbrev dktX0_fine_1 : List UInt8 := dkwX0_fine_1 ++ dktX0_fine_2
def dkwX0_fine_0 : List UInt8 := [42, 27, 182, 1, 49, 154, 0, 6, 18, 133, 172, 42, 180, 0, 46, 180, 1, 11, 27, 50, 77, 42, 5]
abbrev dktX0_fine_0 : List UInt8 := dkwX0_fine_0 ++ dktX0_fine_1
theorem dksX0_fine_0 : cX0_fine.data.toList.drop 0 = dktX0_fine_0 := by decide +kernel
theorem dksX0_fine_1 : cX0_fine.data.toList.drop 23 = dktX0_fine_1 := dk_seg dksX0_fine_0 23 rfl rfl
theorem dksX0_fine_2 : cX0_fine.data.toList.drop 47 = dktX0_fine_2 := dk_seg dksX0_fine_1 24 rfl rfl
theorem dksX0_fine_3 : cX0_fine.data.toList.drop 69 = dktX0_fine_3 := dk_seg dksX0_fine_2 22 rfl rfl
theorem dX0_fine_0 : decode cX0_fine 0 = .ok (.aload_n 0, 1) := dk_42 (dk_at dksX0_fine_0 0 rfl rfl)
theorem dX0_fine_1 : decode cX0_fine 1 = .ok (.iload_n 1, 1) := dk_27 (dk_at dksX0_fine_0 1 rfl rfl)
theorem dX0_fine_2 : decode cX0_fine 2 = .ok (.invokevirtual 305, 3) := dk_182 1 49 (dk_at dksX0_fine_0 2 rfl rfl)
theorem dX0_fine_5 : decode cX0_fine 5 = .ok (.ifCond .ne 6, 3) := dk_154 0 6 (dk_at dksX0_fine_0 5 rfl rfl)
theorem dX0_fine_8 : decode cX0_fine 8 = .ok (.ldc 133, 2) := dk_18 133 (dk_at dksX0_fine_0 8 rfl rfl)
theorem dX0_fine_10 : decode cX0_fine 10 = .ok (.ireturn, 1) := dk_172 (dk_at dksX0_fine_0 10 rfl rfl)
theorem dX0_fine_11 : decode cX0_fine 11 = .ok (.aload_n 0, 1) := dk_42 (dk_at dksX0_fine_0 11 rfl rfl)
theorem dX0_fine_12 : decode cX0_fine 12 = .ok (.getfield 46, 3) := dk_180 0 46 (dk_at dksX0_fine_0 12 rfl rfl)
theorem dX0_fine_15 : decode cX0_fine 15 = .ok (.getfield 267, 3) := dk_180 1 11 (dk_at dksX0_fine_0 15 rfl rfl)
theorem dX0_fine_18 : decode cX0_fine 18 = .ok (.iload_n 1, 1) := dk_27 (dk_at dksX0_fine_0 18 rfl rfl)
theorem dX0_fine_19 : decode cX0_fine 19 = .ok (.aaload, 1) := dk_50 (dk_at dksX0_fine_0 19 rfl rfl)
theorem dX0_fine_20 : decode cX0_fine 20 = .ok (.astore_n 2, 1) := dk_77 (dk_at dksX0_fine_0 20 rfl rfl)
theorem dX0_fine_21 : decode cX0_fine 21 = .ok (.aload_n 0, 1) := dk_42 (dk_at dksX0_fine_0 21 rfl rfl)
theorem dX0_fine_22 : decode cX0_fine 22 = .ok (.iconst 2, 1) := dk_5 (dk_at dksX0_fine_0 22 rfl rfl)
theorem dX0_fine_23 : decode cX0_fine 23 = .ok (.invokevirtual 250, 3) := dk_182 0 250 (dk_at dksX0_fine_1 0 rfl rfl)
theorem dX0_fine_26 : decode cX0_fine 26 = .ok (.istore_n 3, 1) := dk_62 (dk_at dksX0_fine_1 3 rfl rfl)
theorem dX0_fine_27 : decode cX0_fine 27 = .ok (.iload_n 3, 1) := dk_29 (dk_at dksX0_fine_1 4 rfl rfl)
theorem dX0_fine_28 : decode cX0_fine 28 = .ok (.iconst (-1), 1) := dk_2 (dk_at dksX0_fine_1 5 rfl rfl)
theorem dX0_fine_29 : decode cX0_fine 29 = .ok (.if_icmp .ne 8, 3) := dk_160 0 8 (dk_at dksX0_fine_1 6 rfl rfl)
theorem dX0_fine_32 : decode cX0_fine 32 = .ok (.aload_n 2, 1) := dk_44 (dk_at dksX0_fine_1 9 rfl rfl)
theorem dX0_fine_33 : decode cX0_fine 33 = .ok (.getfield 261, 3) := dk_180 1 5 (dk_at dksX0_fine_1 10 rfl rfl)
theorem dX0_fine_36 : decode cX0_fine 36 = .ok (.ireturn, 1) := dk_172 (dk_at dksX0_fine_1 13 rfl rfl)
theorem dX0_fine_37 : decode cX0_fine 37 = .ok (.aload_n 0, 1) := dk_42 (dk_at dksX0_fine_1 14 rfl rfl)
theorem dX0_fine_38 : decode cX0_fine 38 = .ok (.getfield 74, 3) := dk_180 0 74 (dk_at dksX0_fine_1 15 rfl rfl)
theorem dX0_fine_41 : decode cX0_fine 41 = .ok (.bipush 111, 2) := dk_16 111 (dk_at dksX0_fine_1 18 rfl rfl)
theorem dX0_fine_43 : decode cX0_fine 43 = .ok (.aload_n 2, 1) := dk_44 (dk_at dksX0_fine_1 20 rfl rfl)
theorem dX0_fine_44 : decode cX0_fine 44 = .ok (.getfield 261, 3) := dk_180 1 5 (dk_at dksX0_fine_1 21 rfl rfl)
theorem dX0_fine_47 : decode cX0_fine 47 = .ok (.iastore, 1) := dk_79 (dk_at dksX0_fine_2 0 rfl rfl)
theorem dX0_fine_48 : decode cX0_fine 48 = .ok (.aload_n 0, 1) := dk_42 (dk_at dksX0_fine_2 1 rfl rfl)
theorem dX0_fine_49 : decode cX0_fine 49 = .ok (.getfield 74, 3) := dk_180 0 74 (dk_at dksX0_fine_2 2 rfl rfl)
theorem dX0_fine_52 : decode cX0_fine 52 = .ok (.bipush 116, 2) := dk_16 116 (dk_at dksX0_fine_2 5 rfl rfl)
theorem dX0_fine_54 : decode cX0_fine 54 = .ok (.aload_n 2, 1) := dk_44 (dk_at dksX0_fine_2 7 rfl rfl)
theorem dX0_fine_55 : decode cX0_fine 55 = .ok (.getfield 264, 3) := dk_180 1 8 (dk_at dksX0_fine_2 8 rfl rfl)
theorem dX0_fine_58 : decode cX0_fine 58 = .ok (.iastore, 1) := dk_79 (dk_at dksX0_fine_2 11 rfl rfl)
theorem dX0_fine_59 : decode cX0_fine 59 = .ok (.aload_n 0, 1) := dk_42 (dk_at dksX0_fine_2 12 rfl rfl)
theorem dX0_fine_60 : decode cX0_fine 60 = .ok (.aload_n 0, 1) := dk_42 (dk_at dksX0_fine_2 13 rfl rfl)
theorem dX0_fine_61 : decode cX0_fine 61 = .ok (.getfield 46, 3) := dk_180 0 46 (dk_at dksX0_fine_2 14 rfl rfl)
theorem dX0_fine_64 : decode cX0_fine 64 = .ok (.getfield 243, 3) := dk_180 0 243 (dk_at dksX0_fine_2 17 rfl rfl)
theorem dX0_fine_67 : decode cX0_fine 67 = .ok (.iload_n 3, 1) := dk_29 (dk_at dksX0_fine_2 20 rfl rfl)
theorem dX0_fine_68 : decode cX0_fine 68 = .ok (.aaload, 1) := dk_50 (dk_at dksX0_fine_2 21 rfl rfl)
theorem dX0_fine_69 : decode cX0_fine 69 = .ok (.getfield 278, 3) := dk_180 1 22 (dk_at dksX0_fine_3 0 rfl rfl)
theorem dX0_fine_72 : decode cX0_fine 72 = .ok (.invokevirtual 282, 3) := dk_182 1 26 (dk_at dksX0_fine_3 3 rfl rfl)
theorem dX0_fine_75 : decode cX0_fine 75 = .ok (.ireturn, 1) := dk_172 (dk_at dksX0_fine_3 6 rfl rfl)
abbrev cX0_sheet : ByteArray := prog_1_method_79_code
def yX0_sheet : MethodName := ⟨RX0, "sheet", "(III)I"⟩
def dkwX0_sheet_3 : List UInt8 := [58, 4, 19, 1, 170, 172]
abbrev dktX0_sheet_3 : List UInt8 := dkwX0_sheet_3 ++ []
def dkwX0_sheet_2 : List UInt8 := [180, 0, 83, 27, 50, 28, 4, 160, 0, 7, 4, 167, 0, 4, 3, 29, 184, 1, 164, 181, 1, 160, 29, 172]
abbrev dktX0_sheet_2 : List UInt8 := dkwX0_sheet_2 ++ dktX0_sheet_3
def dkwX0_sheet_1 : List UInt8 := [164, 0, 6, 18, 133, 172, 28, 156, 0, 15, 42, 180, 0, 83, 27, 50, 1, 181, 1, 160, 3, 172, 42]
abbrev dktX0_sheet_1 : List UInt8 := dkwX0_sheet_1 ++ dktX0_sheet_2
def dkwX0_sheet_0 : List UInt8 := [27, 184, 1, 157, 153, 0, 22, 28, 2, 4, 184, 0, 108, 153, 0, 13, 28, 155, 0, 12, 29, 16, 24]
abbrev dktX0_sheet_0 : List UInt8 := dkwX0_sheet_0 ++ dktX0_sheet_1
theorem dksX0_sheet_0 : cX0_sheet.data.toList.drop 0 = dktX0_sheet_0 := by decide +kernel
theorem dksX0_sheet_1 : cX0_sheet.data.toList.drop 23 = dktX0_sheet_1 := dk_seg dksX0_sheet_0 23 rfl rfl
theorem dksX0_sheet_2 : cX0_sheet.data.toList.drop 46 = dktX0_sheet_2 := dk_seg dksX0_sheet_1 23 rfl rfl
theorem dksX0_sheet_3 : cX0_sheet.data.toList.drop 70 = dktX0_sheet_3 := dk_seg dksX0_sheet_2 24 rfl rfl
theorem dX0_sheet_0 : decode cX0_sheet 0 = .ok (.iload_n 1, 1) := dk_27 (dk_at dksX0_sheet_0 0 rfl rfl)
theorem dX0_sheet_1 : decode cX0_sheet 1 = .ok (.invokestatic 413, 3) := dk_184 1 157 (dk_at dksX0_sheet_0 1 rfl rfl)
theorem dX0_sheet_4 : decode cX0_sheet 4 = .ok (.ifCond .eq 22, 3) := dk_153 0 22 (dk_at dksX0_sheet_0 4 rfl rfl)
theorem dX0_sheet_7 : decode cX0_sheet 7 = .ok (.iload_n 2, 1) := dk_28 (dk_at dksX0_sheet_0 7 rfl rfl)
theorem dX0_sheet_8 : decode cX0_sheet 8 = .ok (.iconst (-1), 1) := dk_2 (dk_at dksX0_sheet_0 8 rfl rfl)
theorem dX0_sheet_9 : decode cX0_sheet 9 = .ok (.iconst 1, 1) := dk_4 (dk_at dksX0_sheet_0 9 rfl rfl)
theorem dX0_sheet_10 : decode cX0_sheet 10 = .ok (.invokestatic 108, 3) := dk_184 0 108 (dk_at dksX0_sheet_0 10 rfl rfl)
theorem dX0_sheet_13 : decode cX0_sheet 13 = .ok (.ifCond .eq 13, 3) := dk_153 0 13 (dk_at dksX0_sheet_0 13 rfl rfl)
theorem dX0_sheet_16 : decode cX0_sheet 16 = .ok (.iload_n 2, 1) := dk_28 (dk_at dksX0_sheet_0 16 rfl rfl)
theorem dX0_sheet_17 : decode cX0_sheet 17 = .ok (.ifCond .lt 12, 3) := dk_155 0 12 (dk_at dksX0_sheet_0 17 rfl rfl)
theorem dX0_sheet_20 : decode cX0_sheet 20 = .ok (.iload_n 3, 1) := dk_29 (dk_at dksX0_sheet_0 20 rfl rfl)
theorem dX0_sheet_21 : decode cX0_sheet 21 = .ok (.bipush 24, 2) := dk_16 24 (dk_at dksX0_sheet_0 21 rfl rfl)
theorem dX0_sheet_23 : decode cX0_sheet 23 = .ok (.if_icmp .le 6, 3) := dk_164 0 6 (dk_at dksX0_sheet_1 0 rfl rfl)
theorem dX0_sheet_26 : decode cX0_sheet 26 = .ok (.ldc 133, 2) := dk_18 133 (dk_at dksX0_sheet_1 3 rfl rfl)
theorem dX0_sheet_28 : decode cX0_sheet 28 = .ok (.ireturn, 1) := dk_172 (dk_at dksX0_sheet_1 5 rfl rfl)
theorem dX0_sheet_29 : decode cX0_sheet 29 = .ok (.iload_n 2, 1) := dk_28 (dk_at dksX0_sheet_1 6 rfl rfl)
theorem dX0_sheet_30 : decode cX0_sheet 30 = .ok (.ifCond .ge 15, 3) := dk_156 0 15 (dk_at dksX0_sheet_1 7 rfl rfl)
theorem dX0_sheet_33 : decode cX0_sheet 33 = .ok (.aload_n 0, 1) := dk_42 (dk_at dksX0_sheet_1 10 rfl rfl)
theorem dX0_sheet_34 : decode cX0_sheet 34 = .ok (.getfield 83, 3) := dk_180 0 83 (dk_at dksX0_sheet_1 11 rfl rfl)
theorem dX0_sheet_37 : decode cX0_sheet 37 = .ok (.iload_n 1, 1) := dk_27 (dk_at dksX0_sheet_1 14 rfl rfl)
theorem dX0_sheet_38 : decode cX0_sheet 38 = .ok (.aaload, 1) := dk_50 (dk_at dksX0_sheet_1 15 rfl rfl)
theorem dX0_sheet_39 : decode cX0_sheet 39 = .ok (.aconst_null, 1) := dk_1 (dk_at dksX0_sheet_1 16 rfl rfl)
theorem dX0_sheet_40 : decode cX0_sheet 40 = .ok (.putfield 416, 3) := dk_181 1 160 (dk_at dksX0_sheet_1 17 rfl rfl)
theorem dX0_sheet_43 : decode cX0_sheet 43 = .ok (.iconst 0, 1) := dk_3 (dk_at dksX0_sheet_1 20 rfl rfl)
theorem dX0_sheet_44 : decode cX0_sheet 44 = .ok (.ireturn, 1) := dk_172 (dk_at dksX0_sheet_1 21 rfl rfl)
theorem dX0_sheet_45 : decode cX0_sheet 45 = .ok (.aload_n 0, 1) := dk_42 (dk_at dksX0_sheet_1 22 rfl rfl)
theorem dX0_sheet_46 : decode cX0_sheet 46 = .ok (.getfield 83, 3) := dk_180 0 83 (dk_at dksX0_sheet_2 0 rfl rfl)
theorem dX0_sheet_49 : decode cX0_sheet 49 = .ok (.iload_n 1, 1) := dk_27 (dk_at dksX0_sheet_2 3 rfl rfl)
theorem dX0_sheet_50 : decode cX0_sheet 50 = .ok (.aaload, 1) := dk_50 (dk_at dksX0_sheet_2 4 rfl rfl)
theorem dX0_sheet_51 : decode cX0_sheet 51 = .ok (.iload_n 2, 1) := dk_28 (dk_at dksX0_sheet_2 5 rfl rfl)
theorem dX0_sheet_52 : decode cX0_sheet 52 = .ok (.iconst 1, 1) := dk_4 (dk_at dksX0_sheet_2 6 rfl rfl)
theorem dX0_sheet_53 : decode cX0_sheet 53 = .ok (.if_icmp .ne 7, 3) := dk_160 0 7 (dk_at dksX0_sheet_2 7 rfl rfl)
theorem dX0_sheet_56 : decode cX0_sheet 56 = .ok (.iconst 1, 1) := dk_4 (dk_at dksX0_sheet_2 10 rfl rfl)
theorem dX0_sheet_57 : decode cX0_sheet 57 = .ok (.goto 4, 3) := dk_167 0 4 (dk_at dksX0_sheet_2 11 rfl rfl)
theorem dX0_sheet_60 : decode cX0_sheet 60 = .ok (.iconst 0, 1) := dk_3 (dk_at dksX0_sheet_2 14 rfl rfl)
theorem dX0_sheet_61 : decode cX0_sheet 61 = .ok (.iload_n 3, 1) := dk_29 (dk_at dksX0_sheet_2 15 rfl rfl)
theorem dX0_sheet_62 : decode cX0_sheet 62 = .ok (.invokestatic 420, 3) := dk_184 1 164 (dk_at dksX0_sheet_2 16 rfl rfl)
theorem dX0_sheet_65 : decode cX0_sheet 65 = .ok (.putfield 416, 3) := dk_181 1 160 (dk_at dksX0_sheet_2 19 rfl rfl)
theorem dX0_sheet_68 : decode cX0_sheet 68 = .ok (.iload_n 3, 1) := dk_29 (dk_at dksX0_sheet_2 22 rfl rfl)
theorem dX0_sheet_69 : decode cX0_sheet 69 = .ok (.ireturn, 1) := dk_172 (dk_at dksX0_sheet_2 23 rfl rfl)
theorem dX0_sheet_70 : decode cX0_sheet 70 = .ok (.astore 4, 2) := dk_58 4 (dk_at dksX0_sheet_3 0 rfl rfl)
theorem dX0_sheet_72 : decode cX0_sheet 72 = .ok (.ldc_w 426, 3) := dk_19 1 170 (dk_at dksX0_sheet_3 2 rfl rfl)
theorem dX0_sheet_75 : decode cX0_sheet 75 = .ok (.ireturn, 1) := dk_172 (dk_at dksX0_sheet_3 5 rfl rfl)
abbrev cX0_isSheet : ByteArray := prog_1_method_76_code
def yX0_isSheet : MethodName := ⟨RX0, "isSheet", "(I)Z"⟩
def dkwX0_isSheet_0 : List UInt8 := [26, 3, 6, 184, 0, 108, 172]
abbrev dktX0_isSheet_0 : List UInt8 := dkwX0_isSheet_0 ++ []
theorem dksX0_isSheet_0 : cX0_isSheet.data.toList.drop 0 = dktX0_isSheet_0 := by decide +kernel
theorem dX0_isSheet_0 : decode cX0_isSheet 0 = .ok (.iload_n 0, 1) := dk_26 (dk_at dksX0_isSheet_0 0 rfl rfl)
theorem dX0_isSheet_1 : decode cX0_isSheet 1 = .ok (.iconst 0, 1) := dk_3 (dk_at dksX0_isSheet_0 1 rfl rfl)
theorem dX0_isSheet_2 : decode cX0_isSheet 2 = .ok (.iconst 3, 1) := dk_6 (dk_at dksX0_isSheet_0 2 rfl rfl)
theorem dX0_isSheet_3 : decode cX0_isSheet 3 = .ok (.invokestatic 108, 3) := dk_184 0 108 (dk_at dksX0_isSheet_0 3 rfl rfl)
theorem dX0_isSheet_6 : decode cX0_isSheet 6 = .ok (.ireturn, 1) := dk_172 (dk_at dksX0_isSheet_0 6 rfl rfl)
abbrev cX0_rowOf : ByteArray := prog_1_method_78_code
def yX0_rowOf : MethodName := ⟨RX0, "rowOf", "(ZI)Ljava/lang/Object;"⟩
def dkwX0_rowOf_0 : List UInt8 := [26, 153, 0, 7, 27, 188, 6, 176, 27, 188, 9, 176]
abbrev dktX0_rowOf_0 : List UInt8 := dkwX0_rowOf_0 ++ []
theorem dksX0_rowOf_0 : cX0_rowOf.data.toList.drop 0 = dktX0_rowOf_0 := by decide +kernel
theorem dX0_rowOf_0 : decode cX0_rowOf 0 = .ok (.iload_n 0, 1) := dk_26 (dk_at dksX0_rowOf_0 0 rfl rfl)
theorem dX0_rowOf_1 : decode cX0_rowOf 1 = .ok (.ifCond .eq 7, 3) := dk_153 0 7 (dk_at dksX0_rowOf_0 1 rfl rfl)
theorem dX0_rowOf_4 : decode cX0_rowOf 4 = .ok (.iload_n 1, 1) := dk_27 (dk_at dksX0_rowOf_0 4 rfl rfl)
theorem dX0_rowOf_5 : decode cX0_rowOf 5 = .ok (.newarray .float, 2) := dk_188_6 (dk_at dksX0_rowOf_0 5 rfl rfl)
theorem dX0_rowOf_7 : decode cX0_rowOf 7 = .ok (.areturn, 1) := dk_176 (dk_at dksX0_rowOf_0 7 rfl rfl)
theorem dX0_rowOf_8 : decode cX0_rowOf 8 = .ok (.iload_n 1, 1) := dk_27 (dk_at dksX0_rowOf_0 8 rfl rfl)
theorem dX0_rowOf_9 : decode cX0_rowOf 9 = .ok (.newarray .short, 2) := dk_188_9 (dk_at dksX0_rowOf_0 9 rfl rfl)
theorem dX0_rowOf_11 : decode cX0_rowOf 11 = .ok (.areturn, 1) := dk_176 (dk_at dksX0_rowOf_0 11 rfl rfl)
abbrev cX0_mark : ByteArray := prog_1_method_81_code
def yX0_mark : MethodName := ⟨RX0, "mark", "(III)I"⟩
def dkwX0_mark_2 : List UInt8 := [28, 29, 184, 1, 189, 167, 0, 6, 19, 1, 193, 172]
abbrev dktX0_mark_2 : List UInt8 := dkwX0_mark_2 ++ []
def dkwX0_mark_1 : List UInt8 := [154, 0, 7, 19, 1, 185, 172, 28, 3, 25, 4, 182, 1, 186, 4, 100, 184, 0, 108, 153, 0, 13, 25, 4]
abbrev dktX0_mark_1 : List UInt8 := dkwX0_mark_1 ++ dktX0_mark_2
def dkwX0_mark_0 : List UInt8 := [27, 184, 1, 157, 154, 0, 6, 18, 133, 172, 42, 180, 0, 83, 27, 50, 58, 4, 25, 4, 182, 1, 182]
abbrev dktX0_mark_0 : List UInt8 := dkwX0_mark_0 ++ dktX0_mark_1
theorem dksX0_mark_0 : cX0_mark.data.toList.drop 0 = dktX0_mark_0 := by decide +kernel
theorem dksX0_mark_1 : cX0_mark.data.toList.drop 23 = dktX0_mark_1 := dk_seg dksX0_mark_0 23 rfl rfl
theorem dksX0_mark_2 : cX0_mark.data.toList.drop 47 = dktX0_mark_2 := dk_seg dksX0_mark_1 24 rfl rfl
theorem dX0_mark_0 : decode cX0_mark 0 = .ok (.iload_n 1, 1) := dk_27 (dk_at dksX0_mark_0 0 rfl rfl)
theorem dX0_mark_1 : decode cX0_mark 1 = .ok (.invokestatic 413, 3) := dk_184 1 157 (dk_at dksX0_mark_0 1 rfl rfl)
theorem dX0_mark_4 : decode cX0_mark 4 = .ok (.ifCond .ne 6, 3) := dk_154 0 6 (dk_at dksX0_mark_0 4 rfl rfl)
theorem dX0_mark_7 : decode cX0_mark 7 = .ok (.ldc 133, 2) := dk_18 133 (dk_at dksX0_mark_0 7 rfl rfl)
theorem dX0_mark_9 : decode cX0_mark 9 = .ok (.ireturn, 1) := dk_172 (dk_at dksX0_mark_0 9 rfl rfl)
theorem dX0_mark_10 : decode cX0_mark 10 = .ok (.aload_n 0, 1) := dk_42 (dk_at dksX0_mark_0 10 rfl rfl)
theorem dX0_mark_11 : decode cX0_mark 11 = .ok (.getfield 83, 3) := dk_180 0 83 (dk_at dksX0_mark_0 11 rfl rfl)
theorem dX0_mark_14 : decode cX0_mark 14 = .ok (.iload_n 1, 1) := dk_27 (dk_at dksX0_mark_0 14 rfl rfl)
theorem dX0_mark_15 : decode cX0_mark 15 = .ok (.aaload, 1) := dk_50 (dk_at dksX0_mark_0 15 rfl rfl)
theorem dX0_mark_16 : decode cX0_mark 16 = .ok (.astore 4, 2) := dk_58 4 (dk_at dksX0_mark_0 16 rfl rfl)
theorem dX0_mark_18 : decode cX0_mark 18 = .ok (.aload 4, 2) := dk_25 4 (dk_at dksX0_mark_0 18 rfl rfl)
theorem dX0_mark_20 : decode cX0_mark 20 = .ok (.invokevirtual 438, 3) := dk_182 1 182 (dk_at dksX0_mark_0 20 rfl rfl)
theorem dX0_mark_23 : decode cX0_mark 23 = .ok (.ifCond .ne 7, 3) := dk_154 0 7 (dk_at dksX0_mark_1 0 rfl rfl)
theorem dX0_mark_26 : decode cX0_mark 26 = .ok (.ldc_w 441, 3) := dk_19 1 185 (dk_at dksX0_mark_1 3 rfl rfl)
theorem dX0_mark_29 : decode cX0_mark 29 = .ok (.ireturn, 1) := dk_172 (dk_at dksX0_mark_1 6 rfl rfl)
theorem dX0_mark_30 : decode cX0_mark 30 = .ok (.iload_n 2, 1) := dk_28 (dk_at dksX0_mark_1 7 rfl rfl)
theorem dX0_mark_31 : decode cX0_mark 31 = .ok (.iconst 0, 1) := dk_3 (dk_at dksX0_mark_1 8 rfl rfl)
theorem dX0_mark_32 : decode cX0_mark 32 = .ok (.aload 4, 2) := dk_25 4 (dk_at dksX0_mark_1 9 rfl rfl)
theorem dX0_mark_34 : decode cX0_mark 34 = .ok (.invokevirtual 442, 3) := dk_182 1 186 (dk_at dksX0_mark_1 11 rfl rfl)
theorem dX0_mark_37 : decode cX0_mark 37 = .ok (.iconst 1, 1) := dk_4 (dk_at dksX0_mark_1 14 rfl rfl)
theorem dX0_mark_38 : decode cX0_mark 38 = .ok (.isub, 1) := dk_100 (dk_at dksX0_mark_1 15 rfl rfl)
theorem dX0_mark_39 : decode cX0_mark 39 = .ok (.invokestatic 108, 3) := dk_184 0 108 (dk_at dksX0_mark_1 16 rfl rfl)
theorem dX0_mark_42 : decode cX0_mark 42 = .ok (.ifCond .eq 13, 3) := dk_153 0 13 (dk_at dksX0_mark_1 19 rfl rfl)
theorem dX0_mark_45 : decode cX0_mark 45 = .ok (.aload 4, 2) := dk_25 4 (dk_at dksX0_mark_1 22 rfl rfl)
theorem dX0_mark_47 : decode cX0_mark 47 = .ok (.iload_n 2, 1) := dk_28 (dk_at dksX0_mark_2 0 rfl rfl)
theorem dX0_mark_48 : decode cX0_mark 48 = .ok (.iload_n 3, 1) := dk_29 (dk_at dksX0_mark_2 1 rfl rfl)
theorem dX0_mark_49 : decode cX0_mark 49 = .ok (.invokestatic 445, 3) := dk_184 1 189 (dk_at dksX0_mark_2 2 rfl rfl)
theorem dX0_mark_52 : decode cX0_mark 52 = .ok (.goto 6, 3) := dk_167 0 6 (dk_at dksX0_mark_2 5 rfl rfl)
theorem dX0_mark_55 : decode cX0_mark 55 = .ok (.ldc_w 449, 3) := dk_19 1 193 (dk_at dksX0_mark_2 8 rfl rfl)
theorem dX0_mark_58 : decode cX0_mark 58 = .ok (.ireturn, 1) := dk_172 (dk_at dksX0_mark_2 11 rfl rfl)
abbrev cX0_markIn : ByteArray := prog_1_method_80_code
def yX0_markIn : MethodName := ⟨RX0, "markIn", "(LStrokesHeard$Sheet;II)I"⟩
def dkwX0_markIn_2 : List UInt8 := [154, 0, 6, 18, 133, 172, 42, 27, 28, 182, 1, 179, 4, 172]
abbrev dktX0_markIn_2 : List UInt8 := dkwX0_markIn_2 ++ []
def dkwX0_markIn_1 : List UInt8 := [27, 19, 1, 177, 81, 4, 172, 42, 182, 1, 171, 153, 0, 19, 28, 19, 1, 178, 19, 1, 146, 184, 0, 108]
abbrev dktX0_markIn_1 : List UInt8 := dkwX0_markIn_1 ++ dktX0_markIn_2
def dkwX0_markIn_0 : List UInt8 := [28, 18, 3, 160, 0, 28, 42, 182, 1, 171, 154, 0, 7, 19, 1, 71, 172, 42, 180, 1, 160, 192, 1, 174]
abbrev dktX0_markIn_0 : List UInt8 := dkwX0_markIn_0 ++ dktX0_markIn_1
theorem dksX0_markIn_0 : cX0_markIn.data.toList.drop 0 = dktX0_markIn_0 := by decide +kernel
theorem dksX0_markIn_1 : cX0_markIn.data.toList.drop 24 = dktX0_markIn_1 := dk_seg dksX0_markIn_0 24 rfl rfl
theorem dksX0_markIn_2 : cX0_markIn.data.toList.drop 48 = dktX0_markIn_2 := dk_seg dksX0_markIn_1 24 rfl rfl
theorem dX0_markIn_0 : decode cX0_markIn 0 = .ok (.iload_n 2, 1) := dk_28 (dk_at dksX0_markIn_0 0 rfl rfl)
theorem dX0_markIn_1 : decode cX0_markIn 1 = .ok (.ldc 3, 2) := dk_18 3 (dk_at dksX0_markIn_0 1 rfl rfl)
theorem dX0_markIn_3 : decode cX0_markIn 3 = .ok (.if_icmp .ne 28, 3) := dk_160 0 28 (dk_at dksX0_markIn_0 3 rfl rfl)
theorem dX0_markIn_6 : decode cX0_markIn 6 = .ok (.aload_n 0, 1) := dk_42 (dk_at dksX0_markIn_0 6 rfl rfl)
theorem dX0_markIn_7 : decode cX0_markIn 7 = .ok (.invokevirtual 427, 3) := dk_182 1 171 (dk_at dksX0_markIn_0 7 rfl rfl)
theorem dX0_markIn_10 : decode cX0_markIn 10 = .ok (.ifCond .ne 7, 3) := dk_154 0 7 (dk_at dksX0_markIn_0 10 rfl rfl)
theorem dX0_markIn_13 : decode cX0_markIn 13 = .ok (.ldc_w 327, 3) := dk_19 1 71 (dk_at dksX0_markIn_0 13 rfl rfl)
theorem dX0_markIn_16 : decode cX0_markIn 16 = .ok (.ireturn, 1) := dk_172 (dk_at dksX0_markIn_0 16 rfl rfl)
theorem dX0_markIn_17 : decode cX0_markIn 17 = .ok (.aload_n 0, 1) := dk_42 (dk_at dksX0_markIn_0 17 rfl rfl)
theorem dX0_markIn_18 : decode cX0_markIn 18 = .ok (.getfield 416, 3) := dk_180 1 160 (dk_at dksX0_markIn_0 18 rfl rfl)
theorem dX0_markIn_21 : decode cX0_markIn 21 = .ok (.checkcast 430, 3) := dk_192 1 174 (dk_at dksX0_markIn_0 21 rfl rfl)
theorem dX0_markIn_24 : decode cX0_markIn 24 = .ok (.iload_n 1, 1) := dk_27 (dk_at dksX0_markIn_1 0 rfl rfl)
theorem dX0_markIn_25 : decode cX0_markIn 25 = .ok (.ldc_w 433, 3) := dk_19 1 177 (dk_at dksX0_markIn_1 1 rfl rfl)
theorem dX0_markIn_28 : decode cX0_markIn 28 = .ok (.fastore, 1) := dk_81 (dk_at dksX0_markIn_1 4 rfl rfl)
theorem dX0_markIn_29 : decode cX0_markIn 29 = .ok (.iconst 1, 1) := dk_4 (dk_at dksX0_markIn_1 5 rfl rfl)
theorem dX0_markIn_30 : decode cX0_markIn 30 = .ok (.ireturn, 1) := dk_172 (dk_at dksX0_markIn_1 6 rfl rfl)
theorem dX0_markIn_31 : decode cX0_markIn 31 = .ok (.aload_n 0, 1) := dk_42 (dk_at dksX0_markIn_1 7 rfl rfl)
theorem dX0_markIn_32 : decode cX0_markIn 32 = .ok (.invokevirtual 427, 3) := dk_182 1 171 (dk_at dksX0_markIn_1 8 rfl rfl)
theorem dX0_markIn_35 : decode cX0_markIn 35 = .ok (.ifCond .eq 19, 3) := dk_153 0 19 (dk_at dksX0_markIn_1 11 rfl rfl)
theorem dX0_markIn_38 : decode cX0_markIn 38 = .ok (.iload_n 2, 1) := dk_28 (dk_at dksX0_markIn_1 14 rfl rfl)
theorem dX0_markIn_39 : decode cX0_markIn 39 = .ok (.ldc_w 434, 3) := dk_19 1 178 (dk_at dksX0_markIn_1 15 rfl rfl)
theorem dX0_markIn_42 : decode cX0_markIn 42 = .ok (.ldc_w 402, 3) := dk_19 1 146 (dk_at dksX0_markIn_1 18 rfl rfl)
theorem dX0_markIn_45 : decode cX0_markIn 45 = .ok (.invokestatic 108, 3) := dk_184 0 108 (dk_at dksX0_markIn_1 21 rfl rfl)
theorem dX0_markIn_48 : decode cX0_markIn 48 = .ok (.ifCond .ne 6, 3) := dk_154 0 6 (dk_at dksX0_markIn_2 0 rfl rfl)
theorem dX0_markIn_51 : decode cX0_markIn 51 = .ok (.ldc 133, 2) := dk_18 133 (dk_at dksX0_markIn_2 3 rfl rfl)
theorem dX0_markIn_53 : decode cX0_markIn 53 = .ok (.ireturn, 1) := dk_172 (dk_at dksX0_markIn_2 5 rfl rfl)
theorem dX0_markIn_54 : decode cX0_markIn 54 = .ok (.aload_n 0, 1) := dk_42 (dk_at dksX0_markIn_2 6 rfl rfl)
theorem dX0_markIn_55 : decode cX0_markIn 55 = .ok (.iload_n 1, 1) := dk_27 (dk_at dksX0_markIn_2 7 rfl rfl)
theorem dX0_markIn_56 : decode cX0_markIn 56 = .ok (.iload_n 2, 1) := dk_28 (dk_at dksX0_markIn_2 8 rfl rfl)
theorem dX0_markIn_57 : decode cX0_markIn 57 = .ok (.invokevirtual 435, 3) := dk_182 1 179 (dk_at dksX0_markIn_2 9 rfl rfl)
theorem dX0_markIn_60 : decode cX0_markIn 60 = .ok (.iconst 1, 1) := dk_4 (dk_at dksX0_markIn_2 12 rfl rfl)
theorem dX0_markIn_61 : decode cX0_markIn 61 = .ok (.ireturn, 1) := dk_172 (dk_at dksX0_markIn_2 13 rfl rfl)
abbrev cX0_pour : ByteArray := prog_1_method_82_code
def yX0_pour : MethodName := ⟨RX0, "pour", "(I)I"⟩
def dkwX0_pour_5 : List UInt8 := [4, 96, 62, 132, 4, 1, 167, 255, 164, 29, 172]
abbrev dktX0_pour_5 : List UInt8 := dkwX0_pour_5 ++ []
def dkwX0_pour_4 : List UInt8 := [180, 0, 46, 180, 1, 11, 21, 4, 50, 4, 21, 5, 184, 1, 76, 21, 5, 160, 0, 7, 3, 167, 0, 4]
abbrev dktX0_pour_4 : List UInt8 := dkwX0_pour_4 ++ dktX0_pour_5
def dkwX0_pour_3 : List UInt8 := [184, 1, 30, 167, 0, 16, 42, 180, 0, 46, 180, 1, 11, 21, 4, 50, 180, 1, 5, 54, 5, 29, 42]
abbrev dktX0_pour_3 : List UInt8 := dkwX0_pour_3 ++ dktX0_pour_4
def dkwX0_pour_2 : List UInt8 := [182, 1, 186, 162, 0, 77, 44, 21, 4, 182, 1, 194, 153, 0, 18, 44, 21, 4, 182, 1, 197, 3, 16, 59]
abbrev dktX0_pour_2 : List UInt8 := dkwX0_pour_2 ++ dktX0_pour_3
def dkwX0_pour_1 : List UInt8 := [19, 1, 185, 172, 3, 62, 3, 54, 4, 21, 4, 42, 180, 0, 46, 180, 0, 104, 162, 0, 86, 21, 4, 44]
abbrev dktX0_pour_1 : List UInt8 := dkwX0_pour_1 ++ dktX0_pour_2
def dkwX0_pour_0 : List UInt8 := [27, 184, 1, 157, 154, 0, 6, 18, 133, 172, 42, 180, 0, 83, 27, 50, 77, 44, 182, 1, 182, 154, 0, 7]
abbrev dktX0_pour_0 : List UInt8 := dkwX0_pour_0 ++ dktX0_pour_1
theorem dksX0_pour_0 : cX0_pour.data.toList.drop 0 = dktX0_pour_0 := by decide +kernel
theorem dksX0_pour_1 : cX0_pour.data.toList.drop 24 = dktX0_pour_1 := dk_seg dksX0_pour_0 24 rfl rfl
theorem dksX0_pour_2 : cX0_pour.data.toList.drop 48 = dktX0_pour_2 := dk_seg dksX0_pour_1 24 rfl rfl
theorem dksX0_pour_3 : cX0_pour.data.toList.drop 72 = dktX0_pour_3 := dk_seg dksX0_pour_2 24 rfl rfl
theorem dksX0_pour_4 : cX0_pour.data.toList.drop 95 = dktX0_pour_4 := dk_seg dksX0_pour_3 23 rfl rfl
theorem dksX0_pour_5 : cX0_pour.data.toList.drop 119 = dktX0_pour_5 := dk_seg dksX0_pour_4 24 rfl rfl
theorem dX0_pour_0 : decode cX0_pour 0 = .ok (.iload_n 1, 1) := dk_27 (dk_at dksX0_pour_0 0 rfl rfl)
theorem dX0_pour_1 : decode cX0_pour 1 = .ok (.invokestatic 413, 3) := dk_184 1 157 (dk_at dksX0_pour_0 1 rfl rfl)
theorem dX0_pour_4 : decode cX0_pour 4 = .ok (.ifCond .ne 6, 3) := dk_154 0 6 (dk_at dksX0_pour_0 4 rfl rfl)
theorem dX0_pour_7 : decode cX0_pour 7 = .ok (.ldc 133, 2) := dk_18 133 (dk_at dksX0_pour_0 7 rfl rfl)
theorem dX0_pour_9 : decode cX0_pour 9 = .ok (.ireturn, 1) := dk_172 (dk_at dksX0_pour_0 9 rfl rfl)
theorem dX0_pour_10 : decode cX0_pour 10 = .ok (.aload_n 0, 1) := dk_42 (dk_at dksX0_pour_0 10 rfl rfl)
theorem dX0_pour_11 : decode cX0_pour 11 = .ok (.getfield 83, 3) := dk_180 0 83 (dk_at dksX0_pour_0 11 rfl rfl)
theorem dX0_pour_14 : decode cX0_pour 14 = .ok (.iload_n 1, 1) := dk_27 (dk_at dksX0_pour_0 14 rfl rfl)
theorem dX0_pour_15 : decode cX0_pour 15 = .ok (.aaload, 1) := dk_50 (dk_at dksX0_pour_0 15 rfl rfl)
theorem dX0_pour_16 : decode cX0_pour 16 = .ok (.astore_n 2, 1) := dk_77 (dk_at dksX0_pour_0 16 rfl rfl)
theorem dX0_pour_17 : decode cX0_pour 17 = .ok (.aload_n 2, 1) := dk_44 (dk_at dksX0_pour_0 17 rfl rfl)
theorem dX0_pour_18 : decode cX0_pour 18 = .ok (.invokevirtual 438, 3) := dk_182 1 182 (dk_at dksX0_pour_0 18 rfl rfl)
theorem dX0_pour_21 : decode cX0_pour 21 = .ok (.ifCond .ne 7, 3) := dk_154 0 7 (dk_at dksX0_pour_0 21 rfl rfl)
theorem dX0_pour_24 : decode cX0_pour 24 = .ok (.ldc_w 441, 3) := dk_19 1 185 (dk_at dksX0_pour_1 0 rfl rfl)
theorem dX0_pour_27 : decode cX0_pour 27 = .ok (.ireturn, 1) := dk_172 (dk_at dksX0_pour_1 3 rfl rfl)
theorem dX0_pour_28 : decode cX0_pour 28 = .ok (.iconst 0, 1) := dk_3 (dk_at dksX0_pour_1 4 rfl rfl)
theorem dX0_pour_29 : decode cX0_pour 29 = .ok (.istore_n 3, 1) := dk_62 (dk_at dksX0_pour_1 5 rfl rfl)
theorem dX0_pour_30 : decode cX0_pour 30 = .ok (.iconst 0, 1) := dk_3 (dk_at dksX0_pour_1 6 rfl rfl)
theorem dX0_pour_31 : decode cX0_pour 31 = .ok (.istore 4, 2) := dk_54 4 (dk_at dksX0_pour_1 7 rfl rfl)
theorem dX0_pour_33 : decode cX0_pour 33 = .ok (.iload 4, 2) := dk_21 4 (dk_at dksX0_pour_1 9 rfl rfl)
theorem dX0_pour_35 : decode cX0_pour 35 = .ok (.aload_n 0, 1) := dk_42 (dk_at dksX0_pour_1 11 rfl rfl)
theorem dX0_pour_36 : decode cX0_pour 36 = .ok (.getfield 46, 3) := dk_180 0 46 (dk_at dksX0_pour_1 12 rfl rfl)
theorem dX0_pour_39 : decode cX0_pour 39 = .ok (.getfield 104, 3) := dk_180 0 104 (dk_at dksX0_pour_1 15 rfl rfl)
theorem dX0_pour_42 : decode cX0_pour 42 = .ok (.if_icmp .ge 86, 3) := dk_162 0 86 (dk_at dksX0_pour_1 18 rfl rfl)
theorem dX0_pour_45 : decode cX0_pour 45 = .ok (.iload 4, 2) := dk_21 4 (dk_at dksX0_pour_1 21 rfl rfl)
theorem dX0_pour_47 : decode cX0_pour 47 = .ok (.aload_n 2, 1) := dk_44 (dk_at dksX0_pour_1 23 rfl rfl)
theorem dX0_pour_48 : decode cX0_pour 48 = .ok (.invokevirtual 442, 3) := dk_182 1 186 (dk_at dksX0_pour_2 0 rfl rfl)
theorem dX0_pour_51 : decode cX0_pour 51 = .ok (.if_icmp .ge 77, 3) := dk_162 0 77 (dk_at dksX0_pour_2 3 rfl rfl)
theorem dX0_pour_54 : decode cX0_pour 54 = .ok (.aload_n 2, 1) := dk_44 (dk_at dksX0_pour_2 6 rfl rfl)
theorem dX0_pour_55 : decode cX0_pour 55 = .ok (.iload 4, 2) := dk_21 4 (dk_at dksX0_pour_2 7 rfl rfl)
theorem dX0_pour_57 : decode cX0_pour 57 = .ok (.invokevirtual 450, 3) := dk_182 1 194 (dk_at dksX0_pour_2 9 rfl rfl)
theorem dX0_pour_60 : decode cX0_pour 60 = .ok (.ifCond .eq 18, 3) := dk_153 0 18 (dk_at dksX0_pour_2 12 rfl rfl)
theorem dX0_pour_63 : decode cX0_pour 63 = .ok (.aload_n 2, 1) := dk_44 (dk_at dksX0_pour_2 15 rfl rfl)
theorem dX0_pour_64 : decode cX0_pour 64 = .ok (.iload 4, 2) := dk_21 4 (dk_at dksX0_pour_2 16 rfl rfl)
theorem dX0_pour_66 : decode cX0_pour 66 = .ok (.invokevirtual 453, 3) := dk_182 1 197 (dk_at dksX0_pour_2 18 rfl rfl)
theorem dX0_pour_69 : decode cX0_pour 69 = .ok (.iconst 0, 1) := dk_3 (dk_at dksX0_pour_2 21 rfl rfl)
theorem dX0_pour_70 : decode cX0_pour 70 = .ok (.bipush 59, 2) := dk_16 59 (dk_at dksX0_pour_2 22 rfl rfl)
theorem dX0_pour_72 : decode cX0_pour 72 = .ok (.invokestatic 286, 3) := dk_184 1 30 (dk_at dksX0_pour_3 0 rfl rfl)
theorem dX0_pour_75 : decode cX0_pour 75 = .ok (.goto 16, 3) := dk_167 0 16 (dk_at dksX0_pour_3 3 rfl rfl)
theorem dX0_pour_78 : decode cX0_pour 78 = .ok (.aload_n 0, 1) := dk_42 (dk_at dksX0_pour_3 6 rfl rfl)
theorem dX0_pour_79 : decode cX0_pour 79 = .ok (.getfield 46, 3) := dk_180 0 46 (dk_at dksX0_pour_3 7 rfl rfl)
theorem dX0_pour_82 : decode cX0_pour 82 = .ok (.getfield 267, 3) := dk_180 1 11 (dk_at dksX0_pour_3 10 rfl rfl)
theorem dX0_pour_85 : decode cX0_pour 85 = .ok (.iload 4, 2) := dk_21 4 (dk_at dksX0_pour_3 13 rfl rfl)
theorem dX0_pour_87 : decode cX0_pour 87 = .ok (.aaload, 1) := dk_50 (dk_at dksX0_pour_3 15 rfl rfl)
theorem dX0_pour_88 : decode cX0_pour 88 = .ok (.getfield 261, 3) := dk_180 1 5 (dk_at dksX0_pour_3 16 rfl rfl)
theorem dX0_pour_91 : decode cX0_pour 91 = .ok (.istore 5, 2) := dk_54 5 (dk_at dksX0_pour_3 19 rfl rfl)
theorem dX0_pour_93 : decode cX0_pour 93 = .ok (.iload_n 3, 1) := dk_29 (dk_at dksX0_pour_3 21 rfl rfl)
theorem dX0_pour_94 : decode cX0_pour 94 = .ok (.aload_n 0, 1) := dk_42 (dk_at dksX0_pour_3 22 rfl rfl)
theorem dX0_pour_95 : decode cX0_pour 95 = .ok (.getfield 46, 3) := dk_180 0 46 (dk_at dksX0_pour_4 0 rfl rfl)
theorem dX0_pour_98 : decode cX0_pour 98 = .ok (.getfield 267, 3) := dk_180 1 11 (dk_at dksX0_pour_4 3 rfl rfl)
theorem dX0_pour_101 : decode cX0_pour 101 = .ok (.iload 4, 2) := dk_21 4 (dk_at dksX0_pour_4 6 rfl rfl)
theorem dX0_pour_103 : decode cX0_pour 103 = .ok (.aaload, 1) := dk_50 (dk_at dksX0_pour_4 8 rfl rfl)
theorem dX0_pour_104 : decode cX0_pour 104 = .ok (.iconst 1, 1) := dk_4 (dk_at dksX0_pour_4 9 rfl rfl)
theorem dX0_pour_105 : decode cX0_pour 105 = .ok (.iload 5, 2) := dk_21 5 (dk_at dksX0_pour_4 10 rfl rfl)
theorem dX0_pour_107 : decode cX0_pour 107 = .ok (.invokestatic 332, 3) := dk_184 1 76 (dk_at dksX0_pour_4 12 rfl rfl)
theorem dX0_pour_110 : decode cX0_pour 110 = .ok (.iload 5, 2) := dk_21 5 (dk_at dksX0_pour_4 15 rfl rfl)
theorem dX0_pour_112 : decode cX0_pour 112 = .ok (.if_icmp .ne 7, 3) := dk_160 0 7 (dk_at dksX0_pour_4 17 rfl rfl)
theorem dX0_pour_115 : decode cX0_pour 115 = .ok (.iconst 0, 1) := dk_3 (dk_at dksX0_pour_4 20 rfl rfl)
theorem dX0_pour_116 : decode cX0_pour 116 = .ok (.goto 4, 3) := dk_167 0 4 (dk_at dksX0_pour_4 21 rfl rfl)
theorem dX0_pour_119 : decode cX0_pour 119 = .ok (.iconst 1, 1) := dk_4 (dk_at dksX0_pour_5 0 rfl rfl)
theorem dX0_pour_120 : decode cX0_pour 120 = .ok (.iadd, 1) := dk_96 (dk_at dksX0_pour_5 1 rfl rfl)
theorem dX0_pour_121 : decode cX0_pour 121 = .ok (.istore_n 3, 1) := dk_62 (dk_at dksX0_pour_5 2 rfl rfl)
theorem dX0_pour_122 : decode cX0_pour 122 = .ok (.iinc 4 1, 3) := dk_132 4 1 (dk_at dksX0_pour_5 3 rfl rfl)
theorem dX0_pour_125 : decode cX0_pour 125 = .ok (.goto (-92), 3) := dk_167 255 164 (dk_at dksX0_pour_5 6 rfl rfl)
theorem dX0_pour_128 : decode cX0_pour 128 = .ok (.iload_n 3, 1) := dk_29 (dk_at dksX0_pour_5 9 rfl rfl)
theorem dX0_pour_129 : decode cX0_pour 129 = .ok (.ireturn, 1) := dk_172 (dk_at dksX0_pour_5 10 rfl rfl)
abbrev cX0_reads : ByteArray := prog_1_method_83_code
def yX0_reads : MethodName := ⟨RX0, "reads", "(I)I"⟩
def dkwX0_reads_3 : List UInt8 := [182, 1, 55, 182, 1, 43, 159, 0, 5, 29, 172, 132, 3, 1, 167, 255, 202, 18, 3, 172]
abbrev dktX0_reads_3 : List UInt8 := dkwX0_reads_3 ++ []
def dkwX0_reads_2 : List UInt8 := [182, 1, 49, 153, 0, 28, 44, 29, 182, 1, 197, 42, 42, 180, 0, 46, 180, 1, 11, 29, 50, 42]
abbrev dktX0_reads_2 : List UInt8 := dkwX0_reads_2 ++ dktX0_reads_3
def dkwX0_reads_1 : List UInt8 := [19, 1, 185, 172, 3, 62, 29, 44, 182, 1, 186, 162, 0, 52, 44, 29, 182, 1, 194, 153, 0, 38, 42, 29]
abbrev dktX0_reads_1 : List UInt8 := dkwX0_reads_1 ++ dktX0_reads_2
def dkwX0_reads_0 : List UInt8 := [27, 184, 1, 157, 154, 0, 6, 18, 133, 172, 42, 180, 0, 83, 27, 50, 77, 44, 182, 1, 182, 154, 0, 7]
abbrev dktX0_reads_0 : List UInt8 := dkwX0_reads_0 ++ dktX0_reads_1
theorem dksX0_reads_0 : cX0_reads.data.toList.drop 0 = dktX0_reads_0 := by decide +kernel
theorem dksX0_reads_1 : cX0_reads.data.toList.drop 24 = dktX0_reads_1 := dk_seg dksX0_reads_0 24 rfl rfl
theorem dksX0_reads_2 : cX0_reads.data.toList.drop 48 = dktX0_reads_2 := dk_seg dksX0_reads_1 24 rfl rfl
theorem dksX0_reads_3 : cX0_reads.data.toList.drop 70 = dktX0_reads_3 := dk_seg dksX0_reads_2 22 rfl rfl
theorem dX0_reads_0 : decode cX0_reads 0 = .ok (.iload_n 1, 1) := dk_27 (dk_at dksX0_reads_0 0 rfl rfl)
theorem dX0_reads_1 : decode cX0_reads 1 = .ok (.invokestatic 413, 3) := dk_184 1 157 (dk_at dksX0_reads_0 1 rfl rfl)
theorem dX0_reads_4 : decode cX0_reads 4 = .ok (.ifCond .ne 6, 3) := dk_154 0 6 (dk_at dksX0_reads_0 4 rfl rfl)
theorem dX0_reads_7 : decode cX0_reads 7 = .ok (.ldc 133, 2) := dk_18 133 (dk_at dksX0_reads_0 7 rfl rfl)
theorem dX0_reads_9 : decode cX0_reads 9 = .ok (.ireturn, 1) := dk_172 (dk_at dksX0_reads_0 9 rfl rfl)
theorem dX0_reads_10 : decode cX0_reads 10 = .ok (.aload_n 0, 1) := dk_42 (dk_at dksX0_reads_0 10 rfl rfl)
theorem dX0_reads_11 : decode cX0_reads 11 = .ok (.getfield 83, 3) := dk_180 0 83 (dk_at dksX0_reads_0 11 rfl rfl)
theorem dX0_reads_14 : decode cX0_reads 14 = .ok (.iload_n 1, 1) := dk_27 (dk_at dksX0_reads_0 14 rfl rfl)
theorem dX0_reads_15 : decode cX0_reads 15 = .ok (.aaload, 1) := dk_50 (dk_at dksX0_reads_0 15 rfl rfl)
theorem dX0_reads_16 : decode cX0_reads 16 = .ok (.astore_n 2, 1) := dk_77 (dk_at dksX0_reads_0 16 rfl rfl)
theorem dX0_reads_17 : decode cX0_reads 17 = .ok (.aload_n 2, 1) := dk_44 (dk_at dksX0_reads_0 17 rfl rfl)
theorem dX0_reads_18 : decode cX0_reads 18 = .ok (.invokevirtual 438, 3) := dk_182 1 182 (dk_at dksX0_reads_0 18 rfl rfl)
theorem dX0_reads_21 : decode cX0_reads 21 = .ok (.ifCond .ne 7, 3) := dk_154 0 7 (dk_at dksX0_reads_0 21 rfl rfl)
theorem dX0_reads_24 : decode cX0_reads 24 = .ok (.ldc_w 441, 3) := dk_19 1 185 (dk_at dksX0_reads_1 0 rfl rfl)
theorem dX0_reads_27 : decode cX0_reads 27 = .ok (.ireturn, 1) := dk_172 (dk_at dksX0_reads_1 3 rfl rfl)
theorem dX0_reads_28 : decode cX0_reads 28 = .ok (.iconst 0, 1) := dk_3 (dk_at dksX0_reads_1 4 rfl rfl)
theorem dX0_reads_29 : decode cX0_reads 29 = .ok (.istore_n 3, 1) := dk_62 (dk_at dksX0_reads_1 5 rfl rfl)
theorem dX0_reads_30 : decode cX0_reads 30 = .ok (.iload_n 3, 1) := dk_29 (dk_at dksX0_reads_1 6 rfl rfl)
theorem dX0_reads_31 : decode cX0_reads 31 = .ok (.aload_n 2, 1) := dk_44 (dk_at dksX0_reads_1 7 rfl rfl)
theorem dX0_reads_32 : decode cX0_reads 32 = .ok (.invokevirtual 442, 3) := dk_182 1 186 (dk_at dksX0_reads_1 8 rfl rfl)
theorem dX0_reads_35 : decode cX0_reads 35 = .ok (.if_icmp .ge 52, 3) := dk_162 0 52 (dk_at dksX0_reads_1 11 rfl rfl)
theorem dX0_reads_38 : decode cX0_reads 38 = .ok (.aload_n 2, 1) := dk_44 (dk_at dksX0_reads_1 14 rfl rfl)
theorem dX0_reads_39 : decode cX0_reads 39 = .ok (.iload_n 3, 1) := dk_29 (dk_at dksX0_reads_1 15 rfl rfl)
theorem dX0_reads_40 : decode cX0_reads 40 = .ok (.invokevirtual 450, 3) := dk_182 1 194 (dk_at dksX0_reads_1 16 rfl rfl)
theorem dX0_reads_43 : decode cX0_reads 43 = .ok (.ifCond .eq 38, 3) := dk_153 0 38 (dk_at dksX0_reads_1 19 rfl rfl)
theorem dX0_reads_46 : decode cX0_reads 46 = .ok (.aload_n 0, 1) := dk_42 (dk_at dksX0_reads_1 22 rfl rfl)
theorem dX0_reads_47 : decode cX0_reads 47 = .ok (.iload_n 3, 1) := dk_29 (dk_at dksX0_reads_1 23 rfl rfl)
theorem dX0_reads_48 : decode cX0_reads 48 = .ok (.invokevirtual 305, 3) := dk_182 1 49 (dk_at dksX0_reads_2 0 rfl rfl)
theorem dX0_reads_51 : decode cX0_reads 51 = .ok (.ifCond .eq 28, 3) := dk_153 0 28 (dk_at dksX0_reads_2 3 rfl rfl)
theorem dX0_reads_54 : decode cX0_reads 54 = .ok (.aload_n 2, 1) := dk_44 (dk_at dksX0_reads_2 6 rfl rfl)
theorem dX0_reads_55 : decode cX0_reads 55 = .ok (.iload_n 3, 1) := dk_29 (dk_at dksX0_reads_2 7 rfl rfl)
theorem dX0_reads_56 : decode cX0_reads 56 = .ok (.invokevirtual 453, 3) := dk_182 1 197 (dk_at dksX0_reads_2 8 rfl rfl)
theorem dX0_reads_59 : decode cX0_reads 59 = .ok (.aload_n 0, 1) := dk_42 (dk_at dksX0_reads_2 11 rfl rfl)
theorem dX0_reads_60 : decode cX0_reads 60 = .ok (.aload_n 0, 1) := dk_42 (dk_at dksX0_reads_2 12 rfl rfl)
theorem dX0_reads_61 : decode cX0_reads 61 = .ok (.getfield 46, 3) := dk_180 0 46 (dk_at dksX0_reads_2 13 rfl rfl)
theorem dX0_reads_64 : decode cX0_reads 64 = .ok (.getfield 267, 3) := dk_180 1 11 (dk_at dksX0_reads_2 16 rfl rfl)
theorem dX0_reads_67 : decode cX0_reads 67 = .ok (.iload_n 3, 1) := dk_29 (dk_at dksX0_reads_2 19 rfl rfl)
theorem dX0_reads_68 : decode cX0_reads 68 = .ok (.aaload, 1) := dk_50 (dk_at dksX0_reads_2 20 rfl rfl)
theorem dX0_reads_69 : decode cX0_reads 69 = .ok (.aload_n 0, 1) := dk_42 (dk_at dksX0_reads_2 21 rfl rfl)
theorem dX0_reads_70 : decode cX0_reads 70 = .ok (.invokevirtual 311, 3) := dk_182 1 55 (dk_at dksX0_reads_3 0 rfl rfl)
theorem dX0_reads_73 : decode cX0_reads 73 = .ok (.invokevirtual 299, 3) := dk_182 1 43 (dk_at dksX0_reads_3 3 rfl rfl)
theorem dX0_reads_76 : decode cX0_reads 76 = .ok (.if_icmp .eq 5, 3) := dk_159 0 5 (dk_at dksX0_reads_3 6 rfl rfl)
theorem dX0_reads_79 : decode cX0_reads 79 = .ok (.iload_n 3, 1) := dk_29 (dk_at dksX0_reads_3 9 rfl rfl)
theorem dX0_reads_80 : decode cX0_reads 80 = .ok (.ireturn, 1) := dk_172 (dk_at dksX0_reads_3 10 rfl rfl)
theorem dX0_reads_81 : decode cX0_reads 81 = .ok (.iinc 3 1, 3) := dk_132 3 1 (dk_at dksX0_reads_3 11 rfl rfl)
theorem dX0_reads_84 : decode cX0_reads 84 = .ok (.goto (-54), 3) := dk_167 255 202 (dk_at dksX0_reads_3 14 rfl rfl)
theorem dX0_reads_87 : decode cX0_reads 87 = .ok (.ldc 3, 2) := dk_18 3 (dk_at dksX0_reads_3 17 rfl rfl)
theorem dX0_reads_89 : decode cX0_reads 89 = .ok (.ireturn, 1) := dk_172 (dk_at dksX0_reads_3 19 rfl rfl)
abbrev cX0_like : ByteArray := prog_1_method_84_code
def yX0_like : MethodName := ⟨RX0, "like", "(II)I"⟩
def dkwX0_like_7 : List UInt8 := [167, 0, 6, 22, 5, 136, 172]
abbrev dktX0_like_7 : List UInt8 := dkwX0_like_7 ++ []
def dkwX0_like_6 : List UInt8 := [54, 4, 22, 5, 22, 8, 184, 1, 208, 55, 5, 132, 7, 1, 167, 255, 154, 28, 154, 0, 8, 21, 4]
abbrev dktX0_like_6 : List UInt8 := dkwX0_like_6 ++ dktX0_like_7
def dkwX0_like_5 : List UInt8 := [55, 8, 132, 10, 1, 167, 255, 200, 22, 8, 22, 5, 148, 156, 0, 8, 21, 7, 167, 0, 5, 21, 4]
abbrev dktX0_like_5 : List UInt8 := dkwX0_like_5 ++ dktX0_like_6
def dkwX0_like_4 : List UInt8 := [42, 180, 0, 77, 21, 7, 21, 10, 96, 17, 2, 208, 112, 46, 133, 101, 184, 1, 204, 167, 0, 4, 9, 97]
abbrev dktX0_like_4 : List UInt8 := dkwX0_like_4 ++ dktX0_like_5
def dkwX0_like_3 : List UInt8 := [182, 1, 186, 162, 0, 53, 22, 8, 45, 21, 10, 182, 1, 194, 153, 0, 32, 45, 21, 10, 182, 1, 197, 133]
abbrev dktX0_like_3 : List UInt8 := dkwX0_like_3 ++ dktX0_like_4
def dkwX0_like_2 : List UInt8 := [55, 5, 3, 54, 7, 21, 7, 17, 2, 208, 162, 0, 100, 9, 55, 8, 3, 54, 10, 21, 10, 45]
abbrev dktX0_like_2 : List UInt8 := dkwX0_like_2 ++ dktX0_like_3
def dkwX0_like_1 : List UInt8 := [50, 78, 45, 182, 1, 182, 154, 0, 7, 19, 1, 185, 172, 42, 182, 1, 131, 3, 54, 4, 20, 1, 202]
abbrev dktX0_like_1 : List UInt8 := dkwX0_like_1 ++ dktX0_like_2
def dkwX0_like_0 : List UInt8 := [27, 184, 1, 157, 153, 0, 12, 28, 3, 4, 184, 0, 108, 154, 0, 6, 18, 133, 172, 42, 180, 0, 83, 27]
abbrev dktX0_like_0 : List UInt8 := dkwX0_like_0 ++ dktX0_like_1
theorem dksX0_like_0 : cX0_like.data.toList.drop 0 = dktX0_like_0 := by decide +kernel
theorem dksX0_like_1 : cX0_like.data.toList.drop 24 = dktX0_like_1 := dk_seg dksX0_like_0 24 rfl rfl
theorem dksX0_like_2 : cX0_like.data.toList.drop 47 = dktX0_like_2 := dk_seg dksX0_like_1 23 rfl rfl
theorem dksX0_like_3 : cX0_like.data.toList.drop 69 = dktX0_like_3 := dk_seg dksX0_like_2 22 rfl rfl
theorem dksX0_like_4 : cX0_like.data.toList.drop 93 = dktX0_like_4 := dk_seg dksX0_like_3 24 rfl rfl
theorem dksX0_like_5 : cX0_like.data.toList.drop 117 = dktX0_like_5 := dk_seg dksX0_like_4 24 rfl rfl
theorem dksX0_like_6 : cX0_like.data.toList.drop 140 = dktX0_like_6 := dk_seg dksX0_like_5 23 rfl rfl
theorem dksX0_like_7 : cX0_like.data.toList.drop 163 = dktX0_like_7 := dk_seg dksX0_like_6 23 rfl rfl
theorem dX0_like_0 : decode cX0_like 0 = .ok (.iload_n 1, 1) := dk_27 (dk_at dksX0_like_0 0 rfl rfl)
theorem dX0_like_1 : decode cX0_like 1 = .ok (.invokestatic 413, 3) := dk_184 1 157 (dk_at dksX0_like_0 1 rfl rfl)
theorem dX0_like_4 : decode cX0_like 4 = .ok (.ifCond .eq 12, 3) := dk_153 0 12 (dk_at dksX0_like_0 4 rfl rfl)
theorem dX0_like_7 : decode cX0_like 7 = .ok (.iload_n 2, 1) := dk_28 (dk_at dksX0_like_0 7 rfl rfl)
theorem dX0_like_8 : decode cX0_like 8 = .ok (.iconst 0, 1) := dk_3 (dk_at dksX0_like_0 8 rfl rfl)
theorem dX0_like_9 : decode cX0_like 9 = .ok (.iconst 1, 1) := dk_4 (dk_at dksX0_like_0 9 rfl rfl)
theorem dX0_like_10 : decode cX0_like 10 = .ok (.invokestatic 108, 3) := dk_184 0 108 (dk_at dksX0_like_0 10 rfl rfl)
theorem dX0_like_13 : decode cX0_like 13 = .ok (.ifCond .ne 6, 3) := dk_154 0 6 (dk_at dksX0_like_0 13 rfl rfl)
theorem dX0_like_16 : decode cX0_like 16 = .ok (.ldc 133, 2) := dk_18 133 (dk_at dksX0_like_0 16 rfl rfl)
theorem dX0_like_18 : decode cX0_like 18 = .ok (.ireturn, 1) := dk_172 (dk_at dksX0_like_0 18 rfl rfl)
theorem dX0_like_19 : decode cX0_like 19 = .ok (.aload_n 0, 1) := dk_42 (dk_at dksX0_like_0 19 rfl rfl)
theorem dX0_like_20 : decode cX0_like 20 = .ok (.getfield 83, 3) := dk_180 0 83 (dk_at dksX0_like_0 20 rfl rfl)
theorem dX0_like_23 : decode cX0_like 23 = .ok (.iload_n 1, 1) := dk_27 (dk_at dksX0_like_0 23 rfl rfl)
theorem dX0_like_24 : decode cX0_like 24 = .ok (.aaload, 1) := dk_50 (dk_at dksX0_like_1 0 rfl rfl)
theorem dX0_like_25 : decode cX0_like 25 = .ok (.astore_n 3, 1) := dk_78 (dk_at dksX0_like_1 1 rfl rfl)
theorem dX0_like_26 : decode cX0_like 26 = .ok (.aload_n 3, 1) := dk_45 (dk_at dksX0_like_1 2 rfl rfl)
theorem dX0_like_27 : decode cX0_like 27 = .ok (.invokevirtual 438, 3) := dk_182 1 182 (dk_at dksX0_like_1 3 rfl rfl)
theorem dX0_like_30 : decode cX0_like 30 = .ok (.ifCond .ne 7, 3) := dk_154 0 7 (dk_at dksX0_like_1 6 rfl rfl)
theorem dX0_like_33 : decode cX0_like 33 = .ok (.ldc_w 441, 3) := dk_19 1 185 (dk_at dksX0_like_1 9 rfl rfl)
theorem dX0_like_36 : decode cX0_like 36 = .ok (.ireturn, 1) := dk_172 (dk_at dksX0_like_1 12 rfl rfl)
theorem dX0_like_37 : decode cX0_like 37 = .ok (.aload_n 0, 1) := dk_42 (dk_at dksX0_like_1 13 rfl rfl)
theorem dX0_like_38 : decode cX0_like 38 = .ok (.invokevirtual 387, 3) := dk_182 1 131 (dk_at dksX0_like_1 14 rfl rfl)
theorem dX0_like_41 : decode cX0_like 41 = .ok (.iconst 0, 1) := dk_3 (dk_at dksX0_like_1 17 rfl rfl)
theorem dX0_like_42 : decode cX0_like 42 = .ok (.istore 4, 2) := dk_54 4 (dk_at dksX0_like_1 18 rfl rfl)
theorem dX0_like_44 : decode cX0_like 44 = .ok (.ldc2_w 458, 3) := dk_20 1 202 (dk_at dksX0_like_1 20 rfl rfl)
theorem dX0_like_47 : decode cX0_like 47 = .ok (.lstore 5, 2) := dk_55 5 (dk_at dksX0_like_2 0 rfl rfl)
theorem dX0_like_49 : decode cX0_like 49 = .ok (.iconst 0, 1) := dk_3 (dk_at dksX0_like_2 2 rfl rfl)
theorem dX0_like_50 : decode cX0_like 50 = .ok (.istore 7, 2) := dk_54 7 (dk_at dksX0_like_2 3 rfl rfl)
theorem dX0_like_52 : decode cX0_like 52 = .ok (.iload 7, 2) := dk_21 7 (dk_at dksX0_like_2 5 rfl rfl)
theorem dX0_like_54 : decode cX0_like 54 = .ok (.sipush 720, 3) := dk_17 2 208 (dk_at dksX0_like_2 7 rfl rfl)
theorem dX0_like_57 : decode cX0_like 57 = .ok (.if_icmp .ge 100, 3) := dk_162 0 100 (dk_at dksX0_like_2 10 rfl rfl)
theorem dX0_like_60 : decode cX0_like 60 = .ok (.lconst 0, 1) := dk_9 (dk_at dksX0_like_2 13 rfl rfl)
theorem dX0_like_61 : decode cX0_like 61 = .ok (.lstore 8, 2) := dk_55 8 (dk_at dksX0_like_2 14 rfl rfl)
theorem dX0_like_63 : decode cX0_like 63 = .ok (.iconst 0, 1) := dk_3 (dk_at dksX0_like_2 16 rfl rfl)
theorem dX0_like_64 : decode cX0_like 64 = .ok (.istore 10, 2) := dk_54 10 (dk_at dksX0_like_2 17 rfl rfl)
theorem dX0_like_66 : decode cX0_like 66 = .ok (.iload 10, 2) := dk_21 10 (dk_at dksX0_like_2 19 rfl rfl)
theorem dX0_like_68 : decode cX0_like 68 = .ok (.aload_n 3, 1) := dk_45 (dk_at dksX0_like_2 21 rfl rfl)
theorem dX0_like_69 : decode cX0_like 69 = .ok (.invokevirtual 442, 3) := dk_182 1 186 (dk_at dksX0_like_3 0 rfl rfl)
theorem dX0_like_72 : decode cX0_like 72 = .ok (.if_icmp .ge 53, 3) := dk_162 0 53 (dk_at dksX0_like_3 3 rfl rfl)
theorem dX0_like_75 : decode cX0_like 75 = .ok (.lload 8, 2) := dk_22 8 (dk_at dksX0_like_3 6 rfl rfl)
theorem dX0_like_77 : decode cX0_like 77 = .ok (.aload_n 3, 1) := dk_45 (dk_at dksX0_like_3 8 rfl rfl)
theorem dX0_like_78 : decode cX0_like 78 = .ok (.iload 10, 2) := dk_21 10 (dk_at dksX0_like_3 9 rfl rfl)
theorem dX0_like_80 : decode cX0_like 80 = .ok (.invokevirtual 450, 3) := dk_182 1 194 (dk_at dksX0_like_3 11 rfl rfl)
theorem dX0_like_83 : decode cX0_like 83 = .ok (.ifCond .eq 32, 3) := dk_153 0 32 (dk_at dksX0_like_3 14 rfl rfl)
theorem dX0_like_86 : decode cX0_like 86 = .ok (.aload_n 3, 1) := dk_45 (dk_at dksX0_like_3 17 rfl rfl)
theorem dX0_like_87 : decode cX0_like 87 = .ok (.iload 10, 2) := dk_21 10 (dk_at dksX0_like_3 18 rfl rfl)
theorem dX0_like_89 : decode cX0_like 89 = .ok (.invokevirtual 453, 3) := dk_182 1 197 (dk_at dksX0_like_3 20 rfl rfl)
theorem dX0_like_92 : decode cX0_like 92 = .ok (.i2l, 1) := dk_133 (dk_at dksX0_like_3 23 rfl rfl)
theorem dX0_like_93 : decode cX0_like 93 = .ok (.aload_n 0, 1) := dk_42 (dk_at dksX0_like_4 0 rfl rfl)
theorem dX0_like_94 : decode cX0_like 94 = .ok (.getfield 77, 3) := dk_180 0 77 (dk_at dksX0_like_4 1 rfl rfl)
theorem dX0_like_97 : decode cX0_like 97 = .ok (.iload 7, 2) := dk_21 7 (dk_at dksX0_like_4 4 rfl rfl)
theorem dX0_like_99 : decode cX0_like 99 = .ok (.iload 10, 2) := dk_21 10 (dk_at dksX0_like_4 6 rfl rfl)
theorem dX0_like_101 : decode cX0_like 101 = .ok (.iadd, 1) := dk_96 (dk_at dksX0_like_4 8 rfl rfl)
theorem dX0_like_102 : decode cX0_like 102 = .ok (.sipush 720, 3) := dk_17 2 208 (dk_at dksX0_like_4 9 rfl rfl)
theorem dX0_like_105 : decode cX0_like 105 = .ok (.irem, 1) := dk_112 (dk_at dksX0_like_4 12 rfl rfl)
theorem dX0_like_106 : decode cX0_like 106 = .ok (.iaload, 1) := dk_46 (dk_at dksX0_like_4 13 rfl rfl)
theorem dX0_like_107 : decode cX0_like 107 = .ok (.i2l, 1) := dk_133 (dk_at dksX0_like_4 14 rfl rfl)
theorem dX0_like_108 : decode cX0_like 108 = .ok (.lsub, 1) := dk_101 (dk_at dksX0_like_4 15 rfl rfl)
theorem dX0_like_109 : decode cX0_like 109 = .ok (.invokestatic 460, 3) := dk_184 1 204 (dk_at dksX0_like_4 16 rfl rfl)
theorem dX0_like_112 : decode cX0_like 112 = .ok (.goto 4, 3) := dk_167 0 4 (dk_at dksX0_like_4 19 rfl rfl)
theorem dX0_like_115 : decode cX0_like 115 = .ok (.lconst 0, 1) := dk_9 (dk_at dksX0_like_4 22 rfl rfl)
theorem dX0_like_116 : decode cX0_like 116 = .ok (.ladd, 1) := dk_97 (dk_at dksX0_like_4 23 rfl rfl)
theorem dX0_like_117 : decode cX0_like 117 = .ok (.lstore 8, 2) := dk_55 8 (dk_at dksX0_like_5 0 rfl rfl)
theorem dX0_like_119 : decode cX0_like 119 = .ok (.iinc 10 1, 3) := dk_132 10 1 (dk_at dksX0_like_5 2 rfl rfl)
theorem dX0_like_122 : decode cX0_like 122 = .ok (.goto (-56), 3) := dk_167 255 200 (dk_at dksX0_like_5 5 rfl rfl)
theorem dX0_like_125 : decode cX0_like 125 = .ok (.lload 8, 2) := dk_22 8 (dk_at dksX0_like_5 8 rfl rfl)
theorem dX0_like_127 : decode cX0_like 127 = .ok (.lload 5, 2) := dk_22 5 (dk_at dksX0_like_5 10 rfl rfl)
theorem dX0_like_129 : decode cX0_like 129 = .ok (.lcmp, 1) := dk_148 (dk_at dksX0_like_5 12 rfl rfl)
theorem dX0_like_130 : decode cX0_like 130 = .ok (.ifCond .ge 8, 3) := dk_156 0 8 (dk_at dksX0_like_5 13 rfl rfl)
theorem dX0_like_133 : decode cX0_like 133 = .ok (.iload 7, 2) := dk_21 7 (dk_at dksX0_like_5 16 rfl rfl)
theorem dX0_like_135 : decode cX0_like 135 = .ok (.goto 5, 3) := dk_167 0 5 (dk_at dksX0_like_5 18 rfl rfl)
theorem dX0_like_138 : decode cX0_like 138 = .ok (.iload 4, 2) := dk_21 4 (dk_at dksX0_like_5 21 rfl rfl)
theorem dX0_like_140 : decode cX0_like 140 = .ok (.istore 4, 2) := dk_54 4 (dk_at dksX0_like_6 0 rfl rfl)
theorem dX0_like_142 : decode cX0_like 142 = .ok (.lload 5, 2) := dk_22 5 (dk_at dksX0_like_6 2 rfl rfl)
theorem dX0_like_144 : decode cX0_like 144 = .ok (.lload 8, 2) := dk_22 8 (dk_at dksX0_like_6 4 rfl rfl)
theorem dX0_like_146 : decode cX0_like 146 = .ok (.invokestatic 464, 3) := dk_184 1 208 (dk_at dksX0_like_6 6 rfl rfl)
theorem dX0_like_149 : decode cX0_like 149 = .ok (.lstore 5, 2) := dk_55 5 (dk_at dksX0_like_6 9 rfl rfl)
theorem dX0_like_151 : decode cX0_like 151 = .ok (.iinc 7 1, 3) := dk_132 7 1 (dk_at dksX0_like_6 11 rfl rfl)
theorem dX0_like_154 : decode cX0_like 154 = .ok (.goto (-102), 3) := dk_167 255 154 (dk_at dksX0_like_6 14 rfl rfl)
theorem dX0_like_157 : decode cX0_like 157 = .ok (.iload_n 2, 1) := dk_28 (dk_at dksX0_like_6 17 rfl rfl)
theorem dX0_like_158 : decode cX0_like 158 = .ok (.ifCond .ne 8, 3) := dk_154 0 8 (dk_at dksX0_like_6 18 rfl rfl)
theorem dX0_like_161 : decode cX0_like 161 = .ok (.iload 4, 2) := dk_21 4 (dk_at dksX0_like_6 21 rfl rfl)
theorem dX0_like_163 : decode cX0_like 163 = .ok (.goto 6, 3) := dk_167 0 6 (dk_at dksX0_like_7 0 rfl rfl)
theorem dX0_like_166 : decode cX0_like 166 = .ok (.lload 5, 2) := dk_22 5 (dk_at dksX0_like_7 3 rfl rfl)
theorem dX0_like_168 : decode cX0_like 168 = .ok (.l2i, 1) := dk_136 (dk_at dksX0_like_7 5 rfl rfl)
theorem dX0_like_169 : decode cX0_like 169 = .ok (.ireturn, 1) := dk_172 (dk_at dksX0_like_7 6 rfl rfl)
abbrev cX0_copy : ByteArray := prog_1_method_86_code
def yX0_copy : MethodName := ⟨RX0, "copy", "(IIIII)I"⟩
def dkwX0_copy_5 : List UInt8 := [25, 7, 21, 4, 21, 5, 182, 1, 213, 21, 5, 172]
abbrev dktX0_copy_5 : List UInt8 := dkwX0_copy_5 ++ []
def dkwX0_copy_4 : List UInt8 := [163, 0, 16, 21, 4, 25, 7, 182, 1, 186, 21, 5, 100, 164, 0, 7, 19, 1, 193, 172, 42, 25, 6, 28]
abbrev dktX0_copy_4 : List UInt8 := dkwX0_copy_4 ++ dktX0_copy_5
def dkwX0_copy_3 : List UInt8 := [28, 155, 0, 38, 21, 4, 155, 0, 33, 21, 5, 155, 0, 28, 28, 25, 6, 182, 1, 186, 21, 5, 100]
abbrev dktX0_copy_3 : List UInt8 := dkwX0_copy_3 ++ dktX0_copy_4
def dkwX0_copy_2 : List UInt8 := [154, 0, 7, 19, 1, 185, 172, 25, 6, 182, 1, 171, 25, 7, 182, 1, 171, 159, 0, 7, 19, 1, 71, 172]
abbrev dktX0_copy_2 : List UInt8 := dkwX0_copy_2 ++ dktX0_copy_3
def dkwX0_copy_1 : List UInt8 := [58, 6, 42, 180, 0, 83, 29, 50, 58, 7, 25, 6, 182, 1, 182, 153, 0, 11, 25, 7, 182, 1, 182]
abbrev dktX0_copy_1 : List UInt8 := dkwX0_copy_1 ++ dktX0_copy_2
def dkwX0_copy_0 : List UInt8 := [27, 184, 1, 157, 153, 0, 10, 29, 184, 1, 157, 154, 0, 6, 18, 133, 172, 42, 180, 0, 83, 27, 50]
abbrev dktX0_copy_0 : List UInt8 := dkwX0_copy_0 ++ dktX0_copy_1
theorem dksX0_copy_0 : cX0_copy.data.toList.drop 0 = dktX0_copy_0 := by decide +kernel
theorem dksX0_copy_1 : cX0_copy.data.toList.drop 23 = dktX0_copy_1 := dk_seg dksX0_copy_0 23 rfl rfl
theorem dksX0_copy_2 : cX0_copy.data.toList.drop 46 = dktX0_copy_2 := dk_seg dksX0_copy_1 23 rfl rfl
theorem dksX0_copy_3 : cX0_copy.data.toList.drop 70 = dktX0_copy_3 := dk_seg dksX0_copy_2 24 rfl rfl
theorem dksX0_copy_4 : cX0_copy.data.toList.drop 93 = dktX0_copy_4 := dk_seg dksX0_copy_3 23 rfl rfl
theorem dksX0_copy_5 : cX0_copy.data.toList.drop 117 = dktX0_copy_5 := dk_seg dksX0_copy_4 24 rfl rfl
theorem dX0_copy_0 : decode cX0_copy 0 = .ok (.iload_n 1, 1) := dk_27 (dk_at dksX0_copy_0 0 rfl rfl)
theorem dX0_copy_1 : decode cX0_copy 1 = .ok (.invokestatic 413, 3) := dk_184 1 157 (dk_at dksX0_copy_0 1 rfl rfl)
theorem dX0_copy_4 : decode cX0_copy 4 = .ok (.ifCond .eq 10, 3) := dk_153 0 10 (dk_at dksX0_copy_0 4 rfl rfl)
theorem dX0_copy_7 : decode cX0_copy 7 = .ok (.iload_n 3, 1) := dk_29 (dk_at dksX0_copy_0 7 rfl rfl)
theorem dX0_copy_8 : decode cX0_copy 8 = .ok (.invokestatic 413, 3) := dk_184 1 157 (dk_at dksX0_copy_0 8 rfl rfl)
theorem dX0_copy_11 : decode cX0_copy 11 = .ok (.ifCond .ne 6, 3) := dk_154 0 6 (dk_at dksX0_copy_0 11 rfl rfl)
theorem dX0_copy_14 : decode cX0_copy 14 = .ok (.ldc 133, 2) := dk_18 133 (dk_at dksX0_copy_0 14 rfl rfl)
theorem dX0_copy_16 : decode cX0_copy 16 = .ok (.ireturn, 1) := dk_172 (dk_at dksX0_copy_0 16 rfl rfl)
theorem dX0_copy_17 : decode cX0_copy 17 = .ok (.aload_n 0, 1) := dk_42 (dk_at dksX0_copy_0 17 rfl rfl)
theorem dX0_copy_18 : decode cX0_copy 18 = .ok (.getfield 83, 3) := dk_180 0 83 (dk_at dksX0_copy_0 18 rfl rfl)
theorem dX0_copy_21 : decode cX0_copy 21 = .ok (.iload_n 1, 1) := dk_27 (dk_at dksX0_copy_0 21 rfl rfl)
theorem dX0_copy_22 : decode cX0_copy 22 = .ok (.aaload, 1) := dk_50 (dk_at dksX0_copy_0 22 rfl rfl)
theorem dX0_copy_23 : decode cX0_copy 23 = .ok (.astore 6, 2) := dk_58 6 (dk_at dksX0_copy_1 0 rfl rfl)
theorem dX0_copy_25 : decode cX0_copy 25 = .ok (.aload_n 0, 1) := dk_42 (dk_at dksX0_copy_1 2 rfl rfl)
theorem dX0_copy_26 : decode cX0_copy 26 = .ok (.getfield 83, 3) := dk_180 0 83 (dk_at dksX0_copy_1 3 rfl rfl)
theorem dX0_copy_29 : decode cX0_copy 29 = .ok (.iload_n 3, 1) := dk_29 (dk_at dksX0_copy_1 6 rfl rfl)
theorem dX0_copy_30 : decode cX0_copy 30 = .ok (.aaload, 1) := dk_50 (dk_at dksX0_copy_1 7 rfl rfl)
theorem dX0_copy_31 : decode cX0_copy 31 = .ok (.astore 7, 2) := dk_58 7 (dk_at dksX0_copy_1 8 rfl rfl)
theorem dX0_copy_33 : decode cX0_copy 33 = .ok (.aload 6, 2) := dk_25 6 (dk_at dksX0_copy_1 10 rfl rfl)
theorem dX0_copy_35 : decode cX0_copy 35 = .ok (.invokevirtual 438, 3) := dk_182 1 182 (dk_at dksX0_copy_1 12 rfl rfl)
theorem dX0_copy_38 : decode cX0_copy 38 = .ok (.ifCond .eq 11, 3) := dk_153 0 11 (dk_at dksX0_copy_1 15 rfl rfl)
theorem dX0_copy_41 : decode cX0_copy 41 = .ok (.aload 7, 2) := dk_25 7 (dk_at dksX0_copy_1 18 rfl rfl)
theorem dX0_copy_43 : decode cX0_copy 43 = .ok (.invokevirtual 438, 3) := dk_182 1 182 (dk_at dksX0_copy_1 20 rfl rfl)
theorem dX0_copy_46 : decode cX0_copy 46 = .ok (.ifCond .ne 7, 3) := dk_154 0 7 (dk_at dksX0_copy_2 0 rfl rfl)
theorem dX0_copy_49 : decode cX0_copy 49 = .ok (.ldc_w 441, 3) := dk_19 1 185 (dk_at dksX0_copy_2 3 rfl rfl)
theorem dX0_copy_52 : decode cX0_copy 52 = .ok (.ireturn, 1) := dk_172 (dk_at dksX0_copy_2 6 rfl rfl)
theorem dX0_copy_53 : decode cX0_copy 53 = .ok (.aload 6, 2) := dk_25 6 (dk_at dksX0_copy_2 7 rfl rfl)
theorem dX0_copy_55 : decode cX0_copy 55 = .ok (.invokevirtual 427, 3) := dk_182 1 171 (dk_at dksX0_copy_2 9 rfl rfl)
theorem dX0_copy_58 : decode cX0_copy 58 = .ok (.aload 7, 2) := dk_25 7 (dk_at dksX0_copy_2 12 rfl rfl)
theorem dX0_copy_60 : decode cX0_copy 60 = .ok (.invokevirtual 427, 3) := dk_182 1 171 (dk_at dksX0_copy_2 14 rfl rfl)
theorem dX0_copy_63 : decode cX0_copy 63 = .ok (.if_icmp .eq 7, 3) := dk_159 0 7 (dk_at dksX0_copy_2 17 rfl rfl)
theorem dX0_copy_66 : decode cX0_copy 66 = .ok (.ldc_w 327, 3) := dk_19 1 71 (dk_at dksX0_copy_2 20 rfl rfl)
theorem dX0_copy_69 : decode cX0_copy 69 = .ok (.ireturn, 1) := dk_172 (dk_at dksX0_copy_2 23 rfl rfl)
theorem dX0_copy_70 : decode cX0_copy 70 = .ok (.iload_n 2, 1) := dk_28 (dk_at dksX0_copy_3 0 rfl rfl)
theorem dX0_copy_71 : decode cX0_copy 71 = .ok (.ifCond .lt 38, 3) := dk_155 0 38 (dk_at dksX0_copy_3 1 rfl rfl)
theorem dX0_copy_74 : decode cX0_copy 74 = .ok (.iload 4, 2) := dk_21 4 (dk_at dksX0_copy_3 4 rfl rfl)
theorem dX0_copy_76 : decode cX0_copy 76 = .ok (.ifCond .lt 33, 3) := dk_155 0 33 (dk_at dksX0_copy_3 6 rfl rfl)
theorem dX0_copy_79 : decode cX0_copy 79 = .ok (.iload 5, 2) := dk_21 5 (dk_at dksX0_copy_3 9 rfl rfl)
theorem dX0_copy_81 : decode cX0_copy 81 = .ok (.ifCond .lt 28, 3) := dk_155 0 28 (dk_at dksX0_copy_3 11 rfl rfl)
theorem dX0_copy_84 : decode cX0_copy 84 = .ok (.iload_n 2, 1) := dk_28 (dk_at dksX0_copy_3 14 rfl rfl)
theorem dX0_copy_85 : decode cX0_copy 85 = .ok (.aload 6, 2) := dk_25 6 (dk_at dksX0_copy_3 15 rfl rfl)
theorem dX0_copy_87 : decode cX0_copy 87 = .ok (.invokevirtual 442, 3) := dk_182 1 186 (dk_at dksX0_copy_3 17 rfl rfl)
theorem dX0_copy_90 : decode cX0_copy 90 = .ok (.iload 5, 2) := dk_21 5 (dk_at dksX0_copy_3 20 rfl rfl)
theorem dX0_copy_92 : decode cX0_copy 92 = .ok (.isub, 1) := dk_100 (dk_at dksX0_copy_3 22 rfl rfl)
theorem dX0_copy_93 : decode cX0_copy 93 = .ok (.if_icmp .gt 16, 3) := dk_163 0 16 (dk_at dksX0_copy_4 0 rfl rfl)
theorem dX0_copy_96 : decode cX0_copy 96 = .ok (.iload 4, 2) := dk_21 4 (dk_at dksX0_copy_4 3 rfl rfl)
theorem dX0_copy_98 : decode cX0_copy 98 = .ok (.aload 7, 2) := dk_25 7 (dk_at dksX0_copy_4 5 rfl rfl)
theorem dX0_copy_100 : decode cX0_copy 100 = .ok (.invokevirtual 442, 3) := dk_182 1 186 (dk_at dksX0_copy_4 7 rfl rfl)
theorem dX0_copy_103 : decode cX0_copy 103 = .ok (.iload 5, 2) := dk_21 5 (dk_at dksX0_copy_4 10 rfl rfl)
theorem dX0_copy_105 : decode cX0_copy 105 = .ok (.isub, 1) := dk_100 (dk_at dksX0_copy_4 12 rfl rfl)
theorem dX0_copy_106 : decode cX0_copy 106 = .ok (.if_icmp .le 7, 3) := dk_164 0 7 (dk_at dksX0_copy_4 13 rfl rfl)
theorem dX0_copy_109 : decode cX0_copy 109 = .ok (.ldc_w 449, 3) := dk_19 1 193 (dk_at dksX0_copy_4 16 rfl rfl)
theorem dX0_copy_112 : decode cX0_copy 112 = .ok (.ireturn, 1) := dk_172 (dk_at dksX0_copy_4 19 rfl rfl)
theorem dX0_copy_113 : decode cX0_copy 113 = .ok (.aload_n 0, 1) := dk_42 (dk_at dksX0_copy_4 20 rfl rfl)
theorem dX0_copy_114 : decode cX0_copy 114 = .ok (.aload 6, 2) := dk_25 6 (dk_at dksX0_copy_4 21 rfl rfl)
theorem dX0_copy_116 : decode cX0_copy 116 = .ok (.iload_n 2, 1) := dk_28 (dk_at dksX0_copy_4 23 rfl rfl)
theorem dX0_copy_117 : decode cX0_copy 117 = .ok (.aload 7, 2) := dk_25 7 (dk_at dksX0_copy_5 0 rfl rfl)
theorem dX0_copy_119 : decode cX0_copy 119 = .ok (.iload 4, 2) := dk_21 4 (dk_at dksX0_copy_5 2 rfl rfl)
theorem dX0_copy_121 : decode cX0_copy 121 = .ok (.iload 5, 2) := dk_21 5 (dk_at dksX0_copy_5 4 rfl rfl)
theorem dX0_copy_123 : decode cX0_copy 123 = .ok (.invokevirtual 469, 3) := dk_182 1 213 (dk_at dksX0_copy_5 6 rfl rfl)
theorem dX0_copy_126 : decode cX0_copy 126 = .ok (.iload 5, 2) := dk_21 5 (dk_at dksX0_copy_5 9 rfl rfl)
theorem dX0_copy_128 : decode cX0_copy 128 = .ok (.ireturn, 1) := dk_172 (dk_at dksX0_copy_5 11 rfl rfl)
abbrev cX0_carries : ByteArray := prog_1_method_85_code
def yX0_carries : MethodName := ⟨RX0, "carries", "(LStrokesHeard$Sheet;ILStrokesHeard$Sheet;II)V"⟩
def dkwX0_carries_4 : List UInt8 := [180, 0, 94, 21, 8, 48, 81, 132, 8, 1, 167, 255, 231, 177]
abbrev dktX0_carries_4 : List UInt8 := dkwX0_carries_4 ++ []
def dkwX0_carries_3 : List UInt8 := [132, 8, 1, 167, 255, 232, 3, 54, 8, 21, 8, 21, 5, 162, 0, 24, 25, 7, 21, 4, 21, 8, 96, 42]
abbrev dktX0_carries_3 : List UInt8 := dkwX0_carries_3 ++ dktX0_carries_4
def dkwX0_carries_2 : List UInt8 := [3, 54, 8, 21, 8, 21, 5, 162, 0, 23, 42, 180, 0, 94, 21, 8, 25, 6, 28, 21, 8, 96, 48, 81]
abbrev dktX0_carries_2 : List UInt8 := dkwX0_carries_2 ++ dktX0_carries_3
def dkwX0_carries_1 : List UInt8 := [21, 5, 184, 0, 34, 177, 43, 180, 1, 160, 192, 1, 174, 58, 6, 45, 180, 1, 160, 192, 1, 174, 58, 7]
abbrev dktX0_carries_1 : List UInt8 := dkwX0_carries_1 ++ dktX0_carries_2
def dkwX0_carries_0 : List UInt8 := [43, 182, 1, 171, 154, 0, 26, 43, 180, 1, 160, 192, 1, 211, 28, 45, 180, 1, 160, 192, 1, 211, 21, 4]
abbrev dktX0_carries_0 : List UInt8 := dkwX0_carries_0 ++ dktX0_carries_1
theorem dksX0_carries_0 : cX0_carries.data.toList.drop 0 = dktX0_carries_0 := by decide +kernel
theorem dksX0_carries_1 : cX0_carries.data.toList.drop 24 = dktX0_carries_1 := dk_seg dksX0_carries_0 24 rfl rfl
theorem dksX0_carries_2 : cX0_carries.data.toList.drop 48 = dktX0_carries_2 := dk_seg dksX0_carries_1 24 rfl rfl
theorem dksX0_carries_3 : cX0_carries.data.toList.drop 72 = dktX0_carries_3 := dk_seg dksX0_carries_2 24 rfl rfl
theorem dksX0_carries_4 : cX0_carries.data.toList.drop 96 = dktX0_carries_4 := dk_seg dksX0_carries_3 24 rfl rfl
theorem dX0_carries_0 : decode cX0_carries 0 = .ok (.aload_n 1, 1) := dk_43 (dk_at dksX0_carries_0 0 rfl rfl)
theorem dX0_carries_1 : decode cX0_carries 1 = .ok (.invokevirtual 427, 3) := dk_182 1 171 (dk_at dksX0_carries_0 1 rfl rfl)
theorem dX0_carries_4 : decode cX0_carries 4 = .ok (.ifCond .ne 26, 3) := dk_154 0 26 (dk_at dksX0_carries_0 4 rfl rfl)
theorem dX0_carries_7 : decode cX0_carries 7 = .ok (.aload_n 1, 1) := dk_43 (dk_at dksX0_carries_0 7 rfl rfl)
theorem dX0_carries_8 : decode cX0_carries 8 = .ok (.getfield 416, 3) := dk_180 1 160 (dk_at dksX0_carries_0 8 rfl rfl)
theorem dX0_carries_11 : decode cX0_carries 11 = .ok (.checkcast 467, 3) := dk_192 1 211 (dk_at dksX0_carries_0 11 rfl rfl)
theorem dX0_carries_14 : decode cX0_carries 14 = .ok (.iload_n 2, 1) := dk_28 (dk_at dksX0_carries_0 14 rfl rfl)
theorem dX0_carries_15 : decode cX0_carries 15 = .ok (.aload_n 3, 1) := dk_45 (dk_at dksX0_carries_0 15 rfl rfl)
theorem dX0_carries_16 : decode cX0_carries 16 = .ok (.getfield 416, 3) := dk_180 1 160 (dk_at dksX0_carries_0 16 rfl rfl)
theorem dX0_carries_19 : decode cX0_carries 19 = .ok (.checkcast 467, 3) := dk_192 1 211 (dk_at dksX0_carries_0 19 rfl rfl)
theorem dX0_carries_22 : decode cX0_carries 22 = .ok (.iload 4, 2) := dk_21 4 (dk_at dksX0_carries_0 22 rfl rfl)
theorem dX0_carries_24 : decode cX0_carries 24 = .ok (.iload 5, 2) := dk_21 5 (dk_at dksX0_carries_1 0 rfl rfl)
theorem dX0_carries_26 : decode cX0_carries 26 = .ok (.invokestatic 34, 3) := dk_184 0 34 (dk_at dksX0_carries_1 2 rfl rfl)
theorem dX0_carries_29 : decode cX0_carries 29 = .ok (.return_, 1) := dk_177 (dk_at dksX0_carries_1 5 rfl rfl)
theorem dX0_carries_30 : decode cX0_carries 30 = .ok (.aload_n 1, 1) := dk_43 (dk_at dksX0_carries_1 6 rfl rfl)
theorem dX0_carries_31 : decode cX0_carries 31 = .ok (.getfield 416, 3) := dk_180 1 160 (dk_at dksX0_carries_1 7 rfl rfl)
theorem dX0_carries_34 : decode cX0_carries 34 = .ok (.checkcast 430, 3) := dk_192 1 174 (dk_at dksX0_carries_1 10 rfl rfl)
theorem dX0_carries_37 : decode cX0_carries 37 = .ok (.astore 6, 2) := dk_58 6 (dk_at dksX0_carries_1 13 rfl rfl)
theorem dX0_carries_39 : decode cX0_carries 39 = .ok (.aload_n 3, 1) := dk_45 (dk_at dksX0_carries_1 15 rfl rfl)
theorem dX0_carries_40 : decode cX0_carries 40 = .ok (.getfield 416, 3) := dk_180 1 160 (dk_at dksX0_carries_1 16 rfl rfl)
theorem dX0_carries_43 : decode cX0_carries 43 = .ok (.checkcast 430, 3) := dk_192 1 174 (dk_at dksX0_carries_1 19 rfl rfl)
theorem dX0_carries_46 : decode cX0_carries 46 = .ok (.astore 7, 2) := dk_58 7 (dk_at dksX0_carries_1 22 rfl rfl)
theorem dX0_carries_48 : decode cX0_carries 48 = .ok (.iconst 0, 1) := dk_3 (dk_at dksX0_carries_2 0 rfl rfl)
theorem dX0_carries_49 : decode cX0_carries 49 = .ok (.istore 8, 2) := dk_54 8 (dk_at dksX0_carries_2 1 rfl rfl)
theorem dX0_carries_51 : decode cX0_carries 51 = .ok (.iload 8, 2) := dk_21 8 (dk_at dksX0_carries_2 3 rfl rfl)
theorem dX0_carries_53 : decode cX0_carries 53 = .ok (.iload 5, 2) := dk_21 5 (dk_at dksX0_carries_2 5 rfl rfl)
theorem dX0_carries_55 : decode cX0_carries 55 = .ok (.if_icmp .ge 23, 3) := dk_162 0 23 (dk_at dksX0_carries_2 7 rfl rfl)
theorem dX0_carries_58 : decode cX0_carries 58 = .ok (.aload_n 0, 1) := dk_42 (dk_at dksX0_carries_2 10 rfl rfl)
theorem dX0_carries_59 : decode cX0_carries 59 = .ok (.getfield 94, 3) := dk_180 0 94 (dk_at dksX0_carries_2 11 rfl rfl)
theorem dX0_carries_62 : decode cX0_carries 62 = .ok (.iload 8, 2) := dk_21 8 (dk_at dksX0_carries_2 14 rfl rfl)
theorem dX0_carries_64 : decode cX0_carries 64 = .ok (.aload 6, 2) := dk_25 6 (dk_at dksX0_carries_2 16 rfl rfl)
theorem dX0_carries_66 : decode cX0_carries 66 = .ok (.iload_n 2, 1) := dk_28 (dk_at dksX0_carries_2 18 rfl rfl)
theorem dX0_carries_67 : decode cX0_carries 67 = .ok (.iload 8, 2) := dk_21 8 (dk_at dksX0_carries_2 19 rfl rfl)
theorem dX0_carries_69 : decode cX0_carries 69 = .ok (.iadd, 1) := dk_96 (dk_at dksX0_carries_2 21 rfl rfl)
theorem dX0_carries_70 : decode cX0_carries 70 = .ok (.faload, 1) := dk_48 (dk_at dksX0_carries_2 22 rfl rfl)
theorem dX0_carries_71 : decode cX0_carries 71 = .ok (.fastore, 1) := dk_81 (dk_at dksX0_carries_2 23 rfl rfl)
theorem dX0_carries_72 : decode cX0_carries 72 = .ok (.iinc 8 1, 3) := dk_132 8 1 (dk_at dksX0_carries_3 0 rfl rfl)
theorem dX0_carries_75 : decode cX0_carries 75 = .ok (.goto (-24), 3) := dk_167 255 232 (dk_at dksX0_carries_3 3 rfl rfl)
theorem dX0_carries_78 : decode cX0_carries 78 = .ok (.iconst 0, 1) := dk_3 (dk_at dksX0_carries_3 6 rfl rfl)
theorem dX0_carries_79 : decode cX0_carries 79 = .ok (.istore 8, 2) := dk_54 8 (dk_at dksX0_carries_3 7 rfl rfl)
theorem dX0_carries_81 : decode cX0_carries 81 = .ok (.iload 8, 2) := dk_21 8 (dk_at dksX0_carries_3 9 rfl rfl)
theorem dX0_carries_83 : decode cX0_carries 83 = .ok (.iload 5, 2) := dk_21 5 (dk_at dksX0_carries_3 11 rfl rfl)
theorem dX0_carries_85 : decode cX0_carries 85 = .ok (.if_icmp .ge 24, 3) := dk_162 0 24 (dk_at dksX0_carries_3 13 rfl rfl)
theorem dX0_carries_88 : decode cX0_carries 88 = .ok (.aload 7, 2) := dk_25 7 (dk_at dksX0_carries_3 16 rfl rfl)
theorem dX0_carries_90 : decode cX0_carries 90 = .ok (.iload 4, 2) := dk_21 4 (dk_at dksX0_carries_3 18 rfl rfl)
theorem dX0_carries_92 : decode cX0_carries 92 = .ok (.iload 8, 2) := dk_21 8 (dk_at dksX0_carries_3 20 rfl rfl)
theorem dX0_carries_94 : decode cX0_carries 94 = .ok (.iadd, 1) := dk_96 (dk_at dksX0_carries_3 22 rfl rfl)
theorem dX0_carries_95 : decode cX0_carries 95 = .ok (.aload_n 0, 1) := dk_42 (dk_at dksX0_carries_3 23 rfl rfl)
theorem dX0_carries_96 : decode cX0_carries 96 = .ok (.getfield 94, 3) := dk_180 0 94 (dk_at dksX0_carries_4 0 rfl rfl)
theorem dX0_carries_99 : decode cX0_carries 99 = .ok (.iload 8, 2) := dk_21 8 (dk_at dksX0_carries_4 3 rfl rfl)
theorem dX0_carries_101 : decode cX0_carries 101 = .ok (.faload, 1) := dk_48 (dk_at dksX0_carries_4 5 rfl rfl)
theorem dX0_carries_102 : decode cX0_carries 102 = .ok (.fastore, 1) := dk_81 (dk_at dksX0_carries_4 6 rfl rfl)
theorem dX0_carries_103 : decode cX0_carries 103 = .ok (.iinc 8 1, 3) := dk_132 8 1 (dk_at dksX0_carries_4 7 rfl rfl)
theorem dX0_carries_106 : decode cX0_carries 106 = .ok (.goto (-25), 3) := dk_167 255 231 (dk_at dksX0_carries_4 10 rfl rfl)
theorem dX0_carries_109 : decode cX0_carries 109 = .ok (.return_, 1) := dk_177 (dk_at dksX0_carries_4 13 rfl rfl)
abbrev cX0_lay : ByteArray := prog_1_method_88_code
def yX0_lay : MethodName := ⟨RX0, "lay", "(III)I"⟩
def dkwX0_lay_6 : List UInt8 := [21, 4, 172]
abbrev dktX0_lay_6 : List UInt8 := dkwX0_lay_6 ++ []
def dkwX0_lay_5 : List UInt8 := [42, 180, 0, 83, 29, 50, 182, 1, 227, 167, 0, 11, 187, 1, 231, 89, 29, 183, 1, 233, 181, 1, 235]
abbrev dktX0_lay_5 : List UInt8 := dkwX0_lay_5 ++ dktX0_lay_6
def dkwX0_lay_4 : List UInt8 := [160, 0, 18, 42, 180, 0, 46, 180, 1, 11, 29, 50, 182, 1, 223, 167, 0, 29, 28, 5, 160, 0, 16, 42]
abbrev dktX0_lay_4 : List UInt8 := dkwX0_lay_4 ++ dktX0_lay_5
def dkwX0_lay_3 : List UInt8 := [50, 182, 1, 220, 54, 4, 42, 180, 0, 90, 27, 50, 28, 154, 0, 7, 1, 167, 0, 49, 28, 4]
abbrev dktX0_lay_3 : List UInt8 := dkwX0_lay_3 ++ dktX0_lay_4
def dkwX0_lay_2 : List UInt8 := [160, 0, 19, 42, 180, 0, 83, 29, 50, 182, 1, 182, 154, 0, 7, 19, 1, 185, 172, 42, 180, 0, 90, 27]
abbrev dktX0_lay_2 : List UInt8 := dkwX0_lay_2 ++ dktX0_lay_3
def dkwX0_lay_1 : List UInt8 := [182, 1, 49, 153, 0, 15, 28, 5, 160, 0, 13, 29, 184, 1, 157, 154, 0, 6, 18, 133, 172, 28, 5]
abbrev dktX0_lay_1 : List UInt8 := dkwX0_lay_1 ++ dktX0_lay_2
def dkwX0_lay_0 : List UInt8 := [27, 184, 1, 217, 153, 0, 37, 28, 3, 6, 184, 0, 108, 153, 0, 28, 28, 4, 160, 0, 11, 42, 29]
abbrev dktX0_lay_0 : List UInt8 := dkwX0_lay_0 ++ dktX0_lay_1
theorem dksX0_lay_0 : cX0_lay.data.toList.drop 0 = dktX0_lay_0 := by decide +kernel
theorem dksX0_lay_1 : cX0_lay.data.toList.drop 23 = dktX0_lay_1 := dk_seg dksX0_lay_0 23 rfl rfl
theorem dksX0_lay_2 : cX0_lay.data.toList.drop 46 = dktX0_lay_2 := dk_seg dksX0_lay_1 23 rfl rfl
theorem dksX0_lay_3 : cX0_lay.data.toList.drop 70 = dktX0_lay_3 := dk_seg dksX0_lay_2 24 rfl rfl
theorem dksX0_lay_4 : cX0_lay.data.toList.drop 92 = dktX0_lay_4 := dk_seg dksX0_lay_3 22 rfl rfl
theorem dksX0_lay_5 : cX0_lay.data.toList.drop 116 = dktX0_lay_5 := dk_seg dksX0_lay_4 24 rfl rfl
theorem dksX0_lay_6 : cX0_lay.data.toList.drop 139 = dktX0_lay_6 := dk_seg dksX0_lay_5 23 rfl rfl
theorem dX0_lay_0 : decode cX0_lay 0 = .ok (.iload_n 1, 1) := dk_27 (dk_at dksX0_lay_0 0 rfl rfl)
theorem dX0_lay_1 : decode cX0_lay 1 = .ok (.invokestatic 473, 3) := dk_184 1 217 (dk_at dksX0_lay_0 1 rfl rfl)
theorem dX0_lay_4 : decode cX0_lay 4 = .ok (.ifCond .eq 37, 3) := dk_153 0 37 (dk_at dksX0_lay_0 4 rfl rfl)
theorem dX0_lay_7 : decode cX0_lay 7 = .ok (.iload_n 2, 1) := dk_28 (dk_at dksX0_lay_0 7 rfl rfl)
theorem dX0_lay_8 : decode cX0_lay 8 = .ok (.iconst 0, 1) := dk_3 (dk_at dksX0_lay_0 8 rfl rfl)
theorem dX0_lay_9 : decode cX0_lay 9 = .ok (.iconst 3, 1) := dk_6 (dk_at dksX0_lay_0 9 rfl rfl)
theorem dX0_lay_10 : decode cX0_lay 10 = .ok (.invokestatic 108, 3) := dk_184 0 108 (dk_at dksX0_lay_0 10 rfl rfl)
theorem dX0_lay_13 : decode cX0_lay 13 = .ok (.ifCond .eq 28, 3) := dk_153 0 28 (dk_at dksX0_lay_0 13 rfl rfl)
theorem dX0_lay_16 : decode cX0_lay 16 = .ok (.iload_n 2, 1) := dk_28 (dk_at dksX0_lay_0 16 rfl rfl)
theorem dX0_lay_17 : decode cX0_lay 17 = .ok (.iconst 1, 1) := dk_4 (dk_at dksX0_lay_0 17 rfl rfl)
theorem dX0_lay_18 : decode cX0_lay 18 = .ok (.if_icmp .ne 11, 3) := dk_160 0 11 (dk_at dksX0_lay_0 18 rfl rfl)
theorem dX0_lay_21 : decode cX0_lay 21 = .ok (.aload_n 0, 1) := dk_42 (dk_at dksX0_lay_0 21 rfl rfl)
theorem dX0_lay_22 : decode cX0_lay 22 = .ok (.iload_n 3, 1) := dk_29 (dk_at dksX0_lay_0 22 rfl rfl)
theorem dX0_lay_23 : decode cX0_lay 23 = .ok (.invokevirtual 305, 3) := dk_182 1 49 (dk_at dksX0_lay_1 0 rfl rfl)
theorem dX0_lay_26 : decode cX0_lay 26 = .ok (.ifCond .eq 15, 3) := dk_153 0 15 (dk_at dksX0_lay_1 3 rfl rfl)
theorem dX0_lay_29 : decode cX0_lay 29 = .ok (.iload_n 2, 1) := dk_28 (dk_at dksX0_lay_1 6 rfl rfl)
theorem dX0_lay_30 : decode cX0_lay 30 = .ok (.iconst 2, 1) := dk_5 (dk_at dksX0_lay_1 7 rfl rfl)
theorem dX0_lay_31 : decode cX0_lay 31 = .ok (.if_icmp .ne 13, 3) := dk_160 0 13 (dk_at dksX0_lay_1 8 rfl rfl)
theorem dX0_lay_34 : decode cX0_lay 34 = .ok (.iload_n 3, 1) := dk_29 (dk_at dksX0_lay_1 11 rfl rfl)
theorem dX0_lay_35 : decode cX0_lay 35 = .ok (.invokestatic 413, 3) := dk_184 1 157 (dk_at dksX0_lay_1 12 rfl rfl)
theorem dX0_lay_38 : decode cX0_lay 38 = .ok (.ifCond .ne 6, 3) := dk_154 0 6 (dk_at dksX0_lay_1 15 rfl rfl)
theorem dX0_lay_41 : decode cX0_lay 41 = .ok (.ldc 133, 2) := dk_18 133 (dk_at dksX0_lay_1 18 rfl rfl)
theorem dX0_lay_43 : decode cX0_lay 43 = .ok (.ireturn, 1) := dk_172 (dk_at dksX0_lay_1 20 rfl rfl)
theorem dX0_lay_44 : decode cX0_lay 44 = .ok (.iload_n 2, 1) := dk_28 (dk_at dksX0_lay_1 21 rfl rfl)
theorem dX0_lay_45 : decode cX0_lay 45 = .ok (.iconst 2, 1) := dk_5 (dk_at dksX0_lay_1 22 rfl rfl)
theorem dX0_lay_46 : decode cX0_lay 46 = .ok (.if_icmp .ne 19, 3) := dk_160 0 19 (dk_at dksX0_lay_2 0 rfl rfl)
theorem dX0_lay_49 : decode cX0_lay 49 = .ok (.aload_n 0, 1) := dk_42 (dk_at dksX0_lay_2 3 rfl rfl)
theorem dX0_lay_50 : decode cX0_lay 50 = .ok (.getfield 83, 3) := dk_180 0 83 (dk_at dksX0_lay_2 4 rfl rfl)
theorem dX0_lay_53 : decode cX0_lay 53 = .ok (.iload_n 3, 1) := dk_29 (dk_at dksX0_lay_2 7 rfl rfl)
theorem dX0_lay_54 : decode cX0_lay 54 = .ok (.aaload, 1) := dk_50 (dk_at dksX0_lay_2 8 rfl rfl)
theorem dX0_lay_55 : decode cX0_lay 55 = .ok (.invokevirtual 438, 3) := dk_182 1 182 (dk_at dksX0_lay_2 9 rfl rfl)
theorem dX0_lay_58 : decode cX0_lay 58 = .ok (.ifCond .ne 7, 3) := dk_154 0 7 (dk_at dksX0_lay_2 12 rfl rfl)
theorem dX0_lay_61 : decode cX0_lay 61 = .ok (.ldc_w 441, 3) := dk_19 1 185 (dk_at dksX0_lay_2 15 rfl rfl)
theorem dX0_lay_64 : decode cX0_lay 64 = .ok (.ireturn, 1) := dk_172 (dk_at dksX0_lay_2 18 rfl rfl)
theorem dX0_lay_65 : decode cX0_lay 65 = .ok (.aload_n 0, 1) := dk_42 (dk_at dksX0_lay_2 19 rfl rfl)
theorem dX0_lay_66 : decode cX0_lay 66 = .ok (.getfield 90, 3) := dk_180 0 90 (dk_at dksX0_lay_2 20 rfl rfl)
theorem dX0_lay_69 : decode cX0_lay 69 = .ok (.iload_n 1, 1) := dk_27 (dk_at dksX0_lay_2 23 rfl rfl)
theorem dX0_lay_70 : decode cX0_lay 70 = .ok (.aaload, 1) := dk_50 (dk_at dksX0_lay_3 0 rfl rfl)
theorem dX0_lay_71 : decode cX0_lay 71 = .ok (.invokevirtual 476, 3) := dk_182 1 220 (dk_at dksX0_lay_3 1 rfl rfl)
theorem dX0_lay_74 : decode cX0_lay 74 = .ok (.istore 4, 2) := dk_54 4 (dk_at dksX0_lay_3 4 rfl rfl)
theorem dX0_lay_76 : decode cX0_lay 76 = .ok (.aload_n 0, 1) := dk_42 (dk_at dksX0_lay_3 6 rfl rfl)
theorem dX0_lay_77 : decode cX0_lay 77 = .ok (.getfield 90, 3) := dk_180 0 90 (dk_at dksX0_lay_3 7 rfl rfl)
theorem dX0_lay_80 : decode cX0_lay 80 = .ok (.iload_n 1, 1) := dk_27 (dk_at dksX0_lay_3 10 rfl rfl)
theorem dX0_lay_81 : decode cX0_lay 81 = .ok (.aaload, 1) := dk_50 (dk_at dksX0_lay_3 11 rfl rfl)
theorem dX0_lay_82 : decode cX0_lay 82 = .ok (.iload_n 2, 1) := dk_28 (dk_at dksX0_lay_3 12 rfl rfl)
theorem dX0_lay_83 : decode cX0_lay 83 = .ok (.ifCond .ne 7, 3) := dk_154 0 7 (dk_at dksX0_lay_3 13 rfl rfl)
theorem dX0_lay_86 : decode cX0_lay 86 = .ok (.aconst_null, 1) := dk_1 (dk_at dksX0_lay_3 16 rfl rfl)
theorem dX0_lay_87 : decode cX0_lay 87 = .ok (.goto 49, 3) := dk_167 0 49 (dk_at dksX0_lay_3 17 rfl rfl)
theorem dX0_lay_90 : decode cX0_lay 90 = .ok (.iload_n 2, 1) := dk_28 (dk_at dksX0_lay_3 20 rfl rfl)
theorem dX0_lay_91 : decode cX0_lay 91 = .ok (.iconst 1, 1) := dk_4 (dk_at dksX0_lay_3 21 rfl rfl)
theorem dX0_lay_92 : decode cX0_lay 92 = .ok (.if_icmp .ne 18, 3) := dk_160 0 18 (dk_at dksX0_lay_4 0 rfl rfl)
theorem dX0_lay_95 : decode cX0_lay 95 = .ok (.aload_n 0, 1) := dk_42 (dk_at dksX0_lay_4 3 rfl rfl)
theorem dX0_lay_96 : decode cX0_lay 96 = .ok (.getfield 46, 3) := dk_180 0 46 (dk_at dksX0_lay_4 4 rfl rfl)
theorem dX0_lay_99 : decode cX0_lay 99 = .ok (.getfield 267, 3) := dk_180 1 11 (dk_at dksX0_lay_4 7 rfl rfl)
theorem dX0_lay_102 : decode cX0_lay 102 = .ok (.iload_n 3, 1) := dk_29 (dk_at dksX0_lay_4 10 rfl rfl)
theorem dX0_lay_103 : decode cX0_lay 103 = .ok (.aaload, 1) := dk_50 (dk_at dksX0_lay_4 11 rfl rfl)
theorem dX0_lay_104 : decode cX0_lay 104 = .ok (.invokevirtual 479, 3) := dk_182 1 223 (dk_at dksX0_lay_4 12 rfl rfl)
theorem dX0_lay_107 : decode cX0_lay 107 = .ok (.goto 29, 3) := dk_167 0 29 (dk_at dksX0_lay_4 15 rfl rfl)
theorem dX0_lay_110 : decode cX0_lay 110 = .ok (.iload_n 2, 1) := dk_28 (dk_at dksX0_lay_4 18 rfl rfl)
theorem dX0_lay_111 : decode cX0_lay 111 = .ok (.iconst 2, 1) := dk_5 (dk_at dksX0_lay_4 19 rfl rfl)
theorem dX0_lay_112 : decode cX0_lay 112 = .ok (.if_icmp .ne 16, 3) := dk_160 0 16 (dk_at dksX0_lay_4 20 rfl rfl)
theorem dX0_lay_115 : decode cX0_lay 115 = .ok (.aload_n 0, 1) := dk_42 (dk_at dksX0_lay_4 23 rfl rfl)
theorem dX0_lay_116 : decode cX0_lay 116 = .ok (.aload_n 0, 1) := dk_42 (dk_at dksX0_lay_5 0 rfl rfl)
theorem dX0_lay_117 : decode cX0_lay 117 = .ok (.getfield 83, 3) := dk_180 0 83 (dk_at dksX0_lay_5 1 rfl rfl)
theorem dX0_lay_120 : decode cX0_lay 120 = .ok (.iload_n 3, 1) := dk_29 (dk_at dksX0_lay_5 4 rfl rfl)
theorem dX0_lay_121 : decode cX0_lay 121 = .ok (.aaload, 1) := dk_50 (dk_at dksX0_lay_5 5 rfl rfl)
theorem dX0_lay_122 : decode cX0_lay 122 = .ok (.invokevirtual 483, 3) := dk_182 1 227 (dk_at dksX0_lay_5 6 rfl rfl)
theorem dX0_lay_125 : decode cX0_lay 125 = .ok (.goto 11, 3) := dk_167 0 11 (dk_at dksX0_lay_5 9 rfl rfl)
theorem dX0_lay_128 : decode cX0_lay 128 = .ok (.new 487, 3) := dk_187 1 231 (dk_at dksX0_lay_5 12 rfl rfl)
theorem dX0_lay_131 : decode cX0_lay 131 = .ok (.dup, 1) := dk_89 (dk_at dksX0_lay_5 15 rfl rfl)
theorem dX0_lay_132 : decode cX0_lay 132 = .ok (.iload_n 3, 1) := dk_29 (dk_at dksX0_lay_5 16 rfl rfl)
theorem dX0_lay_133 : decode cX0_lay 133 = .ok (.invokespecial 489, 3) := dk_183 1 233 (dk_at dksX0_lay_5 17 rfl rfl)
theorem dX0_lay_136 : decode cX0_lay 136 = .ok (.putfield 491, 3) := dk_181 1 235 (dk_at dksX0_lay_5 20 rfl rfl)
theorem dX0_lay_139 : decode cX0_lay 139 = .ok (.iload 4, 2) := dk_21 4 (dk_at dksX0_lay_6 0 rfl rfl)
theorem dX0_lay_141 : decode cX0_lay 141 = .ok (.ireturn, 1) := dk_172 (dk_at dksX0_lay_6 2 rfl rfl)
abbrev cX0_isSlot : ByteArray := prog_1_method_77_code
def yX0_isSlot : MethodName := ⟨RX0, "isSlot", "(I)Z"⟩
def dkwX0_isSlot_0 : List UInt8 := [26, 3, 7, 184, 0, 108, 172]
abbrev dktX0_isSlot_0 : List UInt8 := dkwX0_isSlot_0 ++ []
theorem dksX0_isSlot_0 : cX0_isSlot.data.toList.drop 0 = dktX0_isSlot_0 := by decide +kernel
theorem dX0_isSlot_0 : decode cX0_isSlot 0 = .ok (.iload_n 0, 1) := dk_26 (dk_at dksX0_isSlot_0 0 rfl rfl)
theorem dX0_isSlot_1 : decode cX0_isSlot 1 = .ok (.iconst 0, 1) := dk_3 (dk_at dksX0_isSlot_0 1 rfl rfl)
theorem dX0_isSlot_2 : decode cX0_isSlot 2 = .ok (.iconst 4, 1) := dk_7 (dk_at dksX0_isSlot_0 2 rfl rfl)
theorem dX0_isSlot_3 : decode cX0_isSlot 3 = .ok (.invokestatic 108, 3) := dk_184 0 108 (dk_at dksX0_isSlot_0 3 rfl rfl)
theorem dX0_isSlot_6 : decode cX0_isSlot 6 = .ok (.ireturn, 1) := dk_172 (dk_at dksX0_isSlot_0 6 rfl rfl)
abbrev cX0_own : ByteArray := prog_1_method_87_code
def yX0_own : MethodName := ⟨RX0, "own", "(LStrokesHeard$Sheet;)LStrokesHeard$Sheet;"⟩
def dkwX0_own_1 : List UInt8 := [43, 3, 44, 3, 43, 182, 1, 186, 182, 1, 213, 44, 176]
abbrev dktX0_own_1 : List UInt8 := dkwX0_own_1 ++ []
def dkwX0_own_0 : List UInt8 := [187, 0, 80, 89, 183, 0, 82, 77, 44, 43, 182, 1, 171, 43, 182, 1, 186, 184, 1, 164, 181, 1, 160, 42]
abbrev dktX0_own_0 : List UInt8 := dkwX0_own_0 ++ dktX0_own_1
theorem dksX0_own_0 : cX0_own.data.toList.drop 0 = dktX0_own_0 := by decide +kernel
theorem dksX0_own_1 : cX0_own.data.toList.drop 24 = dktX0_own_1 := dk_seg dksX0_own_0 24 rfl rfl
theorem dX0_own_0 : decode cX0_own 0 = .ok (.new 80, 3) := dk_187 0 80 (dk_at dksX0_own_0 0 rfl rfl)
theorem dX0_own_3 : decode cX0_own 3 = .ok (.dup, 1) := dk_89 (dk_at dksX0_own_0 3 rfl rfl)
theorem dX0_own_4 : decode cX0_own 4 = .ok (.invokespecial 82, 3) := dk_183 0 82 (dk_at dksX0_own_0 4 rfl rfl)
theorem dX0_own_7 : decode cX0_own 7 = .ok (.astore_n 2, 1) := dk_77 (dk_at dksX0_own_0 7 rfl rfl)
theorem dX0_own_8 : decode cX0_own 8 = .ok (.aload_n 2, 1) := dk_44 (dk_at dksX0_own_0 8 rfl rfl)
theorem dX0_own_9 : decode cX0_own 9 = .ok (.aload_n 1, 1) := dk_43 (dk_at dksX0_own_0 9 rfl rfl)
theorem dX0_own_10 : decode cX0_own 10 = .ok (.invokevirtual 427, 3) := dk_182 1 171 (dk_at dksX0_own_0 10 rfl rfl)
theorem dX0_own_13 : decode cX0_own 13 = .ok (.aload_n 1, 1) := dk_43 (dk_at dksX0_own_0 13 rfl rfl)
theorem dX0_own_14 : decode cX0_own 14 = .ok (.invokevirtual 442, 3) := dk_182 1 186 (dk_at dksX0_own_0 14 rfl rfl)
theorem dX0_own_17 : decode cX0_own 17 = .ok (.invokestatic 420, 3) := dk_184 1 164 (dk_at dksX0_own_0 17 rfl rfl)
theorem dX0_own_20 : decode cX0_own 20 = .ok (.putfield 416, 3) := dk_181 1 160 (dk_at dksX0_own_0 20 rfl rfl)
theorem dX0_own_23 : decode cX0_own 23 = .ok (.aload_n 0, 1) := dk_42 (dk_at dksX0_own_0 23 rfl rfl)
theorem dX0_own_24 : decode cX0_own 24 = .ok (.aload_n 1, 1) := dk_43 (dk_at dksX0_own_1 0 rfl rfl)
theorem dX0_own_25 : decode cX0_own 25 = .ok (.iconst 0, 1) := dk_3 (dk_at dksX0_own_1 1 rfl rfl)
theorem dX0_own_26 : decode cX0_own 26 = .ok (.aload_n 2, 1) := dk_44 (dk_at dksX0_own_1 2 rfl rfl)
theorem dX0_own_27 : decode cX0_own 27 = .ok (.iconst 0, 1) := dk_3 (dk_at dksX0_own_1 3 rfl rfl)
theorem dX0_own_28 : decode cX0_own 28 = .ok (.aload_n 1, 1) := dk_43 (dk_at dksX0_own_1 4 rfl rfl)
theorem dX0_own_29 : decode cX0_own 29 = .ok (.invokevirtual 442, 3) := dk_182 1 186 (dk_at dksX0_own_1 5 rfl rfl)
theorem dX0_own_32 : decode cX0_own 32 = .ok (.invokevirtual 469, 3) := dk_182 1 213 (dk_at dksX0_own_1 8 rfl rfl)
theorem dX0_own_35 : decode cX0_own 35 = .ok (.aload_n 2, 1) := dk_44 (dk_at dksX0_own_1 11 rfl rfl)
theorem dX0_own_36 : decode cX0_own 36 = .ok (.areturn, 1) := dk_176 (dk_at dksX0_own_1 12 rfl rfl)
abbrev cX0_ask : ByteArray := prog_1_method_89_code
def yX0_ask : MethodName := ⟨RX0, "ask", "(II)I"⟩
def dkwX0_ask_2 : List UInt8 := [185, 1, 238, 1, 0, 172, 58, 4, 19, 1, 71, 172]
abbrev dktX0_ask_2 : List UInt8 := dkwX0_ask_2 ++ []
def dkwX0_ask_1 : List UInt8 := [50, 180, 1, 235, 78, 45, 199, 0, 7, 19, 1, 185, 172, 45, 28, 184, 1, 65, 58, 4, 25, 4]
abbrev dktX0_ask_1 : List UInt8 := dkwX0_ask_1 ++ dktX0_ask_2
def dkwX0_ask_0 : List UInt8 := [27, 184, 1, 217, 153, 0, 12, 28, 3, 8, 184, 0, 108, 154, 0, 6, 18, 133, 172, 42, 180, 0, 90, 27]
abbrev dktX0_ask_0 : List UInt8 := dkwX0_ask_0 ++ dktX0_ask_1
theorem dksX0_ask_0 : cX0_ask.data.toList.drop 0 = dktX0_ask_0 := by decide +kernel
theorem dksX0_ask_1 : cX0_ask.data.toList.drop 24 = dktX0_ask_1 := dk_seg dksX0_ask_0 24 rfl rfl
theorem dksX0_ask_2 : cX0_ask.data.toList.drop 46 = dktX0_ask_2 := dk_seg dksX0_ask_1 22 rfl rfl
theorem dX0_ask_0 : decode cX0_ask 0 = .ok (.iload_n 1, 1) := dk_27 (dk_at dksX0_ask_0 0 rfl rfl)
theorem dX0_ask_1 : decode cX0_ask 1 = .ok (.invokestatic 473, 3) := dk_184 1 217 (dk_at dksX0_ask_0 1 rfl rfl)
theorem dX0_ask_4 : decode cX0_ask 4 = .ok (.ifCond .eq 12, 3) := dk_153 0 12 (dk_at dksX0_ask_0 4 rfl rfl)
theorem dX0_ask_7 : decode cX0_ask 7 = .ok (.iload_n 2, 1) := dk_28 (dk_at dksX0_ask_0 7 rfl rfl)
theorem dX0_ask_8 : decode cX0_ask 8 = .ok (.iconst 0, 1) := dk_3 (dk_at dksX0_ask_0 8 rfl rfl)
theorem dX0_ask_9 : decode cX0_ask 9 = .ok (.iconst 5, 1) := dk_8 (dk_at dksX0_ask_0 9 rfl rfl)
theorem dX0_ask_10 : decode cX0_ask 10 = .ok (.invokestatic 108, 3) := dk_184 0 108 (dk_at dksX0_ask_0 10 rfl rfl)
theorem dX0_ask_13 : decode cX0_ask 13 = .ok (.ifCond .ne 6, 3) := dk_154 0 6 (dk_at dksX0_ask_0 13 rfl rfl)
theorem dX0_ask_16 : decode cX0_ask 16 = .ok (.ldc 133, 2) := dk_18 133 (dk_at dksX0_ask_0 16 rfl rfl)
theorem dX0_ask_18 : decode cX0_ask 18 = .ok (.ireturn, 1) := dk_172 (dk_at dksX0_ask_0 18 rfl rfl)
theorem dX0_ask_19 : decode cX0_ask 19 = .ok (.aload_n 0, 1) := dk_42 (dk_at dksX0_ask_0 19 rfl rfl)
theorem dX0_ask_20 : decode cX0_ask 20 = .ok (.getfield 90, 3) := dk_180 0 90 (dk_at dksX0_ask_0 20 rfl rfl)
theorem dX0_ask_23 : decode cX0_ask 23 = .ok (.iload_n 1, 1) := dk_27 (dk_at dksX0_ask_0 23 rfl rfl)
theorem dX0_ask_24 : decode cX0_ask 24 = .ok (.aaload, 1) := dk_50 (dk_at dksX0_ask_1 0 rfl rfl)
theorem dX0_ask_25 : decode cX0_ask 25 = .ok (.getfield 491, 3) := dk_180 1 235 (dk_at dksX0_ask_1 1 rfl rfl)
theorem dX0_ask_28 : decode cX0_ask 28 = .ok (.astore_n 3, 1) := dk_78 (dk_at dksX0_ask_1 4 rfl rfl)
theorem dX0_ask_29 : decode cX0_ask 29 = .ok (.aload_n 3, 1) := dk_45 (dk_at dksX0_ask_1 5 rfl rfl)
theorem dX0_ask_30 : decode cX0_ask 30 = .ok (.ifnonnull 7, 3) := dk_199 0 7 (dk_at dksX0_ask_1 6 rfl rfl)
theorem dX0_ask_33 : decode cX0_ask 33 = .ok (.ldc_w 441, 3) := dk_19 1 185 (dk_at dksX0_ask_1 9 rfl rfl)
theorem dX0_ask_36 : decode cX0_ask 36 = .ok (.ireturn, 1) := dk_172 (dk_at dksX0_ask_1 12 rfl rfl)
theorem dX0_ask_37 : decode cX0_ask 37 = .ok (.aload_n 3, 1) := dk_45 (dk_at dksX0_ask_1 13 rfl rfl)
theorem dX0_ask_38 : decode cX0_ask 38 = .ok (.iload_n 2, 1) := dk_28 (dk_at dksX0_ask_1 14 rfl rfl)
theorem dX0_ask_39 : decode cX0_ask 39 = .ok (.invokestatic 321, 3) := dk_184 1 65 (dk_at dksX0_ask_1 15 rfl rfl)
theorem dX0_ask_42 : decode cX0_ask 42 = .ok (.astore 4, 2) := dk_58 4 (dk_at dksX0_ask_1 18 rfl rfl)
theorem dX0_ask_44 : decode cX0_ask 44 = .ok (.aload 4, 2) := dk_25 4 (dk_at dksX0_ask_1 20 rfl rfl)
theorem dX0_ask_46 : decode cX0_ask 46 = .ok (.invokeinterface 494 1, 5) := by decide +kernel
theorem dX0_ask_51 : decode cX0_ask 51 = .ok (.ireturn, 1) := dk_172 (dk_at dksX0_ask_2 5 rfl rfl)
theorem dX0_ask_52 : decode cX0_ask 52 = .ok (.astore 4, 2) := dk_58 4 (dk_at dksX0_ask_2 6 rfl rfl)
theorem dX0_ask_54 : decode cX0_ask 54 = .ok (.ldc_w 327, 3) := dk_19 1 71 (dk_at dksX0_ask_2 8 rfl rfl)
theorem dX0_ask_57 : decode cX0_ask 57 = .ok (.ireturn, 1) := dk_172 (dk_at dksX0_ask_2 11 rfl rfl)
abbrev cX0_item : ByteArray := prog_1_method_90_code
def yX0_item : MethodName := ⟨RX0, "item", "(II)I"⟩
def dkwX0_item_3 : List UInt8 := [167, 0, 6, 19, 1, 71, 172, 58, 4, 19, 1, 71, 172]
abbrev dktX0_item_3 : List UInt8 := dkwX0_item_3 ++ []
def dkwX0_item_2 : List UInt8 := [154, 0, 7, 19, 1, 193, 172, 25, 4, 28, 182, 1, 194, 153, 0, 12, 25, 4, 28, 182, 1, 197]
abbrev dktX0_item_2 : List UInt8 := dkwX0_item_2 ++ dktX0_item_3
def dkwX0_item_1 : List UInt8 := [19, 1, 185, 172, 45, 192, 0, 80, 58, 4, 28, 3, 25, 4, 182, 1, 186, 4, 100, 184, 0, 108]
abbrev dktX0_item_1 : List UInt8 := dkwX0_item_1 ++ dktX0_item_2
def dkwX0_item_0 : List UInt8 := [27, 184, 1, 217, 154, 0, 6, 18, 133, 172, 42, 180, 0, 90, 27, 50, 180, 1, 235, 78, 45, 199, 0, 7]
abbrev dktX0_item_0 : List UInt8 := dkwX0_item_0 ++ dktX0_item_1
theorem dksX0_item_0 : cX0_item.data.toList.drop 0 = dktX0_item_0 := by decide +kernel
theorem dksX0_item_1 : cX0_item.data.toList.drop 24 = dktX0_item_1 := dk_seg dksX0_item_0 24 rfl rfl
theorem dksX0_item_2 : cX0_item.data.toList.drop 46 = dktX0_item_2 := dk_seg dksX0_item_1 22 rfl rfl
theorem dksX0_item_3 : cX0_item.data.toList.drop 68 = dktX0_item_3 := dk_seg dksX0_item_2 22 rfl rfl
theorem dX0_item_0 : decode cX0_item 0 = .ok (.iload_n 1, 1) := dk_27 (dk_at dksX0_item_0 0 rfl rfl)
theorem dX0_item_1 : decode cX0_item 1 = .ok (.invokestatic 473, 3) := dk_184 1 217 (dk_at dksX0_item_0 1 rfl rfl)
theorem dX0_item_4 : decode cX0_item 4 = .ok (.ifCond .ne 6, 3) := dk_154 0 6 (dk_at dksX0_item_0 4 rfl rfl)
theorem dX0_item_7 : decode cX0_item 7 = .ok (.ldc 133, 2) := dk_18 133 (dk_at dksX0_item_0 7 rfl rfl)
theorem dX0_item_9 : decode cX0_item 9 = .ok (.ireturn, 1) := dk_172 (dk_at dksX0_item_0 9 rfl rfl)
theorem dX0_item_10 : decode cX0_item 10 = .ok (.aload_n 0, 1) := dk_42 (dk_at dksX0_item_0 10 rfl rfl)
theorem dX0_item_11 : decode cX0_item 11 = .ok (.getfield 90, 3) := dk_180 0 90 (dk_at dksX0_item_0 11 rfl rfl)
theorem dX0_item_14 : decode cX0_item 14 = .ok (.iload_n 1, 1) := dk_27 (dk_at dksX0_item_0 14 rfl rfl)
theorem dX0_item_15 : decode cX0_item 15 = .ok (.aaload, 1) := dk_50 (dk_at dksX0_item_0 15 rfl rfl)
theorem dX0_item_16 : decode cX0_item 16 = .ok (.getfield 491, 3) := dk_180 1 235 (dk_at dksX0_item_0 16 rfl rfl)
theorem dX0_item_19 : decode cX0_item 19 = .ok (.astore_n 3, 1) := dk_78 (dk_at dksX0_item_0 19 rfl rfl)
theorem dX0_item_20 : decode cX0_item 20 = .ok (.aload_n 3, 1) := dk_45 (dk_at dksX0_item_0 20 rfl rfl)
theorem dX0_item_21 : decode cX0_item 21 = .ok (.ifnonnull 7, 3) := dk_199 0 7 (dk_at dksX0_item_0 21 rfl rfl)
theorem dX0_item_24 : decode cX0_item 24 = .ok (.ldc_w 441, 3) := dk_19 1 185 (dk_at dksX0_item_1 0 rfl rfl)
theorem dX0_item_27 : decode cX0_item 27 = .ok (.ireturn, 1) := dk_172 (dk_at dksX0_item_1 3 rfl rfl)
theorem dX0_item_28 : decode cX0_item 28 = .ok (.aload_n 3, 1) := dk_45 (dk_at dksX0_item_1 4 rfl rfl)
theorem dX0_item_29 : decode cX0_item 29 = .ok (.checkcast 80, 3) := dk_192 0 80 (dk_at dksX0_item_1 5 rfl rfl)
theorem dX0_item_32 : decode cX0_item 32 = .ok (.astore 4, 2) := dk_58 4 (dk_at dksX0_item_1 8 rfl rfl)
theorem dX0_item_34 : decode cX0_item 34 = .ok (.iload_n 2, 1) := dk_28 (dk_at dksX0_item_1 10 rfl rfl)
theorem dX0_item_35 : decode cX0_item 35 = .ok (.iconst 0, 1) := dk_3 (dk_at dksX0_item_1 11 rfl rfl)
theorem dX0_item_36 : decode cX0_item 36 = .ok (.aload 4, 2) := dk_25 4 (dk_at dksX0_item_1 12 rfl rfl)
theorem dX0_item_38 : decode cX0_item 38 = .ok (.invokevirtual 442, 3) := dk_182 1 186 (dk_at dksX0_item_1 14 rfl rfl)
theorem dX0_item_41 : decode cX0_item 41 = .ok (.iconst 1, 1) := dk_4 (dk_at dksX0_item_1 17 rfl rfl)
theorem dX0_item_42 : decode cX0_item 42 = .ok (.isub, 1) := dk_100 (dk_at dksX0_item_1 18 rfl rfl)
theorem dX0_item_43 : decode cX0_item 43 = .ok (.invokestatic 108, 3) := dk_184 0 108 (dk_at dksX0_item_1 19 rfl rfl)
theorem dX0_item_46 : decode cX0_item 46 = .ok (.ifCond .ne 7, 3) := dk_154 0 7 (dk_at dksX0_item_2 0 rfl rfl)
theorem dX0_item_49 : decode cX0_item 49 = .ok (.ldc_w 449, 3) := dk_19 1 193 (dk_at dksX0_item_2 3 rfl rfl)
theorem dX0_item_52 : decode cX0_item 52 = .ok (.ireturn, 1) := dk_172 (dk_at dksX0_item_2 6 rfl rfl)
theorem dX0_item_53 : decode cX0_item 53 = .ok (.aload 4, 2) := dk_25 4 (dk_at dksX0_item_2 7 rfl rfl)
theorem dX0_item_55 : decode cX0_item 55 = .ok (.iload_n 2, 1) := dk_28 (dk_at dksX0_item_2 9 rfl rfl)
theorem dX0_item_56 : decode cX0_item 56 = .ok (.invokevirtual 450, 3) := dk_182 1 194 (dk_at dksX0_item_2 10 rfl rfl)
theorem dX0_item_59 : decode cX0_item 59 = .ok (.ifCond .eq 12, 3) := dk_153 0 12 (dk_at dksX0_item_2 13 rfl rfl)
theorem dX0_item_62 : decode cX0_item 62 = .ok (.aload 4, 2) := dk_25 4 (dk_at dksX0_item_2 16 rfl rfl)
theorem dX0_item_64 : decode cX0_item 64 = .ok (.iload_n 2, 1) := dk_28 (dk_at dksX0_item_2 18 rfl rfl)
theorem dX0_item_65 : decode cX0_item 65 = .ok (.invokevirtual 453, 3) := dk_182 1 197 (dk_at dksX0_item_2 19 rfl rfl)
theorem dX0_item_68 : decode cX0_item 68 = .ok (.goto 6, 3) := dk_167 0 6 (dk_at dksX0_item_3 0 rfl rfl)
theorem dX0_item_71 : decode cX0_item 71 = .ok (.ldc_w 327, 3) := dk_19 1 71 (dk_at dksX0_item_3 3 rfl rfl)
theorem dX0_item_74 : decode cX0_item 74 = .ok (.ireturn, 1) := dk_172 (dk_at dksX0_item_3 6 rfl rfl)
theorem dX0_item_75 : decode cX0_item 75 = .ok (.astore 4, 2) := dk_58 4 (dk_at dksX0_item_3 7 rfl rfl)
theorem dX0_item_77 : decode cX0_item 77 = .ok (.ldc_w 327, 3) := dk_19 1 71 (dk_at dksX0_item_3 9 rfl rfl)
theorem dX0_item_80 : decode cX0_item 80 = .ok (.ireturn, 1) := dk_172 (dk_at dksX0_item_3 12 rfl rfl)
abbrev cX0_rest : ByteArray := prog_1_method_91_code
def yX0_rest : MethodName := ⟨RX0, "rest", "(II)I"⟩
def dkwX0_rest_2 : List UInt8 := [28, 154, 0, 9, 19, 1, 244, 167, 0, 7, 21, 4, 28, 112, 172]
abbrev dktX0_rest_2 : List UInt8 := dkwX0_rest_2 ++ []
def dkwX0_rest_1 : List UInt8 := [19, 1, 185, 172, 45, 193, 1, 231, 154, 0, 7, 19, 1, 71, 172, 45, 192, 1, 231, 180, 1, 241, 54, 4]
abbrev dktX0_rest_1 : List UInt8 := dkwX0_rest_1 ++ dktX0_rest_2
def dkwX0_rest_0 : List UInt8 := [27, 184, 1, 217, 154, 0, 6, 18, 133, 172, 42, 180, 0, 90, 27, 50, 180, 1, 235, 78, 45, 199, 0, 7]
abbrev dktX0_rest_0 : List UInt8 := dkwX0_rest_0 ++ dktX0_rest_1
theorem dksX0_rest_0 : cX0_rest.data.toList.drop 0 = dktX0_rest_0 := by decide +kernel
theorem dksX0_rest_1 : cX0_rest.data.toList.drop 24 = dktX0_rest_1 := dk_seg dksX0_rest_0 24 rfl rfl
theorem dksX0_rest_2 : cX0_rest.data.toList.drop 48 = dktX0_rest_2 := dk_seg dksX0_rest_1 24 rfl rfl
theorem dX0_rest_0 : decode cX0_rest 0 = .ok (.iload_n 1, 1) := dk_27 (dk_at dksX0_rest_0 0 rfl rfl)
theorem dX0_rest_1 : decode cX0_rest 1 = .ok (.invokestatic 473, 3) := dk_184 1 217 (dk_at dksX0_rest_0 1 rfl rfl)
theorem dX0_rest_4 : decode cX0_rest 4 = .ok (.ifCond .ne 6, 3) := dk_154 0 6 (dk_at dksX0_rest_0 4 rfl rfl)
theorem dX0_rest_7 : decode cX0_rest 7 = .ok (.ldc 133, 2) := dk_18 133 (dk_at dksX0_rest_0 7 rfl rfl)
theorem dX0_rest_9 : decode cX0_rest 9 = .ok (.ireturn, 1) := dk_172 (dk_at dksX0_rest_0 9 rfl rfl)
theorem dX0_rest_10 : decode cX0_rest 10 = .ok (.aload_n 0, 1) := dk_42 (dk_at dksX0_rest_0 10 rfl rfl)
theorem dX0_rest_11 : decode cX0_rest 11 = .ok (.getfield 90, 3) := dk_180 0 90 (dk_at dksX0_rest_0 11 rfl rfl)
theorem dX0_rest_14 : decode cX0_rest 14 = .ok (.iload_n 1, 1) := dk_27 (dk_at dksX0_rest_0 14 rfl rfl)
theorem dX0_rest_15 : decode cX0_rest 15 = .ok (.aaload, 1) := dk_50 (dk_at dksX0_rest_0 15 rfl rfl)
theorem dX0_rest_16 : decode cX0_rest 16 = .ok (.getfield 491, 3) := dk_180 1 235 (dk_at dksX0_rest_0 16 rfl rfl)
theorem dX0_rest_19 : decode cX0_rest 19 = .ok (.astore_n 3, 1) := dk_78 (dk_at dksX0_rest_0 19 rfl rfl)
theorem dX0_rest_20 : decode cX0_rest 20 = .ok (.aload_n 3, 1) := dk_45 (dk_at dksX0_rest_0 20 rfl rfl)
theorem dX0_rest_21 : decode cX0_rest 21 = .ok (.ifnonnull 7, 3) := dk_199 0 7 (dk_at dksX0_rest_0 21 rfl rfl)
theorem dX0_rest_24 : decode cX0_rest 24 = .ok (.ldc_w 441, 3) := dk_19 1 185 (dk_at dksX0_rest_1 0 rfl rfl)
theorem dX0_rest_27 : decode cX0_rest 27 = .ok (.ireturn, 1) := dk_172 (dk_at dksX0_rest_1 3 rfl rfl)
theorem dX0_rest_28 : decode cX0_rest 28 = .ok (.aload_n 3, 1) := dk_45 (dk_at dksX0_rest_1 4 rfl rfl)
theorem dX0_rest_29 : decode cX0_rest 29 = .ok (.instanceof 487, 3) := dk_193 1 231 (dk_at dksX0_rest_1 5 rfl rfl)
theorem dX0_rest_32 : decode cX0_rest 32 = .ok (.ifCond .ne 7, 3) := dk_154 0 7 (dk_at dksX0_rest_1 8 rfl rfl)
theorem dX0_rest_35 : decode cX0_rest 35 = .ok (.ldc_w 327, 3) := dk_19 1 71 (dk_at dksX0_rest_1 11 rfl rfl)
theorem dX0_rest_38 : decode cX0_rest 38 = .ok (.ireturn, 1) := dk_172 (dk_at dksX0_rest_1 14 rfl rfl)
theorem dX0_rest_39 : decode cX0_rest 39 = .ok (.aload_n 3, 1) := dk_45 (dk_at dksX0_rest_1 15 rfl rfl)
theorem dX0_rest_40 : decode cX0_rest 40 = .ok (.checkcast 487, 3) := dk_192 1 231 (dk_at dksX0_rest_1 16 rfl rfl)
theorem dX0_rest_43 : decode cX0_rest 43 = .ok (.getfield 497, 3) := dk_180 1 241 (dk_at dksX0_rest_1 19 rfl rfl)
theorem dX0_rest_46 : decode cX0_rest 46 = .ok (.istore 4, 2) := dk_54 4 (dk_at dksX0_rest_1 22 rfl rfl)
theorem dX0_rest_48 : decode cX0_rest 48 = .ok (.iload_n 2, 1) := dk_28 (dk_at dksX0_rest_2 0 rfl rfl)
theorem dX0_rest_49 : decode cX0_rest 49 = .ok (.ifCond .ne 9, 3) := dk_154 0 9 (dk_at dksX0_rest_2 1 rfl rfl)
theorem dX0_rest_52 : decode cX0_rest 52 = .ok (.ldc_w 500, 3) := dk_19 1 244 (dk_at dksX0_rest_2 4 rfl rfl)
theorem dX0_rest_55 : decode cX0_rest 55 = .ok (.goto 7, 3) := dk_167 0 7 (dk_at dksX0_rest_2 7 rfl rfl)
theorem dX0_rest_58 : decode cX0_rest 58 = .ok (.iload 4, 2) := dk_21 4 (dk_at dksX0_rest_2 10 rfl rfl)
theorem dX0_rest_60 : decode cX0_rest 60 = .ok (.iload_n 2, 1) := dk_28 (dk_at dksX0_rest_2 12 rfl rfl)
theorem dX0_rest_61 : decode cX0_rest 61 = .ok (.irem, 1) := dk_112 (dk_at dksX0_rest_2 13 rfl rfl)
theorem dX0_rest_62 : decode cX0_rest 62 = .ok (.ireturn, 1) := dk_172 (dk_at dksX0_rest_2 14 rfl rfl)
abbrev cX0_tell : ByteArray := prog_1_method_92_code
def yX0_tell : MethodName := ⟨RX0, "tell", "(I)I"⟩
def dkwX0_tell_1 : List UInt8 := [180, 1, 245, 4, 96, 181, 1, 245, 42, 180, 1, 245, 172]
abbrev dktX0_tell_1 : List UInt8 := dkwX0_tell_1 ++ []
def dkwX0_tell_0 : List UInt8 := [42, 180, 1, 245, 16, 60, 160, 0, 6, 18, 128, 172, 42, 180, 0, 98, 42, 180, 1, 245, 27, 79, 42, 89]
abbrev dktX0_tell_0 : List UInt8 := dkwX0_tell_0 ++ dktX0_tell_1
theorem dksX0_tell_0 : cX0_tell.data.toList.drop 0 = dktX0_tell_0 := by decide +kernel
theorem dksX0_tell_1 : cX0_tell.data.toList.drop 24 = dktX0_tell_1 := dk_seg dksX0_tell_0 24 rfl rfl
theorem dX0_tell_0 : decode cX0_tell 0 = .ok (.aload_n 0, 1) := dk_42 (dk_at dksX0_tell_0 0 rfl rfl)
theorem dX0_tell_1 : decode cX0_tell 1 = .ok (.getfield 501, 3) := dk_180 1 245 (dk_at dksX0_tell_0 1 rfl rfl)
theorem dX0_tell_4 : decode cX0_tell 4 = .ok (.bipush 60, 2) := dk_16 60 (dk_at dksX0_tell_0 4 rfl rfl)
theorem dX0_tell_6 : decode cX0_tell 6 = .ok (.if_icmp .ne 6, 3) := dk_160 0 6 (dk_at dksX0_tell_0 6 rfl rfl)
theorem dX0_tell_9 : decode cX0_tell 9 = .ok (.ldc 128, 2) := dk_18 128 (dk_at dksX0_tell_0 9 rfl rfl)
theorem dX0_tell_11 : decode cX0_tell 11 = .ok (.ireturn, 1) := dk_172 (dk_at dksX0_tell_0 11 rfl rfl)
theorem dX0_tell_12 : decode cX0_tell 12 = .ok (.aload_n 0, 1) := dk_42 (dk_at dksX0_tell_0 12 rfl rfl)
theorem dX0_tell_13 : decode cX0_tell 13 = .ok (.getfield 98, 3) := dk_180 0 98 (dk_at dksX0_tell_0 13 rfl rfl)
theorem dX0_tell_16 : decode cX0_tell 16 = .ok (.aload_n 0, 1) := dk_42 (dk_at dksX0_tell_0 16 rfl rfl)
theorem dX0_tell_17 : decode cX0_tell 17 = .ok (.getfield 501, 3) := dk_180 1 245 (dk_at dksX0_tell_0 17 rfl rfl)
theorem dX0_tell_20 : decode cX0_tell 20 = .ok (.iload_n 1, 1) := dk_27 (dk_at dksX0_tell_0 20 rfl rfl)
theorem dX0_tell_21 : decode cX0_tell 21 = .ok (.iastore, 1) := dk_79 (dk_at dksX0_tell_0 21 rfl rfl)
theorem dX0_tell_22 : decode cX0_tell 22 = .ok (.aload_n 0, 1) := dk_42 (dk_at dksX0_tell_0 22 rfl rfl)
theorem dX0_tell_23 : decode cX0_tell 23 = .ok (.dup, 1) := dk_89 (dk_at dksX0_tell_0 23 rfl rfl)
theorem dX0_tell_24 : decode cX0_tell 24 = .ok (.getfield 501, 3) := dk_180 1 245 (dk_at dksX0_tell_1 0 rfl rfl)
theorem dX0_tell_27 : decode cX0_tell 27 = .ok (.iconst 1, 1) := dk_4 (dk_at dksX0_tell_1 3 rfl rfl)
theorem dX0_tell_28 : decode cX0_tell 28 = .ok (.iadd, 1) := dk_96 (dk_at dksX0_tell_1 4 rfl rfl)
theorem dX0_tell_29 : decode cX0_tell 29 = .ok (.putfield 501, 3) := dk_181 1 245 (dk_at dksX0_tell_1 5 rfl rfl)
theorem dX0_tell_32 : decode cX0_tell 32 = .ok (.aload_n 0, 1) := dk_42 (dk_at dksX0_tell_1 8 rfl rfl)
theorem dX0_tell_33 : decode cX0_tell 33 = .ok (.getfield 501, 3) := dk_180 1 245 (dk_at dksX0_tell_1 9 rfl rfl)
theorem dX0_tell_36 : decode cX0_tell 36 = .ok (.ireturn, 1) := dk_172 (dk_at dksX0_tell_1 12 rfl rfl)
abbrev cX0_check : ByteArray := prog_1_method_94_code
def yX0_check : MethodName := ⟨RX0, "check", "(I)I"⟩
def dkwX0_check_4 : List UInt8 := [96, 167, 0, 4, 3, 172]
abbrev dktX0_check_4 : List UInt8 := dkwX0_check_4 ++ []
def dkwX0_check_3 : List UInt8 := [160, 0, 6, 167, 0, 8, 4, 21, 4, 96, 172, 132, 4, 1, 167, 255, 216, 28, 29, 162, 0, 9, 4, 28]
abbrev dktX0_check_3 : List UInt8 := dkwX0_check_3 ++ dktX0_check_4
def dkwX0_check_2 : List UInt8 := [162, 0, 40, 21, 4, 29, 162, 0, 23, 42, 180, 0, 98, 21, 4, 46, 42, 180, 0, 101, 21, 4, 46]
abbrev dktX0_check_2 : List UInt8 := dkwX0_check_2 ++ dktX0_check_3
def dkwX0_check_1 : List UInt8 := [180, 1, 248, 154, 0, 7, 19, 1, 244, 172, 42, 27, 182, 1, 252, 62, 3, 54, 4, 21, 4, 28]
abbrev dktX0_check_1 : List UInt8 := dkwX0_check_1 ++ dktX0_check_2
def dkwX0_check_0 : List UInt8 := [42, 180, 1, 245, 61, 42, 3, 181, 1, 245, 27, 4, 16, 30, 184, 0, 108, 154, 0, 6, 18, 133, 172, 42]
abbrev dktX0_check_0 : List UInt8 := dkwX0_check_0 ++ dktX0_check_1
theorem dksX0_check_0 : cX0_check.data.toList.drop 0 = dktX0_check_0 := by decide +kernel
theorem dksX0_check_1 : cX0_check.data.toList.drop 24 = dktX0_check_1 := dk_seg dksX0_check_0 24 rfl rfl
theorem dksX0_check_2 : cX0_check.data.toList.drop 46 = dktX0_check_2 := dk_seg dksX0_check_1 22 rfl rfl
theorem dksX0_check_3 : cX0_check.data.toList.drop 69 = dktX0_check_3 := dk_seg dksX0_check_2 23 rfl rfl
theorem dksX0_check_4 : cX0_check.data.toList.drop 93 = dktX0_check_4 := dk_seg dksX0_check_3 24 rfl rfl
theorem dX0_check_0 : decode cX0_check 0 = .ok (.aload_n 0, 1) := dk_42 (dk_at dksX0_check_0 0 rfl rfl)
theorem dX0_check_1 : decode cX0_check 1 = .ok (.getfield 501, 3) := dk_180 1 245 (dk_at dksX0_check_0 1 rfl rfl)
theorem dX0_check_4 : decode cX0_check 4 = .ok (.istore_n 2, 1) := dk_61 (dk_at dksX0_check_0 4 rfl rfl)
theorem dX0_check_5 : decode cX0_check 5 = .ok (.aload_n 0, 1) := dk_42 (dk_at dksX0_check_0 5 rfl rfl)
theorem dX0_check_6 : decode cX0_check 6 = .ok (.iconst 0, 1) := dk_3 (dk_at dksX0_check_0 6 rfl rfl)
theorem dX0_check_7 : decode cX0_check 7 = .ok (.putfield 501, 3) := dk_181 1 245 (dk_at dksX0_check_0 7 rfl rfl)
theorem dX0_check_10 : decode cX0_check 10 = .ok (.iload_n 1, 1) := dk_27 (dk_at dksX0_check_0 10 rfl rfl)
theorem dX0_check_11 : decode cX0_check 11 = .ok (.iconst 1, 1) := dk_4 (dk_at dksX0_check_0 11 rfl rfl)
theorem dX0_check_12 : decode cX0_check 12 = .ok (.bipush 30, 2) := dk_16 30 (dk_at dksX0_check_0 12 rfl rfl)
theorem dX0_check_14 : decode cX0_check 14 = .ok (.invokestatic 108, 3) := dk_184 0 108 (dk_at dksX0_check_0 14 rfl rfl)
theorem dX0_check_17 : decode cX0_check 17 = .ok (.ifCond .ne 6, 3) := dk_154 0 6 (dk_at dksX0_check_0 17 rfl rfl)
theorem dX0_check_20 : decode cX0_check 20 = .ok (.ldc 133, 2) := dk_18 133 (dk_at dksX0_check_0 20 rfl rfl)
theorem dX0_check_22 : decode cX0_check 22 = .ok (.ireturn, 1) := dk_172 (dk_at dksX0_check_0 22 rfl rfl)
theorem dX0_check_23 : decode cX0_check 23 = .ok (.aload_n 0, 1) := dk_42 (dk_at dksX0_check_0 23 rfl rfl)
theorem dX0_check_24 : decode cX0_check 24 = .ok (.getfield 504, 3) := dk_180 1 248 (dk_at dksX0_check_1 0 rfl rfl)
theorem dX0_check_27 : decode cX0_check 27 = .ok (.ifCond .ne 7, 3) := dk_154 0 7 (dk_at dksX0_check_1 3 rfl rfl)
theorem dX0_check_30 : decode cX0_check 30 = .ok (.ldc_w 500, 3) := dk_19 1 244 (dk_at dksX0_check_1 6 rfl rfl)
theorem dX0_check_33 : decode cX0_check 33 = .ok (.ireturn, 1) := dk_172 (dk_at dksX0_check_1 9 rfl rfl)
theorem dX0_check_34 : decode cX0_check 34 = .ok (.aload_n 0, 1) := dk_42 (dk_at dksX0_check_1 10 rfl rfl)
theorem dX0_check_35 : decode cX0_check 35 = .ok (.iload_n 1, 1) := dk_27 (dk_at dksX0_check_1 11 rfl rfl)
theorem dX0_check_36 : decode cX0_check 36 = .ok (.invokevirtual 508, 3) := dk_182 1 252 (dk_at dksX0_check_1 12 rfl rfl)
theorem dX0_check_39 : decode cX0_check 39 = .ok (.istore_n 3, 1) := dk_62 (dk_at dksX0_check_1 15 rfl rfl)
theorem dX0_check_40 : decode cX0_check 40 = .ok (.iconst 0, 1) := dk_3 (dk_at dksX0_check_1 16 rfl rfl)
theorem dX0_check_41 : decode cX0_check 41 = .ok (.istore 4, 2) := dk_54 4 (dk_at dksX0_check_1 17 rfl rfl)
theorem dX0_check_43 : decode cX0_check 43 = .ok (.iload 4, 2) := dk_21 4 (dk_at dksX0_check_1 19 rfl rfl)
theorem dX0_check_45 : decode cX0_check 45 = .ok (.iload_n 2, 1) := dk_28 (dk_at dksX0_check_1 21 rfl rfl)
theorem dX0_check_46 : decode cX0_check 46 = .ok (.if_icmp .ge 40, 3) := dk_162 0 40 (dk_at dksX0_check_2 0 rfl rfl)
theorem dX0_check_49 : decode cX0_check 49 = .ok (.iload 4, 2) := dk_21 4 (dk_at dksX0_check_2 3 rfl rfl)
theorem dX0_check_51 : decode cX0_check 51 = .ok (.iload_n 3, 1) := dk_29 (dk_at dksX0_check_2 5 rfl rfl)
theorem dX0_check_52 : decode cX0_check 52 = .ok (.if_icmp .ge 23, 3) := dk_162 0 23 (dk_at dksX0_check_2 6 rfl rfl)
theorem dX0_check_55 : decode cX0_check 55 = .ok (.aload_n 0, 1) := dk_42 (dk_at dksX0_check_2 9 rfl rfl)
theorem dX0_check_56 : decode cX0_check 56 = .ok (.getfield 98, 3) := dk_180 0 98 (dk_at dksX0_check_2 10 rfl rfl)
theorem dX0_check_59 : decode cX0_check 59 = .ok (.iload 4, 2) := dk_21 4 (dk_at dksX0_check_2 13 rfl rfl)
theorem dX0_check_61 : decode cX0_check 61 = .ok (.iaload, 1) := dk_46 (dk_at dksX0_check_2 15 rfl rfl)
theorem dX0_check_62 : decode cX0_check 62 = .ok (.aload_n 0, 1) := dk_42 (dk_at dksX0_check_2 16 rfl rfl)
theorem dX0_check_63 : decode cX0_check 63 = .ok (.getfield 101, 3) := dk_180 0 101 (dk_at dksX0_check_2 17 rfl rfl)
theorem dX0_check_66 : decode cX0_check 66 = .ok (.iload 4, 2) := dk_21 4 (dk_at dksX0_check_2 20 rfl rfl)
theorem dX0_check_68 : decode cX0_check 68 = .ok (.iaload, 1) := dk_46 (dk_at dksX0_check_2 22 rfl rfl)
theorem dX0_check_69 : decode cX0_check 69 = .ok (.if_icmp .ne 6, 3) := dk_160 0 6 (dk_at dksX0_check_3 0 rfl rfl)
theorem dX0_check_72 : decode cX0_check 72 = .ok (.goto 8, 3) := dk_167 0 8 (dk_at dksX0_check_3 3 rfl rfl)
theorem dX0_check_75 : decode cX0_check 75 = .ok (.iconst 1, 1) := dk_4 (dk_at dksX0_check_3 6 rfl rfl)
theorem dX0_check_76 : decode cX0_check 76 = .ok (.iload 4, 2) := dk_21 4 (dk_at dksX0_check_3 7 rfl rfl)
theorem dX0_check_78 : decode cX0_check 78 = .ok (.iadd, 1) := dk_96 (dk_at dksX0_check_3 9 rfl rfl)
theorem dX0_check_79 : decode cX0_check 79 = .ok (.ireturn, 1) := dk_172 (dk_at dksX0_check_3 10 rfl rfl)
theorem dX0_check_80 : decode cX0_check 80 = .ok (.iinc 4 1, 3) := dk_132 4 1 (dk_at dksX0_check_3 11 rfl rfl)
theorem dX0_check_83 : decode cX0_check 83 = .ok (.goto (-40), 3) := dk_167 255 216 (dk_at dksX0_check_3 14 rfl rfl)
theorem dX0_check_86 : decode cX0_check 86 = .ok (.iload_n 2, 1) := dk_28 (dk_at dksX0_check_3 17 rfl rfl)
theorem dX0_check_87 : decode cX0_check 87 = .ok (.iload_n 3, 1) := dk_29 (dk_at dksX0_check_3 18 rfl rfl)
theorem dX0_check_88 : decode cX0_check 88 = .ok (.if_icmp .ge 9, 3) := dk_162 0 9 (dk_at dksX0_check_3 19 rfl rfl)
theorem dX0_check_91 : decode cX0_check 91 = .ok (.iconst 1, 1) := dk_4 (dk_at dksX0_check_3 22 rfl rfl)
theorem dX0_check_92 : decode cX0_check 92 = .ok (.iload_n 2, 1) := dk_28 (dk_at dksX0_check_3 23 rfl rfl)
theorem dX0_check_93 : decode cX0_check 93 = .ok (.iadd, 1) := dk_96 (dk_at dksX0_check_4 0 rfl rfl)
theorem dX0_check_94 : decode cX0_check 94 = .ok (.goto 4, 3) := dk_167 0 4 (dk_at dksX0_check_4 1 rfl rfl)
theorem dX0_check_97 : decode cX0_check 97 = .ok (.iconst 0, 1) := dk_3 (dk_at dksX0_check_4 4 rfl rfl)
theorem dX0_check_98 : decode cX0_check 98 = .ok (.ireturn, 1) := dk_172 (dk_at dksX0_check_4 5 rfl rfl)
abbrev cX0_rowsOfMinutes : ByteArray := prog_1_method_93_code
def yX0_rowsOfMinutes : MethodName := ⟨RX0, "rowsOfMinutes", "(I)I"⟩
def dkwX0_rowsOfMinutes_4 : List UInt8 := [182, 1, 147, 5, 28, 104, 172]
abbrev dktX0_rowsOfMinutes_4 : List UInt8 := dkwX0_rowsOfMinutes_4 ++ []
def dkwX0_rowsOfMinutes_3 : List UInt8 := [180, 0, 46, 180, 1, 112, 3, 46, 79, 132, 2, 1, 167, 255, 197, 42, 180, 0, 46, 42, 180, 0, 53]
abbrev dktX0_rowsOfMinutes_3 : List UInt8 := dkwX0_rowsOfMinutes_3 ++ dktX0_rowsOfMinutes_4
def dkwX0_rowsOfMinutes_2 : List UInt8 := [180, 0, 101, 5, 28, 104, 42, 180, 0, 46, 180, 1, 95, 79, 42, 180, 0, 101, 5, 28, 104, 4, 96, 42]
abbrev dktX0_rowsOfMinutes_2 : List UInt8 := dkwX0_rowsOfMinutes_2 ++ dktX0_rowsOfMinutes_3
def dkwX0_rowsOfMinutes_1 : List UInt8 := [28, 27, 162, 0, 60, 42, 180, 0, 46, 180, 1, 46, 17, 39, 15, 162, 0, 47, 42, 182, 1, 104, 42]
abbrev dktX0_rowsOfMinutes_1 : List UInt8 := dkwX0_rowsOfMinutes_1 ++ dktX0_rowsOfMinutes_2
def dkwX0_rowsOfMinutes_0 : List UInt8 := [42, 180, 0, 53, 42, 180, 0, 46, 182, 1, 147, 42, 180, 0, 46, 42, 180, 0, 50, 182, 1, 147, 3, 61]
abbrev dktX0_rowsOfMinutes_0 : List UInt8 := dkwX0_rowsOfMinutes_0 ++ dktX0_rowsOfMinutes_1
theorem dksX0_rowsOfMinutes_0 : cX0_rowsOfMinutes.data.toList.drop 0 = dktX0_rowsOfMinutes_0 := by decide +kernel
theorem dksX0_rowsOfMinutes_1 : cX0_rowsOfMinutes.data.toList.drop 24 = dktX0_rowsOfMinutes_1 := dk_seg dksX0_rowsOfMinutes_0 24 rfl rfl
theorem dksX0_rowsOfMinutes_2 : cX0_rowsOfMinutes.data.toList.drop 47 = dktX0_rowsOfMinutes_2 := dk_seg dksX0_rowsOfMinutes_1 23 rfl rfl
theorem dksX0_rowsOfMinutes_3 : cX0_rowsOfMinutes.data.toList.drop 71 = dktX0_rowsOfMinutes_3 := dk_seg dksX0_rowsOfMinutes_2 24 rfl rfl
theorem dksX0_rowsOfMinutes_4 : cX0_rowsOfMinutes.data.toList.drop 94 = dktX0_rowsOfMinutes_4 := dk_seg dksX0_rowsOfMinutes_3 23 rfl rfl
theorem dX0_rowsOfMinutes_0 : decode cX0_rowsOfMinutes 0 = .ok (.aload_n 0, 1) := dk_42 (dk_at dksX0_rowsOfMinutes_0 0 rfl rfl)
theorem dX0_rowsOfMinutes_1 : decode cX0_rowsOfMinutes 1 = .ok (.getfield 53, 3) := dk_180 0 53 (dk_at dksX0_rowsOfMinutes_0 1 rfl rfl)
theorem dX0_rowsOfMinutes_4 : decode cX0_rowsOfMinutes 4 = .ok (.aload_n 0, 1) := dk_42 (dk_at dksX0_rowsOfMinutes_0 4 rfl rfl)
theorem dX0_rowsOfMinutes_5 : decode cX0_rowsOfMinutes 5 = .ok (.getfield 46, 3) := dk_180 0 46 (dk_at dksX0_rowsOfMinutes_0 5 rfl rfl)
theorem dX0_rowsOfMinutes_8 : decode cX0_rowsOfMinutes 8 = .ok (.invokevirtual 403, 3) := dk_182 1 147 (dk_at dksX0_rowsOfMinutes_0 8 rfl rfl)
theorem dX0_rowsOfMinutes_11 : decode cX0_rowsOfMinutes 11 = .ok (.aload_n 0, 1) := dk_42 (dk_at dksX0_rowsOfMinutes_0 11 rfl rfl)
theorem dX0_rowsOfMinutes_12 : decode cX0_rowsOfMinutes 12 = .ok (.getfield 46, 3) := dk_180 0 46 (dk_at dksX0_rowsOfMinutes_0 12 rfl rfl)
theorem dX0_rowsOfMinutes_15 : decode cX0_rowsOfMinutes 15 = .ok (.aload_n 0, 1) := dk_42 (dk_at dksX0_rowsOfMinutes_0 15 rfl rfl)
theorem dX0_rowsOfMinutes_16 : decode cX0_rowsOfMinutes 16 = .ok (.getfield 50, 3) := dk_180 0 50 (dk_at dksX0_rowsOfMinutes_0 16 rfl rfl)
theorem dX0_rowsOfMinutes_19 : decode cX0_rowsOfMinutes 19 = .ok (.invokevirtual 403, 3) := dk_182 1 147 (dk_at dksX0_rowsOfMinutes_0 19 rfl rfl)
theorem dX0_rowsOfMinutes_22 : decode cX0_rowsOfMinutes 22 = .ok (.iconst 0, 1) := dk_3 (dk_at dksX0_rowsOfMinutes_0 22 rfl rfl)
theorem dX0_rowsOfMinutes_23 : decode cX0_rowsOfMinutes 23 = .ok (.istore_n 2, 1) := dk_61 (dk_at dksX0_rowsOfMinutes_0 23 rfl rfl)
theorem dX0_rowsOfMinutes_24 : decode cX0_rowsOfMinutes 24 = .ok (.iload_n 2, 1) := dk_28 (dk_at dksX0_rowsOfMinutes_1 0 rfl rfl)
theorem dX0_rowsOfMinutes_25 : decode cX0_rowsOfMinutes 25 = .ok (.iload_n 1, 1) := dk_27 (dk_at dksX0_rowsOfMinutes_1 1 rfl rfl)
theorem dX0_rowsOfMinutes_26 : decode cX0_rowsOfMinutes 26 = .ok (.if_icmp .ge 60, 3) := dk_162 0 60 (dk_at dksX0_rowsOfMinutes_1 2 rfl rfl)
theorem dX0_rowsOfMinutes_29 : decode cX0_rowsOfMinutes 29 = .ok (.aload_n 0, 1) := dk_42 (dk_at dksX0_rowsOfMinutes_1 5 rfl rfl)
theorem dX0_rowsOfMinutes_30 : decode cX0_rowsOfMinutes 30 = .ok (.getfield 46, 3) := dk_180 0 46 (dk_at dksX0_rowsOfMinutes_1 6 rfl rfl)
theorem dX0_rowsOfMinutes_33 : decode cX0_rowsOfMinutes 33 = .ok (.getfield 302, 3) := dk_180 1 46 (dk_at dksX0_rowsOfMinutes_1 9 rfl rfl)
theorem dX0_rowsOfMinutes_36 : decode cX0_rowsOfMinutes 36 = .ok (.sipush 9999, 3) := dk_17 39 15 (dk_at dksX0_rowsOfMinutes_1 12 rfl rfl)
theorem dX0_rowsOfMinutes_39 : decode cX0_rowsOfMinutes 39 = .ok (.if_icmp .ge 47, 3) := dk_162 0 47 (dk_at dksX0_rowsOfMinutes_1 15 rfl rfl)
theorem dX0_rowsOfMinutes_42 : decode cX0_rowsOfMinutes 42 = .ok (.aload_n 0, 1) := dk_42 (dk_at dksX0_rowsOfMinutes_1 18 rfl rfl)
theorem dX0_rowsOfMinutes_43 : decode cX0_rowsOfMinutes 43 = .ok (.invokevirtual 360, 3) := dk_182 1 104 (dk_at dksX0_rowsOfMinutes_1 19 rfl rfl)
theorem dX0_rowsOfMinutes_46 : decode cX0_rowsOfMinutes 46 = .ok (.aload_n 0, 1) := dk_42 (dk_at dksX0_rowsOfMinutes_1 22 rfl rfl)
theorem dX0_rowsOfMinutes_47 : decode cX0_rowsOfMinutes 47 = .ok (.getfield 101, 3) := dk_180 0 101 (dk_at dksX0_rowsOfMinutes_2 0 rfl rfl)
theorem dX0_rowsOfMinutes_50 : decode cX0_rowsOfMinutes 50 = .ok (.iconst 2, 1) := dk_5 (dk_at dksX0_rowsOfMinutes_2 3 rfl rfl)
theorem dX0_rowsOfMinutes_51 : decode cX0_rowsOfMinutes 51 = .ok (.iload_n 2, 1) := dk_28 (dk_at dksX0_rowsOfMinutes_2 4 rfl rfl)
theorem dX0_rowsOfMinutes_52 : decode cX0_rowsOfMinutes 52 = .ok (.imul, 1) := dk_104 (dk_at dksX0_rowsOfMinutes_2 5 rfl rfl)
theorem dX0_rowsOfMinutes_53 : decode cX0_rowsOfMinutes 53 = .ok (.aload_n 0, 1) := dk_42 (dk_at dksX0_rowsOfMinutes_2 6 rfl rfl)
theorem dX0_rowsOfMinutes_54 : decode cX0_rowsOfMinutes 54 = .ok (.getfield 46, 3) := dk_180 0 46 (dk_at dksX0_rowsOfMinutes_2 7 rfl rfl)
theorem dX0_rowsOfMinutes_57 : decode cX0_rowsOfMinutes 57 = .ok (.getfield 351, 3) := dk_180 1 95 (dk_at dksX0_rowsOfMinutes_2 10 rfl rfl)
theorem dX0_rowsOfMinutes_60 : decode cX0_rowsOfMinutes 60 = .ok (.iastore, 1) := dk_79 (dk_at dksX0_rowsOfMinutes_2 13 rfl rfl)
theorem dX0_rowsOfMinutes_61 : decode cX0_rowsOfMinutes 61 = .ok (.aload_n 0, 1) := dk_42 (dk_at dksX0_rowsOfMinutes_2 14 rfl rfl)
theorem dX0_rowsOfMinutes_62 : decode cX0_rowsOfMinutes 62 = .ok (.getfield 101, 3) := dk_180 0 101 (dk_at dksX0_rowsOfMinutes_2 15 rfl rfl)
theorem dX0_rowsOfMinutes_65 : decode cX0_rowsOfMinutes 65 = .ok (.iconst 2, 1) := dk_5 (dk_at dksX0_rowsOfMinutes_2 18 rfl rfl)
theorem dX0_rowsOfMinutes_66 : decode cX0_rowsOfMinutes 66 = .ok (.iload_n 2, 1) := dk_28 (dk_at dksX0_rowsOfMinutes_2 19 rfl rfl)
theorem dX0_rowsOfMinutes_67 : decode cX0_rowsOfMinutes 67 = .ok (.imul, 1) := dk_104 (dk_at dksX0_rowsOfMinutes_2 20 rfl rfl)
theorem dX0_rowsOfMinutes_68 : decode cX0_rowsOfMinutes 68 = .ok (.iconst 1, 1) := dk_4 (dk_at dksX0_rowsOfMinutes_2 21 rfl rfl)
theorem dX0_rowsOfMinutes_69 : decode cX0_rowsOfMinutes 69 = .ok (.iadd, 1) := dk_96 (dk_at dksX0_rowsOfMinutes_2 22 rfl rfl)
theorem dX0_rowsOfMinutes_70 : decode cX0_rowsOfMinutes 70 = .ok (.aload_n 0, 1) := dk_42 (dk_at dksX0_rowsOfMinutes_2 23 rfl rfl)
theorem dX0_rowsOfMinutes_71 : decode cX0_rowsOfMinutes 71 = .ok (.getfield 46, 3) := dk_180 0 46 (dk_at dksX0_rowsOfMinutes_3 0 rfl rfl)
theorem dX0_rowsOfMinutes_74 : decode cX0_rowsOfMinutes 74 = .ok (.getfield 368, 3) := dk_180 1 112 (dk_at dksX0_rowsOfMinutes_3 3 rfl rfl)
theorem dX0_rowsOfMinutes_77 : decode cX0_rowsOfMinutes 77 = .ok (.iconst 0, 1) := dk_3 (dk_at dksX0_rowsOfMinutes_3 6 rfl rfl)
theorem dX0_rowsOfMinutes_78 : decode cX0_rowsOfMinutes 78 = .ok (.iaload, 1) := dk_46 (dk_at dksX0_rowsOfMinutes_3 7 rfl rfl)
theorem dX0_rowsOfMinutes_79 : decode cX0_rowsOfMinutes 79 = .ok (.iastore, 1) := dk_79 (dk_at dksX0_rowsOfMinutes_3 8 rfl rfl)
theorem dX0_rowsOfMinutes_80 : decode cX0_rowsOfMinutes 80 = .ok (.iinc 2 1, 3) := dk_132 2 1 (dk_at dksX0_rowsOfMinutes_3 9 rfl rfl)
theorem dX0_rowsOfMinutes_83 : decode cX0_rowsOfMinutes 83 = .ok (.goto (-59), 3) := dk_167 255 197 (dk_at dksX0_rowsOfMinutes_3 12 rfl rfl)
theorem dX0_rowsOfMinutes_86 : decode cX0_rowsOfMinutes 86 = .ok (.aload_n 0, 1) := dk_42 (dk_at dksX0_rowsOfMinutes_3 15 rfl rfl)
theorem dX0_rowsOfMinutes_87 : decode cX0_rowsOfMinutes 87 = .ok (.getfield 46, 3) := dk_180 0 46 (dk_at dksX0_rowsOfMinutes_3 16 rfl rfl)
theorem dX0_rowsOfMinutes_90 : decode cX0_rowsOfMinutes 90 = .ok (.aload_n 0, 1) := dk_42 (dk_at dksX0_rowsOfMinutes_3 19 rfl rfl)
theorem dX0_rowsOfMinutes_91 : decode cX0_rowsOfMinutes 91 = .ok (.getfield 53, 3) := dk_180 0 53 (dk_at dksX0_rowsOfMinutes_3 20 rfl rfl)
theorem dX0_rowsOfMinutes_94 : decode cX0_rowsOfMinutes 94 = .ok (.invokevirtual 403, 3) := dk_182 1 147 (dk_at dksX0_rowsOfMinutes_4 0 rfl rfl)
theorem dX0_rowsOfMinutes_97 : decode cX0_rowsOfMinutes 97 = .ok (.iconst 2, 1) := dk_5 (dk_at dksX0_rowsOfMinutes_4 3 rfl rfl)
theorem dX0_rowsOfMinutes_98 : decode cX0_rowsOfMinutes 98 = .ok (.iload_n 2, 1) := dk_28 (dk_at dksX0_rowsOfMinutes_4 4 rfl rfl)
theorem dX0_rowsOfMinutes_99 : decode cX0_rowsOfMinutes 99 = .ok (.imul, 1) := dk_104 (dk_at dksX0_rowsOfMinutes_4 5 rfl rfl)
theorem dX0_rowsOfMinutes_100 : decode cX0_rowsOfMinutes 100 = .ok (.ireturn, 1) := dk_172 (dk_at dksX0_rowsOfMinutes_4 6 rfl rfl)
abbrev cX0_keep : ByteArray := prog_1_method_95_code
def yX0_keep : MethodName := ⟨RX0, "keep", "()I"⟩
def dkwX0_keep_0 : List UInt8 := [42, 180, 0, 50, 42, 180, 0, 46, 182, 1, 147, 42, 4, 181, 1, 248, 42, 180, 0, 46, 180, 0, 104, 172]
abbrev dktX0_keep_0 : List UInt8 := dkwX0_keep_0 ++ []
theorem dksX0_keep_0 : cX0_keep.data.toList.drop 0 = dktX0_keep_0 := by decide +kernel
theorem dX0_keep_0 : decode cX0_keep 0 = .ok (.aload_n 0, 1) := dk_42 (dk_at dksX0_keep_0 0 rfl rfl)
theorem dX0_keep_1 : decode cX0_keep 1 = .ok (.getfield 50, 3) := dk_180 0 50 (dk_at dksX0_keep_0 1 rfl rfl)
theorem dX0_keep_4 : decode cX0_keep 4 = .ok (.aload_n 0, 1) := dk_42 (dk_at dksX0_keep_0 4 rfl rfl)
theorem dX0_keep_5 : decode cX0_keep 5 = .ok (.getfield 46, 3) := dk_180 0 46 (dk_at dksX0_keep_0 5 rfl rfl)
theorem dX0_keep_8 : decode cX0_keep 8 = .ok (.invokevirtual 403, 3) := dk_182 1 147 (dk_at dksX0_keep_0 8 rfl rfl)
theorem dX0_keep_11 : decode cX0_keep 11 = .ok (.aload_n 0, 1) := dk_42 (dk_at dksX0_keep_0 11 rfl rfl)
theorem dX0_keep_12 : decode cX0_keep 12 = .ok (.iconst 1, 1) := dk_4 (dk_at dksX0_keep_0 12 rfl rfl)
theorem dX0_keep_13 : decode cX0_keep 13 = .ok (.putfield 504, 3) := dk_181 1 248 (dk_at dksX0_keep_0 13 rfl rfl)
theorem dX0_keep_16 : decode cX0_keep 16 = .ok (.aload_n 0, 1) := dk_42 (dk_at dksX0_keep_0 16 rfl rfl)
theorem dX0_keep_17 : decode cX0_keep 17 = .ok (.getfield 46, 3) := dk_180 0 46 (dk_at dksX0_keep_0 17 rfl rfl)
theorem dX0_keep_20 : decode cX0_keep 20 = .ok (.getfield 104, 3) := dk_180 0 104 (dk_at dksX0_keep_0 20 rfl rfl)
theorem dX0_keep_23 : decode cX0_keep 23 = .ok (.ireturn, 1) := dk_172 (dk_at dksX0_keep_0 23 rfl rfl)
abbrev cX0_back : ByteArray := prog_1_method_96_code
def yX0_back : MethodName := ⟨RX0, "back", "()I"⟩
def dkwX0_back_1 : List UInt8 := [180, 0, 46, 180, 0, 104, 172]
abbrev dktX0_back_1 : List UInt8 := dkwX0_back_1 ++ []
def dkwX0_back_0 : List UInt8 := [42, 180, 1, 248, 154, 0, 7, 19, 1, 244, 172, 42, 180, 0, 46, 42, 180, 0, 50, 182, 1, 147, 42]
abbrev dktX0_back_0 : List UInt8 := dkwX0_back_0 ++ dktX0_back_1
theorem dksX0_back_0 : cX0_back.data.toList.drop 0 = dktX0_back_0 := by decide +kernel
theorem dksX0_back_1 : cX0_back.data.toList.drop 23 = dktX0_back_1 := dk_seg dksX0_back_0 23 rfl rfl
theorem dX0_back_0 : decode cX0_back 0 = .ok (.aload_n 0, 1) := dk_42 (dk_at dksX0_back_0 0 rfl rfl)
theorem dX0_back_1 : decode cX0_back 1 = .ok (.getfield 504, 3) := dk_180 1 248 (dk_at dksX0_back_0 1 rfl rfl)
theorem dX0_back_4 : decode cX0_back 4 = .ok (.ifCond .ne 7, 3) := dk_154 0 7 (dk_at dksX0_back_0 4 rfl rfl)
theorem dX0_back_7 : decode cX0_back 7 = .ok (.ldc_w 500, 3) := dk_19 1 244 (dk_at dksX0_back_0 7 rfl rfl)
theorem dX0_back_10 : decode cX0_back 10 = .ok (.ireturn, 1) := dk_172 (dk_at dksX0_back_0 10 rfl rfl)
theorem dX0_back_11 : decode cX0_back 11 = .ok (.aload_n 0, 1) := dk_42 (dk_at dksX0_back_0 11 rfl rfl)
theorem dX0_back_12 : decode cX0_back 12 = .ok (.getfield 46, 3) := dk_180 0 46 (dk_at dksX0_back_0 12 rfl rfl)
theorem dX0_back_15 : decode cX0_back 15 = .ok (.aload_n 0, 1) := dk_42 (dk_at dksX0_back_0 15 rfl rfl)
theorem dX0_back_16 : decode cX0_back 16 = .ok (.getfield 50, 3) := dk_180 0 50 (dk_at dksX0_back_0 16 rfl rfl)
theorem dX0_back_19 : decode cX0_back 19 = .ok (.invokevirtual 403, 3) := dk_182 1 147 (dk_at dksX0_back_0 19 rfl rfl)
theorem dX0_back_22 : decode cX0_back 22 = .ok (.aload_n 0, 1) := dk_42 (dk_at dksX0_back_0 22 rfl rfl)
theorem dX0_back_23 : decode cX0_back 23 = .ok (.getfield 46, 3) := dk_180 0 46 (dk_at dksX0_back_1 0 rfl rfl)
theorem dX0_back_26 : decode cX0_back 26 = .ok (.getfield 104, 3) := dk_180 0 104 (dk_at dksX0_back_1 3 rfl rfl)
theorem dX0_back_29 : decode cX0_back 29 = .ok (.ireturn, 1) := dk_172 (dk_at dksX0_back_1 6 rfl rfl)
abbrev cX0_count : ByteArray := prog_1_method_97_code
def yX0_count : MethodName := ⟨RX0, "count", "(I)I"⟩
def dkwX0_count_4 : List UInt8 := [180, 0, 46, 180, 1, 89, 172, 18, 133, 172]
abbrev dktX0_count_4 : List UInt8 := dkwX0_count_4 ++ []
def dkwX0_count_3 : List UInt8 := [5, 100, 46, 172, 42, 180, 0, 46, 180, 0, 240, 172, 42, 180, 1, 245, 172, 42, 180, 0, 125, 172, 42]
abbrev dktX0_count_3 : List UInt8 := dkwX0_count_3 ++ dktX0_count_4
def dkwX0_count_2 : List UInt8 := [42, 180, 0, 46, 180, 0, 104, 172, 42, 180, 0, 46, 180, 1, 46, 172, 42, 180, 0, 46, 180, 1, 83, 27]
abbrev dktX0_count_2 : List UInt8 := dkwX0_count_2 ++ dktX0_count_3
def dkwX0_count_1 : List UInt8 := [170, 0, 0, 0, 0, 0, 101, 0, 0, 0, 0, 0, 0, 0, 7, 0, 0, 0, 47, 0, 0, 0, 55, 0, 0, 0, 63, 0, 0, 0, 63, 0, 0, 0, 75, 0, 0, 0, 83, 0, 0, 0, 88, 0, 0, 0, 93]
abbrev dktX0_count_1 : List UInt8 := dkwX0_count_1 ++ dktX0_count_2
def dkwX0_count_0 : List UInt8 := [27]
abbrev dktX0_count_0 : List UInt8 := dkwX0_count_0 ++ dktX0_count_1
theorem dksX0_count_0 : cX0_count.data.toList.drop 0 = dktX0_count_0 := by decide +kernel
theorem dksX0_count_1 : cX0_count.data.toList.drop 1 = dktX0_count_1 := dk_seg dksX0_count_0 1 rfl rfl
theorem dksX0_count_2 : cX0_count.data.toList.drop 48 = dktX0_count_2 := dk_seg dksX0_count_1 47 rfl rfl
theorem dksX0_count_3 : cX0_count.data.toList.drop 72 = dktX0_count_3 := dk_seg dksX0_count_2 24 rfl rfl
theorem dksX0_count_4 : cX0_count.data.toList.drop 95 = dktX0_count_4 := dk_seg dksX0_count_3 23 rfl rfl
theorem dX0_count_0 : decode cX0_count 0 = .ok (.iload_n 1, 1) := dk_27 (dk_at dksX0_count_0 0 rfl rfl)
theorem dX0_count_1 : decode cX0_count 1 = .ok (.tableswitch 101 0 7 #[47, 55, 63, 63, 75, 83, 88, 93], 47) := by decide +kernel
theorem dX0_count_48 : decode cX0_count 48 = .ok (.aload_n 0, 1) := dk_42 (dk_at dksX0_count_2 0 rfl rfl)
theorem dX0_count_49 : decode cX0_count 49 = .ok (.getfield 46, 3) := dk_180 0 46 (dk_at dksX0_count_2 1 rfl rfl)
theorem dX0_count_52 : decode cX0_count 52 = .ok (.getfield 104, 3) := dk_180 0 104 (dk_at dksX0_count_2 4 rfl rfl)
theorem dX0_count_55 : decode cX0_count 55 = .ok (.ireturn, 1) := dk_172 (dk_at dksX0_count_2 7 rfl rfl)
theorem dX0_count_56 : decode cX0_count 56 = .ok (.aload_n 0, 1) := dk_42 (dk_at dksX0_count_2 8 rfl rfl)
theorem dX0_count_57 : decode cX0_count 57 = .ok (.getfield 46, 3) := dk_180 0 46 (dk_at dksX0_count_2 9 rfl rfl)
theorem dX0_count_60 : decode cX0_count 60 = .ok (.getfield 302, 3) := dk_180 1 46 (dk_at dksX0_count_2 12 rfl rfl)
theorem dX0_count_63 : decode cX0_count 63 = .ok (.ireturn, 1) := dk_172 (dk_at dksX0_count_2 15 rfl rfl)
theorem dX0_count_64 : decode cX0_count 64 = .ok (.aload_n 0, 1) := dk_42 (dk_at dksX0_count_2 16 rfl rfl)
theorem dX0_count_65 : decode cX0_count 65 = .ok (.getfield 46, 3) := dk_180 0 46 (dk_at dksX0_count_2 17 rfl rfl)
theorem dX0_count_68 : decode cX0_count 68 = .ok (.getfield 339, 3) := dk_180 1 83 (dk_at dksX0_count_2 20 rfl rfl)
theorem dX0_count_71 : decode cX0_count 71 = .ok (.iload_n 1, 1) := dk_27 (dk_at dksX0_count_2 23 rfl rfl)
theorem dX0_count_72 : decode cX0_count 72 = .ok (.iconst 2, 1) := dk_5 (dk_at dksX0_count_3 0 rfl rfl)
theorem dX0_count_73 : decode cX0_count 73 = .ok (.isub, 1) := dk_100 (dk_at dksX0_count_3 1 rfl rfl)
theorem dX0_count_74 : decode cX0_count 74 = .ok (.iaload, 1) := dk_46 (dk_at dksX0_count_3 2 rfl rfl)
theorem dX0_count_75 : decode cX0_count 75 = .ok (.ireturn, 1) := dk_172 (dk_at dksX0_count_3 3 rfl rfl)
theorem dX0_count_76 : decode cX0_count 76 = .ok (.aload_n 0, 1) := dk_42 (dk_at dksX0_count_3 4 rfl rfl)
theorem dX0_count_77 : decode cX0_count 77 = .ok (.getfield 46, 3) := dk_180 0 46 (dk_at dksX0_count_3 5 rfl rfl)
theorem dX0_count_80 : decode cX0_count 80 = .ok (.getfield 240, 3) := dk_180 0 240 (dk_at dksX0_count_3 8 rfl rfl)
theorem dX0_count_83 : decode cX0_count 83 = .ok (.ireturn, 1) := dk_172 (dk_at dksX0_count_3 11 rfl rfl)
theorem dX0_count_84 : decode cX0_count 84 = .ok (.aload_n 0, 1) := dk_42 (dk_at dksX0_count_3 12 rfl rfl)
theorem dX0_count_85 : decode cX0_count 85 = .ok (.getfield 501, 3) := dk_180 1 245 (dk_at dksX0_count_3 13 rfl rfl)
theorem dX0_count_88 : decode cX0_count 88 = .ok (.ireturn, 1) := dk_172 (dk_at dksX0_count_3 16 rfl rfl)
theorem dX0_count_89 : decode cX0_count 89 = .ok (.aload_n 0, 1) := dk_42 (dk_at dksX0_count_3 17 rfl rfl)
theorem dX0_count_90 : decode cX0_count 90 = .ok (.getfield 125, 3) := dk_180 0 125 (dk_at dksX0_count_3 18 rfl rfl)
theorem dX0_count_93 : decode cX0_count 93 = .ok (.ireturn, 1) := dk_172 (dk_at dksX0_count_3 21 rfl rfl)
theorem dX0_count_94 : decode cX0_count 94 = .ok (.aload_n 0, 1) := dk_42 (dk_at dksX0_count_3 22 rfl rfl)
theorem dX0_count_95 : decode cX0_count 95 = .ok (.getfield 46, 3) := dk_180 0 46 (dk_at dksX0_count_4 0 rfl rfl)
theorem dX0_count_98 : decode cX0_count 98 = .ok (.getfield 345, 3) := dk_180 1 89 (dk_at dksX0_count_4 3 rfl rfl)
theorem dX0_count_101 : decode cX0_count 101 = .ok (.ireturn, 1) := dk_172 (dk_at dksX0_count_4 6 rfl rfl)
theorem dX0_count_102 : decode cX0_count 102 = .ok (.ldc 133, 2) := dk_18 133 (dk_at dksX0_count_4 7 rfl rfl)
theorem dX0_count_104 : decode cX0_count 104 = .ok (.ireturn, 1) := dk_172 (dk_at dksX0_count_4 9 rfl rfl)
theorem q82 : (Jvm.Cond.initialized "StrokesHeard") ∈ lw_all := lw_g (lw_at lw_m1 1 rfl) rfl
theorem q110 : (Jvm.Cond.instantiable "StrokesHeard" (27 : Nat)) ∈ lw_all := lw_g (lw_at lw_m1 29 rfl) rfl
theorem q112 : (Jvm.Cond.instanceMethod ({ cls := "StrokesHeard", name := "<init>", desc := "()V" } : Jvm.MethodName)) ∈ lw_all := lw_g (lw_at lw_m1 31 rfl) rfl
theorem q113 : (Jvm.Cond.code ({ cls := "StrokesHeard", name := "<init>", desc := "()V" } : Jvm.MethodName) prog_1_method_6_code (1 : Nat) (Option.none : Option Jvm.ClassFile.FieldType)) ∈ lw_all := lw_g (lw_at lw_m1 32 rfl) rfl
theorem q114 : (Jvm.Cond.methodLink "StrokesHeard" (40 : Nat) ({ cls := "java/lang/Object", name := "<init>", desc := "()V" } : Jvm.MethodName)) ∈ lw_all := lw_g (lw_at lw_m1 33 rfl) rfl
theorem q117 : (Jvm.Cond.classLink "StrokesHeard" (43 : Nat) "StrokesHeard$State") ∈ lw_all := lw_g (lw_at lw_m1 36 rfl) rfl
theorem q119 : (Jvm.Cond.methodLinkNest "StrokesHeard" (45 : Nat) ({ cls := "StrokesHeard$State", name := "<init>", desc := "()V" } : Jvm.MethodName) "StrokesHeard") ∈ lw_tbl := lw_at lw_m1 38 rfl
theorem q128 : (Jvm.Cond.fieldLinkNest "StrokesHeard" (345 : Nat) "StrokesHeard$State" "z" "I" "StrokesHeard") ∈ lw_tbl := lw_at lw_m1 47 rfl
theorem q130 : (Jvm.Cond.fieldLinkNest "StrokesHeard" (104 : Nat) "StrokesHeard$State" "many" "I" "StrokesHeard") ∈ lw_tbl := lw_at lw_m1 49 rfl
theorem q132 : (Jvm.Cond.fieldLinkNest "StrokesHeard" (267 : Nat) "StrokesHeard$State" "clock" "[LStrokesHeard$Ringer;" "StrokesHeard") ∈ lw_tbl := lw_at lw_m1 51 rfl
theorem q134 : (Jvm.Cond.fieldLinkNest "StrokesHeard" (339 : Nat) "StrokesHeard$State" "bed" "[I" "StrokesHeard") ∈ lw_tbl := lw_at lw_m1 53 rfl
theorem q136 : (Jvm.Cond.fieldLinkNest "StrokesHeard" (351 : Nat) "StrokesHeard$State" "heard" "I" "StrokesHeard") ∈ lw_tbl := lw_at lw_m1 55 rfl
theorem q138 : (Jvm.Cond.fieldLinkNest "StrokesHeard" (348 : Nat) "StrokesHeard$State" "missed" "I" "StrokesHeard") ∈ lw_tbl := lw_at lw_m1 57 rfl
theorem q140 : (Jvm.Cond.fieldLinkNest "StrokesHeard" (354 : Nat) "StrokesHeard$State" "mistaken" "I" "StrokesHeard") ∈ lw_tbl := lw_at lw_m1 59 rfl
theorem q142 : (Jvm.Cond.fieldLinkNest "StrokesHeard" (302 : Nat) "StrokesHeard$State" "minute" "I" "StrokesHeard") ∈ lw_tbl := lw_at lw_m1 61 rfl
theorem q144 : (Jvm.Cond.fieldLinkNest "StrokesHeard" (368 : Nat) "StrokesHeard$State" "note" "[I" "StrokesHeard") ∈ lw_tbl := lw_at lw_m1 63 rfl
theorem q146 : (Jvm.Cond.fieldLinkNest "StrokesHeard" (366 : Nat) "StrokesHeard$State" "notes" "I" "StrokesHeard") ∈ lw_tbl := lw_at lw_m1 65 rfl
theorem q148 : (Jvm.Cond.fieldLinkNest "StrokesHeard" (240 : Nat) "StrokesHeard$State" "texts" "I" "StrokesHeard") ∈ lw_tbl := lw_at lw_m1 67 rfl
theorem q150 : (Jvm.Cond.fieldLinkNest "StrokesHeard" (243 : Nat) "StrokesHeard$State" "text" "[LStrokesHeard$Text;" "StrokesHeard") ∈ lw_tbl := lw_at lw_m1 69 rfl
theorem q177 : (Jvm.Cond.classLink "StrokesHeard" (67 : Nat) "StrokesHeard$Fault") ∈ lw_all := lw_g (lw_at lw_m1 96 rfl) rfl
theorem q218 : (Jvm.Cond.methodLinkNest "StrokesHeard" (69 : Nat) ({ cls := "StrokesHeard$Fault", name := "<init>", desc := "()V" } : Jvm.MethodName) "StrokesHeard") ∈ lw_tbl := lw_at lw_m1 137 rfl
theorem q228 : (Jvm.Cond.fieldLinkNest "StrokesHeard" (137 : Nat) "StrokesHeard$Fault" "place" "I" "StrokesHeard") ∈ lw_tbl := lw_at lw_m1 147 rfl
theorem q245 : (Jvm.Cond.classLink "StrokesHeard" (80 : Nat) "StrokesHeard$Sheet") ∈ lw_all := lw_g (lw_at lw_m1 164 rfl) rfl
theorem q248 : (Jvm.Cond.methodLinkNest "StrokesHeard" (82 : Nat) ({ cls := "StrokesHeard$Sheet", name := "<init>", desc := "()V" } : Jvm.MethodName) "StrokesHeard") ∈ lw_tbl := lw_at lw_m1 167 rfl
theorem q253 : (Jvm.Cond.fieldLinkNest "StrokesHeard" (416 : Nat) "StrokesHeard$Sheet" "row" "Ljava/lang/Object;" "StrokesHeard") ∈ lw_tbl := lw_at lw_m1 172 rfl
theorem q257 : (Jvm.Cond.classLink "StrokesHeard" (87 : Nat) "StrokesHeard$Slot") ∈ lw_all := lw_g (lw_at lw_m1 176 rfl) rfl
theorem q260 : (Jvm.Cond.methodLinkNest "StrokesHeard" (89 : Nat) ({ cls := "StrokesHeard$Slot", name := "<init>", desc := "()V" } : Jvm.MethodName) "StrokesHeard") ∈ lw_tbl := lw_at lw_m1 179 rfl
theorem q265 : (Jvm.Cond.fieldLinkNest "StrokesHeard" (491 : Nat) "StrokesHeard$Slot" "held" "Ljava/lang/Object;" "StrokesHeard") ∈ lw_tbl := lw_at lw_m1 184 rfl
theorem q269 : (Jvm.Cond.fieldLink "StrokesHeard" (46 : Nat) "StrokesHeard" "now" "LStrokesHeard$State;") ∈ lw_all := lw_g (lw_at lw_m1 188 rfl) rfl
theorem q270 : (Jvm.Cond.fieldLink "StrokesHeard" (50 : Nat) "StrokesHeard" "image" "LStrokesHeard$State;") ∈ lw_all := lw_g (lw_at lw_m1 189 rfl) rfl
theorem q271 : (Jvm.Cond.fieldLink "StrokesHeard" (53 : Nat) "StrokesHeard" "aside" "LStrokesHeard$State;") ∈ lw_all := lw_g (lw_at lw_m1 190 rfl) rfl
theorem q272 : (Jvm.Cond.fieldLink "StrokesHeard" (56 : Nat) "StrokesHeard" "before" "LStrokesHeard$State;") ∈ lw_all := lw_g (lw_at lw_m1 191 rfl) rfl
theorem q273 : (Jvm.Cond.fieldLink "StrokesHeard" (504 : Nat) "StrokesHeard" "hasImage" "Z") ∈ lw_all := lw_g (lw_at lw_m1 192 rfl) rfl
theorem q274 : (Jvm.Cond.fieldLink "StrokesHeard" (59 : Nat) "StrokesHeard" "pile" "[I") ∈ lw_all := lw_g (lw_at lw_m1 193 rfl) rfl
theorem q275 : (Jvm.Cond.fieldLink "StrokesHeard" (63 : Nat) "StrokesHeard" "tape" "[B") ∈ lw_all := lw_g (lw_at lw_m1 194 rfl) rfl
theorem q276 : (Jvm.Cond.fieldLink "StrokesHeard" (125 : Nat) "StrokesHeard" "taped" "I") ∈ lw_all := lw_g (lw_at lw_m1 195 rfl) rfl
theorem q277 : (Jvm.Cond.fieldLink "StrokesHeard" (70 : Nat) "StrokesHeard" "fault" "LStrokesHeard$Fault;") ∈ lw_all := lw_g (lw_at lw_m1 196 rfl) rfl
theorem q278 : (Jvm.Cond.fieldLink "StrokesHeard" (134 : Nat) "StrokesHeard" "from" "I") ∈ lw_all := lw_g (lw_at lw_m1 197 rfl) rfl
theorem q279 : (Jvm.Cond.fieldLink "StrokesHeard" (140 : Nat) "StrokesHeard" "to" "I") ∈ lw_all := lw_g (lw_at lw_m1 198 rfl) rfl
theorem q280 : (Jvm.Cond.fieldLink "StrokesHeard" (143 : Nat) "StrokesHeard" "end" "I") ∈ lw_all := lw_g (lw_at lw_m1 199 rfl) rfl
theorem q281 : (Jvm.Cond.fieldLink "StrokesHeard" (202 : Nat) "StrokesHeard" "parens" "I") ∈ lw_all := lw_g (lw_at lw_m1 200 rfl) rfl
theorem q282 : (Jvm.Cond.fieldLink "StrokesHeard" (199 : Nat) "StrokesHeard" "nots" "I") ∈ lw_all := lw_g (lw_at lw_m1 201 rfl) rfl
theorem q283 : (Jvm.Cond.fieldLink "StrokesHeard" (205 : Nat) "StrokesHeard" "wordMany" "I") ∈ lw_all := lw_g (lw_at lw_m1 202 rfl) rfl
theorem q284 : (Jvm.Cond.fieldLink "StrokesHeard" (196 : Nat) "StrokesHeard" "keyRead" "I") ∈ lw_all := lw_g (lw_at lw_m1 203 rfl) rfl
theorem q285 : (Jvm.Cond.fieldLink "StrokesHeard" (74 : Nat) "StrokesHeard" "named" "[I") ∈ lw_all := lw_g (lw_at lw_m1 204 rfl) rfl
theorem q286 : (Jvm.Cond.fieldLink "StrokesHeard" (77 : Nat) "StrokesHeard" "totals" "[I") ∈ lw_all := lw_g (lw_at lw_m1 205 rfl) rfl
theorem q287 : (Jvm.Cond.fieldLink "StrokesHeard" (375 : Nat) "StrokesHeard" "fitting" "I") ∈ lw_all := lw_g (lw_at lw_m1 206 rfl) rfl
theorem q288 : (Jvm.Cond.fieldLink "StrokesHeard" (378 : Nat) "StrokesHeard" "hours" "I") ∈ lw_all := lw_g (lw_at lw_m1 207 rfl) rfl
theorem q289 : (Jvm.Cond.fieldLink "StrokesHeard" (381 : Nat) "StrokesHeard" "firstFit" "I") ∈ lw_all := lw_g (lw_at lw_m1 208 rfl) rfl
theorem q290 : (Jvm.Cond.fieldLink "StrokesHeard" (83 : Nat) "StrokesHeard" "sheets" "[LStrokesHeard$Sheet;") ∈ lw_all := lw_g (lw_at lw_m1 209 rfl) rfl
theorem q291 : (Jvm.Cond.fieldLink "StrokesHeard" (90 : Nat) "StrokesHeard" "slots" "[LStrokesHeard$Slot;") ∈ lw_all := lw_g (lw_at lw_m1 210 rfl) rfl
theorem q292 : (Jvm.Cond.fieldLink "StrokesHeard" (94 : Nat) "StrokesHeard" "carried" "[F") ∈ lw_all := lw_g (lw_at lw_m1 211 rfl) rfl
theorem q293 : (Jvm.Cond.fieldLink "StrokesHeard" (98 : Nat) "StrokesHeard" "waits" "[I") ∈ lw_all := lw_g (lw_at lw_m1 212 rfl) rfl
theorem q294 : (Jvm.Cond.fieldLink "StrokesHeard" (501 : Nat) "StrokesHeard" "waitMany" "I") ∈ lw_all := lw_g (lw_at lw_m1 213 rfl) rfl
theorem q295 : (Jvm.Cond.fieldLink "StrokesHeard" (101 : Nat) "StrokesHeard" "rows" "[I") ∈ lw_all := lw_g (lw_at lw_m1 214 rfl) rfl
theorem q296 : (Jvm.Cond.laysFinal "StrokesHeard" "StrokesHeard" "now" "LStrokesHeard$State;") ∈ lw_all := lw_g (lw_at lw_m1 215 rfl) rfl
theorem q297 : (Jvm.Cond.soleField "StrokesHeard" "now") ∈ lw_all := lw_g (lw_at lw_m1 216 rfl) rfl
theorem q298 : (Jvm.Cond.laysFinal "StrokesHeard" "StrokesHeard" "image" "LStrokesHeard$State;") ∈ lw_all := lw_g (lw_at lw_m1 217 rfl) rfl
theorem q299 : (Jvm.Cond.soleField "StrokesHeard" "image") ∈ lw_all := lw_g (lw_at lw_m1 218 rfl) rfl
theorem q300 : (Jvm.Cond.laysFinal "StrokesHeard" "StrokesHeard" "aside" "LStrokesHeard$State;") ∈ lw_all := lw_g (lw_at lw_m1 219 rfl) rfl
theorem q301 : (Jvm.Cond.soleField "StrokesHeard" "aside") ∈ lw_all := lw_g (lw_at lw_m1 220 rfl) rfl
theorem q302 : (Jvm.Cond.laysFinal "StrokesHeard" "StrokesHeard" "before" "LStrokesHeard$State;") ∈ lw_all := lw_g (lw_at lw_m1 221 rfl) rfl
theorem q303 : (Jvm.Cond.soleField "StrokesHeard" "before") ∈ lw_all := lw_g (lw_at lw_m1 222 rfl) rfl
theorem q304 : (Jvm.Cond.lays "StrokesHeard" "StrokesHeard" "hasImage" "Z") ∈ lw_all := lw_g (lw_at lw_m1 223 rfl) rfl
theorem q305 : (Jvm.Cond.soleField "StrokesHeard" "hasImage") ∈ lw_all := lw_g (lw_at lw_m1 224 rfl) rfl
theorem q306 : (Jvm.Cond.laysFinal "StrokesHeard" "StrokesHeard" "pile" "[I") ∈ lw_all := lw_g (lw_at lw_m1 225 rfl) rfl
theorem q307 : (Jvm.Cond.soleField "StrokesHeard" "pile") ∈ lw_all := lw_g (lw_at lw_m1 226 rfl) rfl
theorem q308 : (Jvm.Cond.laysFinal "StrokesHeard" "StrokesHeard" "tape" "[B") ∈ lw_all := lw_g (lw_at lw_m1 227 rfl) rfl
theorem q309 : (Jvm.Cond.soleField "StrokesHeard" "tape") ∈ lw_all := lw_g (lw_at lw_m1 228 rfl) rfl
theorem q310 : (Jvm.Cond.lays "StrokesHeard" "StrokesHeard" "taped" "I") ∈ lw_all := lw_g (lw_at lw_m1 229 rfl) rfl
theorem q311 : (Jvm.Cond.soleField "StrokesHeard" "taped") ∈ lw_all := lw_g (lw_at lw_m1 230 rfl) rfl
theorem q312 : (Jvm.Cond.laysFinal "StrokesHeard" "StrokesHeard" "fault" "LStrokesHeard$Fault;") ∈ lw_all := lw_g (lw_at lw_m1 231 rfl) rfl
theorem q313 : (Jvm.Cond.soleField "StrokesHeard" "fault") ∈ lw_all := lw_g (lw_at lw_m1 232 rfl) rfl
theorem q314 : (Jvm.Cond.lays "StrokesHeard" "StrokesHeard" "from" "I") ∈ lw_all := lw_g (lw_at lw_m1 233 rfl) rfl
theorem q315 : (Jvm.Cond.soleField "StrokesHeard" "from") ∈ lw_all := lw_g (lw_at lw_m1 234 rfl) rfl
theorem q316 : (Jvm.Cond.lays "StrokesHeard" "StrokesHeard" "to" "I") ∈ lw_all := lw_g (lw_at lw_m1 235 rfl) rfl
theorem q317 : (Jvm.Cond.soleField "StrokesHeard" "to") ∈ lw_all := lw_g (lw_at lw_m1 236 rfl) rfl
theorem q318 : (Jvm.Cond.lays "StrokesHeard" "StrokesHeard" "end" "I") ∈ lw_all := lw_g (lw_at lw_m1 237 rfl) rfl
theorem q319 : (Jvm.Cond.soleField "StrokesHeard" "end") ∈ lw_all := lw_g (lw_at lw_m1 238 rfl) rfl
theorem q320 : (Jvm.Cond.lays "StrokesHeard" "StrokesHeard" "parens" "I") ∈ lw_all := lw_g (lw_at lw_m1 239 rfl) rfl
theorem q321 : (Jvm.Cond.soleField "StrokesHeard" "parens") ∈ lw_all := lw_g (lw_at lw_m2 0 rfl) rfl
theorem q322 : (Jvm.Cond.lays "StrokesHeard" "StrokesHeard" "nots" "I") ∈ lw_all := lw_g (lw_at lw_m2 1 rfl) rfl
theorem q323 : (Jvm.Cond.soleField "StrokesHeard" "nots") ∈ lw_all := lw_g (lw_at lw_m2 2 rfl) rfl
theorem q324 : (Jvm.Cond.lays "StrokesHeard" "StrokesHeard" "wordMany" "I") ∈ lw_all := lw_g (lw_at lw_m2 3 rfl) rfl
theorem q325 : (Jvm.Cond.soleField "StrokesHeard" "wordMany") ∈ lw_all := lw_g (lw_at lw_m2 4 rfl) rfl
theorem q326 : (Jvm.Cond.lays "StrokesHeard" "StrokesHeard" "keyRead" "I") ∈ lw_all := lw_g (lw_at lw_m2 5 rfl) rfl
theorem q327 : (Jvm.Cond.soleField "StrokesHeard" "keyRead") ∈ lw_all := lw_g (lw_at lw_m2 6 rfl) rfl
theorem q328 : (Jvm.Cond.laysFinal "StrokesHeard" "StrokesHeard" "named" "[I") ∈ lw_all := lw_g (lw_at lw_m2 7 rfl) rfl
theorem q329 : (Jvm.Cond.soleField "StrokesHeard" "named") ∈ lw_all := lw_g (lw_at lw_m2 8 rfl) rfl
theorem q330 : (Jvm.Cond.laysFinal "StrokesHeard" "StrokesHeard" "totals" "[I") ∈ lw_all := lw_g (lw_at lw_m2 9 rfl) rfl
theorem q331 : (Jvm.Cond.soleField "StrokesHeard" "totals") ∈ lw_all := lw_g (lw_at lw_m2 10 rfl) rfl
theorem q332 : (Jvm.Cond.lays "StrokesHeard" "StrokesHeard" "fitting" "I") ∈ lw_all := lw_g (lw_at lw_m2 11 rfl) rfl
theorem q333 : (Jvm.Cond.soleField "StrokesHeard" "fitting") ∈ lw_all := lw_g (lw_at lw_m2 12 rfl) rfl
theorem q334 : (Jvm.Cond.lays "StrokesHeard" "StrokesHeard" "hours" "I") ∈ lw_all := lw_g (lw_at lw_m2 13 rfl) rfl
theorem q335 : (Jvm.Cond.soleField "StrokesHeard" "hours") ∈ lw_all := lw_g (lw_at lw_m2 14 rfl) rfl
theorem q336 : (Jvm.Cond.lays "StrokesHeard" "StrokesHeard" "firstFit" "I") ∈ lw_all := lw_g (lw_at lw_m2 15 rfl) rfl
theorem q337 : (Jvm.Cond.soleField "StrokesHeard" "firstFit") ∈ lw_all := lw_g (lw_at lw_m2 16 rfl) rfl
theorem q338 : (Jvm.Cond.laysFinal "StrokesHeard" "StrokesHeard" "sheets" "[LStrokesHeard$Sheet;") ∈ lw_all := lw_g (lw_at lw_m2 17 rfl) rfl
theorem q339 : (Jvm.Cond.soleField "StrokesHeard" "sheets") ∈ lw_all := lw_g (lw_at lw_m2 18 rfl) rfl
theorem q340 : (Jvm.Cond.laysFinal "StrokesHeard" "StrokesHeard" "slots" "[LStrokesHeard$Slot;") ∈ lw_all := lw_g (lw_at lw_m2 19 rfl) rfl
theorem q341 : (Jvm.Cond.soleField "StrokesHeard" "slots") ∈ lw_all := lw_g (lw_at lw_m2 20 rfl) rfl
theorem q342 : (Jvm.Cond.laysFinal "StrokesHeard" "StrokesHeard" "carried" "[F") ∈ lw_all := lw_g (lw_at lw_m2 21 rfl) rfl
theorem q343 : (Jvm.Cond.soleField "StrokesHeard" "carried") ∈ lw_all := lw_g (lw_at lw_m2 22 rfl) rfl
theorem q344 : (Jvm.Cond.laysFinal "StrokesHeard" "StrokesHeard" "waits" "[I") ∈ lw_all := lw_g (lw_at lw_m2 23 rfl) rfl
theorem q345 : (Jvm.Cond.soleField "StrokesHeard" "waits") ∈ lw_all := lw_g (lw_at lw_m2 24 rfl) rfl
theorem q346 : (Jvm.Cond.lays "StrokesHeard" "StrokesHeard" "waitMany" "I") ∈ lw_all := lw_g (lw_at lw_m2 25 rfl) rfl
theorem q347 : (Jvm.Cond.soleField "StrokesHeard" "waitMany") ∈ lw_all := lw_g (lw_at lw_m2 26 rfl) rfl
theorem q348 : (Jvm.Cond.laysFinal "StrokesHeard" "StrokesHeard" "rows" "[I") ∈ lw_all := lw_g (lw_at lw_m2 27 rfl) rfl
theorem q349 : (Jvm.Cond.soleField "StrokesHeard" "rows") ∈ lw_all := lw_g (lw_at lw_m2 28 rfl) rfl
theorem q350 : (Jvm.Cond.superclass "StrokesHeard" "java/lang/Object") ∈ lw_all := lw_g (lw_at lw_m2 29 rfl) rfl
theorem q353 : (Jvm.Cond.instanceMethod ({ cls := "StrokesHeard", name := "feed", desc := "(III)I" } : Jvm.MethodName)) ∈ lw_all := lw_g (lw_at lw_m2 32 rfl) rfl
theorem q354 : (Jvm.Cond.selects "StrokesHeard" ({ cls := "StrokesHeard", name := "feed", desc := "(III)I" } : Jvm.MethodName) ({ cls := "StrokesHeard", name := "feed", desc := "(III)I" } : Jvm.MethodName)) ∈ lw_all := lw_g (lw_at lw_m2 33 rfl) rfl
theorem q355 : (Jvm.Cond.code ({ cls := "StrokesHeard", name := "feed", desc := "(III)I" } : Jvm.MethodName) prog_1_method_10_code (4 : Nat) (Option.some Jvm.ClassFile.FieldType.int)) ∈ lw_all := lw_g (lw_at lw_m2 34 rfl) rfl
theorem q356 : (Jvm.Cond.constant "StrokesHeard" (128 : Nat) (-1000000003 : Int32)) ∈ lw_all := lw_g (lw_at lw_m2 35 rfl) rfl
theorem q357 : (Jvm.Cond.methodLink "StrokesHeard" (129 : Nat) ({ cls := "StrokesHeard", name := "four", desc := "(I)V" } : Jvm.MethodName)) ∈ lw_all := lw_g (lw_at lw_m2 36 rfl) rfl
theorem q358 : (Jvm.Cond.privateMethod ({ cls := "StrokesHeard", name := "four", desc := "(I)V" } : Jvm.MethodName)) ∈ lw_tbl := lw_at lw_m2 37 rfl
theorem q359 : (Jvm.Cond.instanceMethod ({ cls := "StrokesHeard", name := "four", desc := "(I)V" } : Jvm.MethodName)) ∈ lw_all := lw_g (lw_at lw_m2 38 rfl) rfl
theorem q360 : (Jvm.Cond.code ({ cls := "StrokesHeard", name := "four", desc := "(I)V" } : Jvm.MethodName) prog_1_method_11_code (3 : Nat) (Option.none : Option Jvm.ClassFile.FieldType)) ∈ lw_all := lw_g (lw_at lw_m2 39 rfl) rfl
theorem q362 : (Jvm.Cond.instanceMethod ({ cls := "StrokesHeard", name := "trim", desc := "(I)I" } : Jvm.MethodName)) ∈ lw_all := lw_g (lw_at lw_m2 41 rfl) rfl
theorem q363 : (Jvm.Cond.selects "StrokesHeard" ({ cls := "StrokesHeard", name := "trim", desc := "(I)I" } : Jvm.MethodName) ({ cls := "StrokesHeard", name := "trim", desc := "(I)I" } : Jvm.MethodName)) ∈ lw_all := lw_g (lw_at lw_m2 42 rfl) rfl
theorem q364 : (Jvm.Cond.code ({ cls := "StrokesHeard", name := "trim", desc := "(I)I" } : Jvm.MethodName) prog_1_method_12_code (2 : Nat) (Option.some Jvm.ClassFile.FieldType.int)) ∈ lw_all := lw_g (lw_at lw_m2 43 rfl) rfl
theorem q365 : (Jvm.Cond.methodLink "StrokesHeard" (108 : Nat) ({ cls := "StrokesHeard", name := "isIn", desc := "(III)Z" } : Jvm.MethodName)) ∈ lw_all := lw_g (lw_at lw_m2 44 rfl) rfl
theorem q366 : (Jvm.Cond.static ({ cls := "StrokesHeard", name := "isIn", desc := "(III)Z" } : Jvm.MethodName)) ∈ lw_all := lw_g (lw_at lw_m2 45 rfl) rfl
theorem q367 : (Jvm.Cond.code ({ cls := "StrokesHeard", name := "isIn", desc := "(III)Z" } : Jvm.MethodName) prog_1_method_1_code (3 : Nat) (Option.some Jvm.ClassFile.FieldType.boolean)) ∈ lw_all := lw_g (lw_at lw_m2 46 rfl) rfl
theorem q368 : (Jvm.Cond.constant "StrokesHeard" (133 : Nat) (-1000000001 : Int32)) ∈ lw_all := lw_g (lw_at lw_m2 47 rfl) rfl
theorem q370 : (Jvm.Cond.instanceMethod ({ cls := "StrokesHeard", name := "text", desc := "()I" } : Jvm.MethodName)) ∈ lw_all := lw_g (lw_at lw_m2 49 rfl) rfl
theorem q371 : (Jvm.Cond.selects "StrokesHeard" ({ cls := "StrokesHeard", name := "text", desc := "()I" } : Jvm.MethodName) ({ cls := "StrokesHeard", name := "text", desc := "()I" } : Jvm.MethodName)) ∈ lw_all := lw_g (lw_at lw_m2 50 rfl) rfl
theorem q372 : (Jvm.Cond.codeWith ({ cls := "StrokesHeard", name := "text", desc := "()I" } : Jvm.MethodName) prog_1_method_30_code (4 : Nat) (Option.some Jvm.ClassFile.FieldType.int) [((0 : Nat), (20 : Nat), (73 : Nat), (67 : Nat)), ((27 : Nat), (66 : Nat), (73 : Nat), (67 : Nat)), ((0 : Nat), (20 : Nat), (89 : Nat), (0 : Nat)), ((27 : Nat), (66 : Nat), (89 : Nat), (0 : Nat)), ((73 : Nat), (82 : Nat), (89 : Nat), (0 : Nat))]) ∈ lw_all := lw_g (lw_at lw_m2 51 rfl) rfl
theorem q373 : (Jvm.Cond.methodLink "StrokesHeard" (236 : Nat) ({ cls := "StrokesHeard", name := "textRead", desc := "()LStrokesHeard$Text;" } : Jvm.MethodName)) ∈ lw_all := lw_g (lw_at lw_m2 52 rfl) rfl
theorem q374 : (Jvm.Cond.privateMethod ({ cls := "StrokesHeard", name := "textRead", desc := "()LStrokesHeard$Text;" } : Jvm.MethodName)) ∈ lw_tbl := lw_at lw_m2 53 rfl
theorem q375 : (Jvm.Cond.instanceMethod ({ cls := "StrokesHeard", name := "textRead", desc := "()LStrokesHeard$Text;" } : Jvm.MethodName)) ∈ lw_all := lw_g (lw_at lw_m2 54 rfl) rfl
theorem q376 : (Jvm.Cond.code ({ cls := "StrokesHeard", name := "textRead", desc := "()LStrokesHeard$Text;" } : Jvm.MethodName) prog_1_method_29_code (2 : Nat) (Option.some (Jvm.ClassFile.FieldType.object "StrokesHeard$Text"))) ∈ lw_all := lw_g (lw_at lw_m2 55 rfl) rfl
theorem q377 : (Jvm.Cond.methodLink "StrokesHeard" (166 : Nat) ({ cls := "StrokesHeard", name := "goes", desc := "()V" } : Jvm.MethodName)) ∈ lw_all := lw_g (lw_at lw_m2 56 rfl) rfl
theorem q378 : (Jvm.Cond.privateMethod ({ cls := "StrokesHeard", name := "goes", desc := "()V" } : Jvm.MethodName)) ∈ lw_tbl := lw_at lw_m2 57 rfl
theorem q379 : (Jvm.Cond.instanceMethod ({ cls := "StrokesHeard", name := "goes", desc := "()V" } : Jvm.MethodName)) ∈ lw_all := lw_g (lw_at lw_m2 58 rfl) rfl
theorem q380 : (Jvm.Cond.code ({ cls := "StrokesHeard", name := "goes", desc := "()V" } : Jvm.MethodName) prog_1_method_16_code (5 : Nat) (Option.none : Option Jvm.ClassFile.FieldType)) ∈ lw_all := lw_g (lw_at lw_m2 59 rfl) rfl
theorem q381 : (Jvm.Cond.methodLink "StrokesHeard" (146 : Nat) ({ cls := "StrokesHeard", name := "isLetter", desc := "(I)Z" } : Jvm.MethodName)) ∈ lw_all := lw_g (lw_at lw_m2 60 rfl) rfl
theorem q382 : (Jvm.Cond.static ({ cls := "StrokesHeard", name := "isLetter", desc := "(I)Z" } : Jvm.MethodName)) ∈ lw_all := lw_g (lw_at lw_m2 61 rfl) rfl
theorem q383 : (Jvm.Cond.code ({ cls := "StrokesHeard", name := "isLetter", desc := "(I)Z" } : Jvm.MethodName) prog_1_method_14_code (1 : Nat) (Option.some Jvm.ClassFile.FieldType.boolean)) ∈ lw_all := lw_g (lw_at lw_m2 62 rfl) rfl
theorem q384 : (Jvm.Cond.methodLink "StrokesHeard" (150 : Nat) ({ cls := "StrokesHeard", name := "isDigit", desc := "(I)Z" } : Jvm.MethodName)) ∈ lw_all := lw_g (lw_at lw_m2 63 rfl) rfl
theorem q385 : (Jvm.Cond.static ({ cls := "StrokesHeard", name := "isDigit", desc := "(I)Z" } : Jvm.MethodName)) ∈ lw_all := lw_g (lw_at lw_m2 64 rfl) rfl
theorem q386 : (Jvm.Cond.code ({ cls := "StrokesHeard", name := "isDigit", desc := "(I)Z" } : Jvm.MethodName) prog_1_method_15_code (1 : Nat) (Option.some Jvm.ClassFile.FieldType.boolean)) ∈ lw_all := lw_g (lw_at lw_m2 65 rfl) rfl
theorem q387 : (Jvm.Cond.methodLink "StrokesHeard" (153 : Nat) ({ cls := "StrokesHeard", name := "wrong", desc := "()V" } : Jvm.MethodName)) ∈ lw_all := lw_g (lw_at lw_m2 66 rfl) rfl
theorem q388 : (Jvm.Cond.privateMethod ({ cls := "StrokesHeard", name := "wrong", desc := "()V" } : Jvm.MethodName)) ∈ lw_tbl := lw_at lw_m2 67 rfl
theorem q389 : (Jvm.Cond.instanceMethod ({ cls := "StrokesHeard", name := "wrong", desc := "()V" } : Jvm.MethodName)) ∈ lw_all := lw_g (lw_at lw_m2 68 rfl) rfl
theorem q390 : (Jvm.Cond.code ({ cls := "StrokesHeard", name := "wrong", desc := "()V" } : Jvm.MethodName) prog_1_method_13_code (1 : Nat) (Option.none : Option Jvm.ClassFile.FieldType)) ∈ lw_all := lw_g (lw_at lw_m2 69 rfl) rfl
theorem q391 : (Jvm.Cond.methodLink "StrokesHeard" (224 : Nat) ({ cls := "StrokesHeard", name := "key", desc := "()I" } : Jvm.MethodName)) ∈ lw_all := lw_g (lw_at lw_m2 70 rfl) rfl
theorem q392 : (Jvm.Cond.privateMethod ({ cls := "StrokesHeard", name := "key", desc := "()I" } : Jvm.MethodName)) ∈ lw_tbl := lw_at lw_m2 71 rfl
theorem q393 : (Jvm.Cond.instanceMethod ({ cls := "StrokesHeard", name := "key", desc := "()I" } : Jvm.MethodName)) ∈ lw_all := lw_g (lw_at lw_m2 72 rfl) rfl
theorem q394 : (Jvm.Cond.code ({ cls := "StrokesHeard", name := "key", desc := "()I" } : Jvm.MethodName) prog_1_method_28_code (2 : Nat) (Option.some Jvm.ClassFile.FieldType.int)) ∈ lw_all := lw_g (lw_at lw_m2 73 rfl) rfl
theorem q395 : (Jvm.Cond.stringRef "StrokesHeard" (214 : Nat) "again") ∈ lw_tbl := lw_at lw_m2 74 rfl
theorem q396 : (Jvm.Cond.methodLink "StrokesHeard" (216 : Nat) ({ cls := "StrokesHeard", name := "isWord", desc := "(Ljava/lang/String;)Z" } : Jvm.MethodName)) ∈ lw_all := lw_g (lw_at lw_m2 75 rfl) rfl
theorem q397 : (Jvm.Cond.privateMethod ({ cls := "StrokesHeard", name := "isWord", desc := "(Ljava/lang/String;)Z" } : Jvm.MethodName)) ∈ lw_tbl := lw_at lw_m2 76 rfl
theorem q398 : (Jvm.Cond.instanceMethod ({ cls := "StrokesHeard", name := "isWord", desc := "(Ljava/lang/String;)Z" } : Jvm.MethodName)) ∈ lw_all := lw_g (lw_at lw_m2 77 rfl) rfl
theorem q399 : (Jvm.Cond.code ({ cls := "StrokesHeard", name := "isWord", desc := "(Ljava/lang/String;)Z" } : Jvm.MethodName) prog_1_method_17_code (4 : Nat) (Option.some Jvm.ClassFile.FieldType.boolean)) ∈ lw_all := lw_g (lw_at lw_m2 78 rfl) rfl
theorem q400 : (Jvm.Cond.methodLink "StrokesHeard" (156 : Nat) ({ cls := "java/lang/String", name := "length", desc := "()I" } : Jvm.MethodName)) ∈ lw_all := lw_g (lw_at lw_m2 79 rfl) rfl
theorem q410 : (Jvm.Cond.methodLink "StrokesHeard" (162 : Nat) ({ cls := "java/lang/String", name := "charAt", desc := "(I)C" } : Jvm.MethodName)) ∈ lw_all := lw_g (lw_at lw_m2 89 rfl) rfl
theorem q448 : (Jvm.Cond.stringRef "StrokesHeard" (220 : Nat) "fee") ∈ lw_tbl := lw_at lw_m2 127 rfl
theorem q449 : (Jvm.Cond.stringRef "StrokesHeard" (222 : Nat) "fine") ∈ lw_tbl := lw_at lw_m2 128 rfl
theorem q450 : (Jvm.Cond.methodLink "StrokesHeard" (227 : Nat) ({ cls := "StrokesHeard", name := "expression", desc := "()LStrokesHeard$Words;" } : Jvm.MethodName)) ∈ lw_all := lw_g (lw_at lw_m2 129 rfl) rfl
theorem q451 : (Jvm.Cond.privateMethod ({ cls := "StrokesHeard", name := "expression", desc := "()LStrokesHeard$Words;" } : Jvm.MethodName)) ∈ lw_tbl := lw_at lw_m2 130 rfl
theorem q452 : (Jvm.Cond.instanceMethod ({ cls := "StrokesHeard", name := "expression", desc := "()LStrokesHeard$Words;" } : Jvm.MethodName)) ∈ lw_all := lw_g (lw_at lw_m2 131 rfl) rfl
theorem q453 : (Jvm.Cond.code ({ cls := "StrokesHeard", name := "expression", desc := "()LStrokesHeard$Words;" } : Jvm.MethodName) prog_1_method_20_code (2 : Nat) (Option.some (Jvm.ClassFile.FieldType.object "StrokesHeard$Words"))) ∈ lw_all := lw_g (lw_at lw_m2 132 rfl) rfl
theorem q454 : (Jvm.Cond.classLink "StrokesHeard" (113 : Nat) "StrokesHeard$Words") ∈ lw_all := lw_g (lw_at lw_m2 133 rfl) rfl
theorem q456 : (Jvm.Cond.methodLinkNest "StrokesHeard" (169 : Nat) ({ cls := "StrokesHeard$Words", name := "<init>", desc := "()V" } : Jvm.MethodName) "StrokesHeard") ∈ lw_tbl := lw_at lw_m2 135 rfl
theorem q461 : (Jvm.Cond.fieldLinkNest "StrokesHeard" (115 : Nat) "StrokesHeard$Words" "word" "[I" "StrokesHeard") ∈ lw_tbl := lw_at lw_m2 140 rfl
theorem q463 : (Jvm.Cond.fieldLinkNest "StrokesHeard" (118 : Nat) "StrokesHeard$Words" "value" "[I" "StrokesHeard") ∈ lw_tbl := lw_at lw_m2 142 rfl
theorem q465 : (Jvm.Cond.fieldLinkNest "StrokesHeard" (112 : Nat) "StrokesHeard$Words" "many" "I" "StrokesHeard") ∈ lw_tbl := lw_at lw_m2 144 rfl
theorem q473 : (Jvm.Cond.methodLink "StrokesHeard" (170 : Nat) ({ cls := "StrokesHeard", name := "or", desc := "(LStrokesHeard$Words;)V" } : Jvm.MethodName)) ∈ lw_all := lw_g (lw_at lw_m2 152 rfl) rfl
theorem q474 : (Jvm.Cond.privateMethod ({ cls := "StrokesHeard", name := "or", desc := "(LStrokesHeard$Words;)V" } : Jvm.MethodName)) ∈ lw_tbl := lw_at lw_m2 153 rfl
theorem q475 : (Jvm.Cond.instanceMethod ({ cls := "StrokesHeard", name := "or", desc := "(LStrokesHeard$Words;)V" } : Jvm.MethodName)) ∈ lw_all := lw_g (lw_at lw_m2 154 rfl) rfl
theorem q476 : (Jvm.Cond.code ({ cls := "StrokesHeard", name := "or", desc := "(LStrokesHeard$Words;)V" } : Jvm.MethodName) prog_1_method_21_code (2 : Nat) (Option.none : Option Jvm.ClassFile.FieldType)) ∈ lw_all := lw_g (lw_at lw_m2 155 rfl) rfl
theorem q477 : (Jvm.Cond.methodLink "StrokesHeard" (174 : Nat) ({ cls := "StrokesHeard", name := "and", desc := "(LStrokesHeard$Words;)V" } : Jvm.MethodName)) ∈ lw_all := lw_g (lw_at lw_m2 156 rfl) rfl
theorem q478 : (Jvm.Cond.privateMethod ({ cls := "StrokesHeard", name := "and", desc := "(LStrokesHeard$Words;)V" } : Jvm.MethodName)) ∈ lw_tbl := lw_at lw_m2 157 rfl
theorem q479 : (Jvm.Cond.instanceMethod ({ cls := "StrokesHeard", name := "and", desc := "(LStrokesHeard$Words;)V" } : Jvm.MethodName)) ∈ lw_all := lw_g (lw_at lw_m2 158 rfl) rfl
theorem q480 : (Jvm.Cond.code ({ cls := "StrokesHeard", name := "and", desc := "(LStrokesHeard$Words;)V" } : Jvm.MethodName) prog_1_method_22_code (2 : Nat) (Option.none : Option Jvm.ClassFile.FieldType)) ∈ lw_all := lw_g (lw_at lw_m2 159 rfl) rfl
theorem q481 : (Jvm.Cond.methodLink "StrokesHeard" (184 : Nat) ({ cls := "StrokesHeard", name := "test", desc := "(LStrokesHeard$Words;)V" } : Jvm.MethodName)) ∈ lw_all := lw_g (lw_at lw_m2 160 rfl) rfl
theorem q482 : (Jvm.Cond.privateMethod ({ cls := "StrokesHeard", name := "test", desc := "(LStrokesHeard$Words;)V" } : Jvm.MethodName)) ∈ lw_tbl := lw_at lw_m2 161 rfl
theorem q483 : (Jvm.Cond.instanceMethod ({ cls := "StrokesHeard", name := "test", desc := "(LStrokesHeard$Words;)V" } : Jvm.MethodName)) ∈ lw_all := lw_g (lw_at lw_m2 162 rfl) rfl
theorem q484 : (Jvm.Cond.code ({ cls := "StrokesHeard", name := "test", desc := "(LStrokesHeard$Words;)V" } : Jvm.MethodName) prog_1_method_23_code (3 : Nat) (Option.none : Option Jvm.ClassFile.FieldType)) ∈ lw_all := lw_g (lw_at lw_m2 163 rfl) rfl
theorem q485 : (Jvm.Cond.methodLink "StrokesHeard" (187 : Nat) ({ cls := "StrokesHeard", name := "sum", desc := "(LStrokesHeard$Words;)V" } : Jvm.MethodName)) ∈ lw_all := lw_g (lw_at lw_m2 164 rfl) rfl
theorem q486 : (Jvm.Cond.privateMethod ({ cls := "StrokesHeard", name := "sum", desc := "(LStrokesHeard$Words;)V" } : Jvm.MethodName)) ∈ lw_tbl := lw_at lw_m2 165 rfl
theorem q487 : (Jvm.Cond.instanceMethod ({ cls := "StrokesHeard", name := "sum", desc := "(LStrokesHeard$Words;)V" } : Jvm.MethodName)) ∈ lw_all := lw_g (lw_at lw_m2 166 rfl) rfl
theorem q488 : (Jvm.Cond.code ({ cls := "StrokesHeard", name := "sum", desc := "(LStrokesHeard$Words;)V" } : Jvm.MethodName) prog_1_method_24_code (3 : Nat) (Option.none : Option Jvm.ClassFile.FieldType)) ∈ lw_all := lw_g (lw_at lw_m2 167 rfl) rfl
theorem q489 : (Jvm.Cond.methodLink "StrokesHeard" (190 : Nat) ({ cls := "StrokesHeard", name := "term", desc := "(LStrokesHeard$Words;)V" } : Jvm.MethodName)) ∈ lw_all := lw_g (lw_at lw_m2 168 rfl) rfl
theorem q490 : (Jvm.Cond.privateMethod ({ cls := "StrokesHeard", name := "term", desc := "(LStrokesHeard$Words;)V" } : Jvm.MethodName)) ∈ lw_tbl := lw_at lw_m2 169 rfl
theorem q491 : (Jvm.Cond.instanceMethod ({ cls := "StrokesHeard", name := "term", desc := "(LStrokesHeard$Words;)V" } : Jvm.MethodName)) ∈ lw_all := lw_g (lw_at lw_m2 170 rfl) rfl
theorem q492 : (Jvm.Cond.code ({ cls := "StrokesHeard", name := "term", desc := "(LStrokesHeard$Words;)V" } : Jvm.MethodName) prog_1_method_25_code (3 : Nat) (Option.none : Option Jvm.ClassFile.FieldType)) ∈ lw_all := lw_g (lw_at lw_m2 171 rfl) rfl
theorem q493 : (Jvm.Cond.methodLink "StrokesHeard" (193 : Nat) ({ cls := "StrokesHeard", name := "piece", desc := "(LStrokesHeard$Words;)V" } : Jvm.MethodName)) ∈ lw_all := lw_g (lw_at lw_m2 172 rfl) rfl
theorem q494 : (Jvm.Cond.privateMethod ({ cls := "StrokesHeard", name := "piece", desc := "(LStrokesHeard$Words;)V" } : Jvm.MethodName)) ∈ lw_tbl := lw_at lw_m2 173 rfl
theorem q495 : (Jvm.Cond.instanceMethod ({ cls := "StrokesHeard", name := "piece", desc := "(LStrokesHeard$Words;)V" } : Jvm.MethodName)) ∈ lw_all := lw_g (lw_at lw_m2 174 rfl) rfl
theorem q496 : (Jvm.Cond.code ({ cls := "StrokesHeard", name := "piece", desc := "(LStrokesHeard$Words;)V" } : Jvm.MethodName) prog_1_method_27_code (2 : Nat) (Option.none : Option Jvm.ClassFile.FieldType)) ∈ lw_all := lw_g (lw_at lw_m2 175 rfl) rfl
theorem q497 : (Jvm.Cond.methodLink "StrokesHeard" (177 : Nat) ({ cls := "StrokesHeard", name := "isSign", desc := "(I)Z" } : Jvm.MethodName)) ∈ lw_all := lw_g (lw_at lw_m2 176 rfl) rfl
theorem q498 : (Jvm.Cond.privateMethod ({ cls := "StrokesHeard", name := "isSign", desc := "(I)Z" } : Jvm.MethodName)) ∈ lw_tbl := lw_at lw_m2 177 rfl
theorem q499 : (Jvm.Cond.instanceMethod ({ cls := "StrokesHeard", name := "isSign", desc := "(I)Z" } : Jvm.MethodName)) ∈ lw_all := lw_g (lw_at lw_m2 178 rfl) rfl
theorem q500 : (Jvm.Cond.code ({ cls := "StrokesHeard", name := "isSign", desc := "(I)Z" } : Jvm.MethodName) prog_1_method_18_code (2 : Nat) (Option.some Jvm.ClassFile.FieldType.boolean)) ∈ lw_all := lw_g (lw_at lw_m2 179 rfl) rfl
theorem q501 : (Jvm.Cond.methodLink "StrokesHeard" (180 : Nat) ({ cls := "StrokesHeard$Words", name := "add", desc := "(II)V" } : Jvm.MethodName)) ∈ lw_all := lw_g (lw_at lw_m2 180 rfl) rfl
theorem q505 : (Jvm.Cond.methodLink "StrokesHeard" (208 : Nat) ({ cls := "StrokesHeard", name := "number", desc := "()I" } : Jvm.MethodName)) ∈ lw_all := lw_g (lw_at lw_m2 184 rfl) rfl
theorem q506 : (Jvm.Cond.privateMethod ({ cls := "StrokesHeard", name := "number", desc := "()I" } : Jvm.MethodName)) ∈ lw_tbl := lw_at lw_m2 185 rfl
theorem q507 : (Jvm.Cond.instanceMethod ({ cls := "StrokesHeard", name := "number", desc := "()I" } : Jvm.MethodName)) ∈ lw_all := lw_g (lw_at lw_m2 186 rfl) rfl
theorem q508 : (Jvm.Cond.code ({ cls := "StrokesHeard", name := "number", desc := "()I" } : Jvm.MethodName) prog_1_method_19_code (3 : Nat) (Option.some Jvm.ClassFile.FieldType.int)) ∈ lw_all := lw_g (lw_at lw_m2 187 rfl) rfl
theorem q509 : (Jvm.Cond.methodLink "StrokesHeard" (211 : Nat) ({ cls := "StrokesHeard", name := "isName", desc := "(I)Z" } : Jvm.MethodName)) ∈ lw_all := lw_g (lw_at lw_m2 188 rfl) rfl
theorem q510 : (Jvm.Cond.privateMethod ({ cls := "StrokesHeard", name := "isName", desc := "(I)Z" } : Jvm.MethodName)) ∈ lw_tbl := lw_at lw_m2 189 rfl
theorem q511 : (Jvm.Cond.instanceMethod ({ cls := "StrokesHeard", name := "isName", desc := "(I)Z" } : Jvm.MethodName)) ∈ lw_all := lw_g (lw_at lw_m2 190 rfl) rfl
theorem q512 : (Jvm.Cond.code ({ cls := "StrokesHeard", name := "isName", desc := "(I)Z" } : Jvm.MethodName) prog_1_method_26_code (2 : Nat) (Option.some Jvm.ClassFile.FieldType.boolean)) ∈ lw_all := lw_g (lw_at lw_m2 191 rfl) rfl
theorem q513 : (Jvm.Cond.classLink "StrokesHeard" (231 : Nat) "StrokesHeard$Text") ∈ lw_all := lw_g (lw_at lw_m2 192 rfl) rfl
theorem q515 : (Jvm.Cond.methodLink "StrokesHeard" (233 : Nat) ({ cls := "StrokesHeard$Text", name := "<init>", desc := "(ILStrokesHeard$Words;I)V" } : Jvm.MethodName)) ∈ lw_all := lw_g (lw_at lw_m2 194 rfl) rfl
theorem q520 : (Jvm.Cond.fieldLinkNest "StrokesHeard" (247 : Nat) "StrokesHeard$Text" "key" "I" "StrokesHeard") ∈ lw_tbl := lw_at lw_m2 199 rfl
theorem q522 : (Jvm.Cond.fieldLinkNest "StrokesHeard" (278 : Nat) "StrokesHeard$Text" "words" "LStrokesHeard$Words;" "StrokesHeard") ∈ lw_tbl := lw_at lw_m2 201 rfl
theorem q524 : (Jvm.Cond.fieldLinkNest "StrokesHeard" (249 : Nat) "StrokesHeard$Text" "many" "I" "StrokesHeard") ∈ lw_tbl := lw_at lw_m2 203 rfl
theorem q533 : (Jvm.Cond.instanceMethod ({ cls := "StrokesHeard", name := "textTold", desc := "(II)I" } : Jvm.MethodName)) ∈ lw_all := lw_g (lw_at lw_m2 212 rfl) rfl
theorem q534 : (Jvm.Cond.selects "StrokesHeard" ({ cls := "StrokesHeard", name := "textTold", desc := "(II)I" } : Jvm.MethodName) ({ cls := "StrokesHeard", name := "textTold", desc := "(II)I" } : Jvm.MethodName)) ∈ lw_all := lw_g (lw_at lw_m2 213 rfl) rfl
theorem q535 : (Jvm.Cond.code ({ cls := "StrokesHeard", name := "textTold", desc := "(II)I" } : Jvm.MethodName) prog_1_method_31_code (3 : Nat) (Option.some Jvm.ClassFile.FieldType.int)) ∈ lw_all := lw_g (lw_at lw_m2 214 rfl) rfl
theorem q537 : (Jvm.Cond.instanceMethod ({ cls := "StrokesHeard", name := "why", desc := "(I)I" } : Jvm.MethodName)) ∈ lw_all := lw_g (lw_at lw_m2 216 rfl) rfl
theorem q538 : (Jvm.Cond.selects "StrokesHeard" ({ cls := "StrokesHeard", name := "why", desc := "(I)I" } : Jvm.MethodName) ({ cls := "StrokesHeard", name := "why", desc := "(I)I" } : Jvm.MethodName)) ∈ lw_all := lw_g (lw_at lw_m2 217 rfl) rfl
theorem q539 : (Jvm.Cond.code ({ cls := "StrokesHeard", name := "why", desc := "(I)I" } : Jvm.MethodName) prog_1_method_33_code (2 : Nat) (Option.some Jvm.ClassFile.FieldType.int)) ∈ lw_all := lw_g (lw_at lw_m2 218 rfl) rfl
theorem q540 : (Jvm.Cond.methodLink "StrokesHeard" (250 : Nat) ({ cls := "StrokesHeard", name := "counts", desc := "(I)I" } : Jvm.MethodName)) ∈ lw_all := lw_g (lw_at lw_m2 219 rfl) rfl
theorem q541 : (Jvm.Cond.privateMethod ({ cls := "StrokesHeard", name := "counts", desc := "(I)I" } : Jvm.MethodName)) ∈ lw_tbl := lw_at lw_m2 220 rfl
theorem q542 : (Jvm.Cond.instanceMethod ({ cls := "StrokesHeard", name := "counts", desc := "(I)I" } : Jvm.MethodName)) ∈ lw_all := lw_g (lw_at lw_m2 221 rfl) rfl
theorem q543 : (Jvm.Cond.code ({ cls := "StrokesHeard", name := "counts", desc := "(I)I" } : Jvm.MethodName) prog_1_method_32_code (4 : Nat) (Option.some Jvm.ClassFile.FieldType.int)) ∈ lw_all := lw_g (lw_at lw_m2 222 rfl) rfl
theorem q544 : (Jvm.Cond.methodLink "StrokesHeard" (254 : Nat) ({ cls := "StrokesHeard", name := "orNone", desc := "(I)I" } : Jvm.MethodName)) ∈ lw_all := lw_g (lw_at lw_m2 223 rfl) rfl
theorem q545 : (Jvm.Cond.static ({ cls := "StrokesHeard", name := "orNone", desc := "(I)I" } : Jvm.MethodName)) ∈ lw_all := lw_g (lw_at lw_m2 224 rfl) rfl
theorem q546 : (Jvm.Cond.code ({ cls := "StrokesHeard", name := "orNone", desc := "(I)I" } : Jvm.MethodName) prog_1_method_2_code (1 : Nat) (Option.some Jvm.ClassFile.FieldType.int)) ∈ lw_all := lw_g (lw_at lw_m2 225 rfl) rfl
theorem q547 : (Jvm.Cond.constant "StrokesHeard" (3 : Nat) (-1000000005 : Int32)) ∈ lw_all := lw_g (lw_at lw_m2 226 rfl) rfl
theorem q549 : (Jvm.Cond.instanceMethod ({ cls := "StrokesHeard", name := "clock", desc := "(III)I" } : Jvm.MethodName)) ∈ lw_all := lw_g (lw_at lw_m2 228 rfl) rfl
theorem q550 : (Jvm.Cond.selects "StrokesHeard" ({ cls := "StrokesHeard", name := "clock", desc := "(III)I" } : Jvm.MethodName) ({ cls := "StrokesHeard", name := "clock", desc := "(III)I" } : Jvm.MethodName)) ∈ lw_all := lw_g (lw_at lw_m2 229 rfl) rfl
theorem q551 : (Jvm.Cond.code ({ cls := "StrokesHeard", name := "clock", desc := "(III)I" } : Jvm.MethodName) prog_1_method_36_code (4 : Nat) (Option.some Jvm.ClassFile.FieldType.int)) ∈ lw_all := lw_g (lw_at lw_m2 230 rfl) rfl
theorem q552 : (Jvm.Cond.methodLink "StrokesHeard" (271 : Nat) ({ cls := "StrokesHeard", name := "isOf", desc := "(II)Z" } : Jvm.MethodName)) ∈ lw_all := lw_g (lw_at lw_m2 231 rfl) rfl
theorem q553 : (Jvm.Cond.static ({ cls := "StrokesHeard", name := "isOf", desc := "(II)Z" } : Jvm.MethodName)) ∈ lw_all := lw_g (lw_at lw_m2 232 rfl) rfl
theorem q554 : (Jvm.Cond.code ({ cls := "StrokesHeard", name := "isOf", desc := "(II)Z" } : Jvm.MethodName) prog_1_method_35_code (2 : Nat) (Option.some Jvm.ClassFile.FieldType.boolean)) ∈ lw_all := lw_g (lw_at lw_m2 233 rfl) rfl
theorem q555 : (Jvm.Cond.methodLink "StrokesHeard" (275 : Nat) ({ cls := "StrokesHeard", name := "comes", desc := "(III)I" } : Jvm.MethodName)) ∈ lw_all := lw_g (lw_at lw_m2 234 rfl) rfl
theorem q556 : (Jvm.Cond.privateMethod ({ cls := "StrokesHeard", name := "comes", desc := "(III)I" } : Jvm.MethodName)) ∈ lw_tbl := lw_at lw_m2 235 rfl
theorem q557 : (Jvm.Cond.instanceMethod ({ cls := "StrokesHeard", name := "comes", desc := "(III)I" } : Jvm.MethodName)) ∈ lw_all := lw_g (lw_at lw_m2 236 rfl) rfl
theorem q558 : (Jvm.Cond.code ({ cls := "StrokesHeard", name := "comes", desc := "(III)I" } : Jvm.MethodName) prog_1_method_34_code (6 : Nat) (Option.some Jvm.ClassFile.FieldType.int)) ∈ lw_all := lw_g (lw_at lw_m2 237 rfl) rfl
theorem q559 : (Jvm.Cond.methodLink "StrokesHeard" (257 : Nat) ({ cls := "StrokesHeard", name := "clockOf", desc := "(I)LStrokesHeard$Ringer;" } : Jvm.MethodName)) ∈ lw_all := lw_g (lw_at lw_m2 238 rfl) rfl
theorem q560 : (Jvm.Cond.static ({ cls := "StrokesHeard", name := "clockOf", desc := "(I)LStrokesHeard$Ringer;" } : Jvm.MethodName)) ∈ lw_all := lw_g (lw_at lw_m2 239 rfl) rfl
theorem q561 : (Jvm.Cond.code ({ cls := "StrokesHeard", name := "clockOf", desc := "(I)LStrokesHeard$Ringer;" } : Jvm.MethodName) prog_1_method_4_code (1 : Nat) (Option.some (Jvm.ClassFile.FieldType.object "StrokesHeard$Ringer"))) ∈ lw_all := lw_g (lw_at lw_m3 0 rfl) rfl
theorem q562 : (Jvm.Cond.classLink "StrokesHeard" (13 : Nat) "StrokesHeard$Quarters") ∈ lw_all := lw_g (lw_at lw_m3 1 rfl) rfl
theorem q564 : (Jvm.Cond.methodLinkNest "StrokesHeard" (15 : Nat) ({ cls := "StrokesHeard$Quarters", name := "<init>", desc := "()V" } : Jvm.MethodName) "StrokesHeard") ∈ lw_tbl := lw_at lw_m3 3 rfl
theorem q572 : (Jvm.Cond.fieldLink "StrokesHeard" (261 : Nat) "StrokesHeard$Ringer" "off" "I") ∈ lw_all := lw_g (lw_at lw_m3 11 rfl) rfl
theorem q574 : (Jvm.Cond.fieldLink "StrokesHeard" (264 : Nat) "StrokesHeard$Ringer" "tone" "I") ∈ lw_all := lw_g (lw_at lw_m3 13 rfl) rfl
theorem q580 : (Jvm.Cond.classLink "StrokesHeard" (19 : Nat) "StrokesHeard$Twice") ∈ lw_all := lw_g (lw_at lw_m3 19 rfl) rfl
theorem q582 : (Jvm.Cond.methodLinkNest "StrokesHeard" (21 : Nat) ({ cls := "StrokesHeard$Twice", name := "<init>", desc := "()V" } : Jvm.MethodName) "StrokesHeard") ∈ lw_tbl := lw_at lw_m3 21 rfl
theorem q589 : (Jvm.Cond.classLink "StrokesHeard" (22 : Nat) "StrokesHeard$Tune") ∈ lw_all := lw_g (lw_at lw_m3 28 rfl) rfl
theorem q591 : (Jvm.Cond.methodLinkNest "StrokesHeard" (24 : Nat) ({ cls := "StrokesHeard$Tune", name := "<init>", desc := "()V" } : Jvm.MethodName) "StrokesHeard") ∈ lw_tbl := lw_at lw_m3 30 rfl
theorem q598 : (Jvm.Cond.classLink "StrokesHeard" (25 : Nat) "StrokesHeard$Sign") ∈ lw_all := lw_g (lw_at lw_m3 37 rfl) rfl
theorem q600 : (Jvm.Cond.methodLinkNest "StrokesHeard" (27 : Nat) ({ cls := "StrokesHeard$Sign", name := "<init>", desc := "()V" } : Jvm.MethodName) "StrokesHeard") ∈ lw_tbl := lw_at lw_m3 39 rfl
theorem q607 : (Jvm.Cond.classLink "StrokesHeard" (28 : Nat) "StrokesHeard$Cuckoo") ∈ lw_all := lw_g (lw_at lw_m3 46 rfl) rfl
theorem q609 : (Jvm.Cond.methodLinkNest "StrokesHeard" (30 : Nat) ({ cls := "StrokesHeard$Cuckoo", name := "<init>", desc := "()V" } : Jvm.MethodName) "StrokesHeard") ∈ lw_tbl := lw_at lw_m3 48 rfl
theorem q616 : (Jvm.Cond.classLink "StrokesHeard" (31 : Nat) "StrokesHeard$Ringer") ∈ lw_all := lw_g (lw_at lw_m3 55 rfl) rfl
theorem q618 : (Jvm.Cond.methodLinkNest "StrokesHeard" (33 : Nat) ({ cls := "StrokesHeard$Ringer", name := "<init>", desc := "()V" } : Jvm.MethodName) "StrokesHeard") ∈ lw_tbl := lw_at lw_m3 57 rfl
theorem q623 : (Jvm.Cond.instanceMethod ({ cls := "StrokesHeard", name := "told", desc := "(II)I" } : Jvm.MethodName)) ∈ lw_all := lw_g (lw_at lw_m3 62 rfl) rfl
theorem q624 : (Jvm.Cond.selects "StrokesHeard" ({ cls := "StrokesHeard", name := "told", desc := "(II)I" } : Jvm.MethodName) ({ cls := "StrokesHeard", name := "told", desc := "(II)I" } : Jvm.MethodName)) ∈ lw_all := lw_g (lw_at lw_m3 63 rfl) rfl
theorem q625 : (Jvm.Cond.code ({ cls := "StrokesHeard", name := "told", desc := "(II)I" } : Jvm.MethodName) prog_1_method_41_code (4 : Nat) (Option.some Jvm.ClassFile.FieldType.int)) ∈ lw_all := lw_g (lw_at lw_m3 64 rfl) rfl
theorem q626 : (Jvm.Cond.methodLink "StrokesHeard" (305 : Nat) ({ cls := "StrokesHeard", name := "isClock", desc := "(I)Z" } : Jvm.MethodName)) ∈ lw_all := lw_g (lw_at lw_m3 65 rfl) rfl
theorem q627 : (Jvm.Cond.privateMethod ({ cls := "StrokesHeard", name := "isClock", desc := "(I)Z" } : Jvm.MethodName)) ∈ lw_tbl := lw_at lw_m3 66 rfl
theorem q628 : (Jvm.Cond.instanceMethod ({ cls := "StrokesHeard", name := "isClock", desc := "(I)Z" } : Jvm.MethodName)) ∈ lw_all := lw_g (lw_at lw_m3 67 rfl) rfl
theorem q629 : (Jvm.Cond.code ({ cls := "StrokesHeard", name := "isClock", desc := "(I)Z" } : Jvm.MethodName) prog_1_method_7_code (2 : Nat) (Option.some Jvm.ClassFile.FieldType.boolean)) ∈ lw_all := lw_g (lw_at lw_m3 68 rfl) rfl
theorem q630 : (Jvm.Cond.methodLink "StrokesHeard" (308 : Nat) ({ cls := "StrokesHeard$Ringer", name := "kind", desc := "()I" } : Jvm.MethodName)) ∈ lw_all := lw_g (lw_at lw_m3 69 rfl) rfl
theorem q652 : (Jvm.Cond.methodLink "StrokesHeard" (311 : Nat) ({ cls := "StrokesHeard", name := "timeNow", desc := "()I" } : Jvm.MethodName)) ∈ lw_all := lw_g (lw_at lw_m3 91 rfl) rfl
theorem q653 : (Jvm.Cond.privateMethod ({ cls := "StrokesHeard", name := "timeNow", desc := "()I" } : Jvm.MethodName)) ∈ lw_tbl := lw_at lw_m3 92 rfl
theorem q654 : (Jvm.Cond.instanceMethod ({ cls := "StrokesHeard", name := "timeNow", desc := "()I" } : Jvm.MethodName)) ∈ lw_all := lw_g (lw_at lw_m3 93 rfl) rfl
theorem q655 : (Jvm.Cond.code ({ cls := "StrokesHeard", name := "timeNow", desc := "()I" } : Jvm.MethodName) prog_1_method_40_code (1 : Nat) (Option.some Jvm.ClassFile.FieldType.int)) ∈ lw_all := lw_g (lw_at lw_m3 94 rfl) rfl
theorem q656 : (Jvm.Cond.methodLink "StrokesHeard" (299 : Nat) ({ cls := "StrokesHeard", name := "strokesOf", desc := "(LStrokesHeard$Ringer;I)I" } : Jvm.MethodName)) ∈ lw_all := lw_g (lw_at lw_m3 95 rfl) rfl
theorem q657 : (Jvm.Cond.privateMethod ({ cls := "StrokesHeard", name := "strokesOf", desc := "(LStrokesHeard$Ringer;I)I" } : Jvm.MethodName)) ∈ lw_tbl := lw_at lw_m3 96 rfl
theorem q658 : (Jvm.Cond.instanceMethod ({ cls := "StrokesHeard", name := "strokesOf", desc := "(LStrokesHeard$Ringer;I)I" } : Jvm.MethodName)) ∈ lw_all := lw_g (lw_at lw_m3 97 rfl) rfl
theorem q659 : (Jvm.Cond.code ({ cls := "StrokesHeard", name := "strokesOf", desc := "(LStrokesHeard$Ringer;I)I" } : Jvm.MethodName) prog_1_method_38_code (5 : Nat) (Option.some Jvm.ClassFile.FieldType.int)) ∈ lw_all := lw_g (lw_at lw_m3 98 rfl) rfl
theorem q660 : (Jvm.Cond.methodLink "StrokesHeard" (289 : Nat) ({ cls := "java/lang/Math", name := "floorMod", desc := "(II)I" } : Jvm.MethodName)) ∈ lw_all := lw_g (lw_at lw_m3 99 rfl) rfl
theorem q663 : (Jvm.Cond.methodLink "StrokesHeard" (292 : Nat) ({ cls := "StrokesHeard", name := "againAt", desc := "(LStrokesHeard$Ringer;I)I" } : Jvm.MethodName)) ∈ lw_all := lw_g (lw_at lw_m3 102 rfl) rfl
theorem q664 : (Jvm.Cond.privateMethod ({ cls := "StrokesHeard", name := "againAt", desc := "(LStrokesHeard$Ringer;I)I" } : Jvm.MethodName)) ∈ lw_tbl := lw_at lw_m3 103 rfl
theorem q665 : (Jvm.Cond.instanceMethod ({ cls := "StrokesHeard", name := "againAt", desc := "(LStrokesHeard$Ringer;I)I" } : Jvm.MethodName)) ∈ lw_all := lw_g (lw_at lw_m3 104 rfl) rfl
theorem q666 : (Jvm.Cond.code ({ cls := "StrokesHeard", name := "againAt", desc := "(LStrokesHeard$Ringer;I)I" } : Jvm.MethodName) prog_1_method_37_code (4 : Nat) (Option.some Jvm.ClassFile.FieldType.int)) ∈ lw_all := lw_g (lw_at lw_m3 105 rfl) rfl
theorem q667 : (Jvm.Cond.methodLink "StrokesHeard" (282 : Nat) ({ cls := "StrokesHeard", name := "reckon", desc := "(LStrokesHeard$Words;)I" } : Jvm.MethodName)) ∈ lw_all := lw_g (lw_at lw_m3 106 rfl) rfl
theorem q668 : (Jvm.Cond.privateMethod ({ cls := "StrokesHeard", name := "reckon", desc := "(LStrokesHeard$Words;)I" } : Jvm.MethodName)) ∈ lw_tbl := lw_at lw_m3 107 rfl
theorem q669 : (Jvm.Cond.instanceMethod ({ cls := "StrokesHeard", name := "reckon", desc := "(LStrokesHeard$Words;)I" } : Jvm.MethodName)) ∈ lw_all := lw_g (lw_at lw_m3 108 rfl) rfl
theorem q670 : (Jvm.Cond.code ({ cls := "StrokesHeard", name := "reckon", desc := "(LStrokesHeard$Words;)I" } : Jvm.MethodName) prog_1_method_9_code (5 : Nat) (Option.some Jvm.ClassFile.FieldType.int)) ∈ lw_all := lw_g (lw_at lw_m3 109 rfl) rfl
theorem q671 : (Jvm.Cond.methodLink "StrokesHeard" (121 : Nat) ({ cls := "StrokesHeard", name := "both", desc := "(III)I" } : Jvm.MethodName)) ∈ lw_all := lw_g (lw_at lw_m3 110 rfl) rfl
theorem q672 : (Jvm.Cond.static ({ cls := "StrokesHeard", name := "both", desc := "(III)I" } : Jvm.MethodName)) ∈ lw_all := lw_g (lw_at lw_m3 111 rfl) rfl
theorem q673 : (Jvm.Cond.code ({ cls := "StrokesHeard", name := "both", desc := "(III)I" } : Jvm.MethodName) prog_1_method_8_code (3 : Nat) (Option.some Jvm.ClassFile.FieldType.int)) ∈ lw_all := lw_g (lw_at lw_m3 112 rfl) rfl
theorem q674 : (Jvm.Cond.methodLink "StrokesHeard" (286 : Nat) ({ cls := "StrokesHeard", name := "within", desc := "(III)I" } : Jvm.MethodName)) ∈ lw_all := lw_g (lw_at lw_m3 113 rfl) rfl
theorem q675 : (Jvm.Cond.static ({ cls := "StrokesHeard", name := "within", desc := "(III)I" } : Jvm.MethodName)) ∈ lw_all := lw_g (lw_at lw_m3 114 rfl) rfl
theorem q676 : (Jvm.Cond.code ({ cls := "StrokesHeard", name := "within", desc := "(III)I" } : Jvm.MethodName) prog_1_method_3_code (3 : Nat) (Option.some Jvm.ClassFile.FieldType.int)) ∈ lw_all := lw_g (lw_at lw_m3 115 rfl) rfl
theorem q677 : (Jvm.Cond.methodLink "StrokesHeard" (4 : Nat) ({ cls := "java/lang/Math", name := "min", desc := "(II)I" } : Jvm.MethodName)) ∈ lw_all := lw_g (lw_at lw_m3 116 rfl) rfl
theorem q680 : (Jvm.Cond.methodLink "StrokesHeard" (10 : Nat) ({ cls := "java/lang/Math", name := "max", desc := "(II)I" } : Jvm.MethodName)) ∈ lw_all := lw_g (lw_at lw_m3 119 rfl) rfl
theorem q683 : (Jvm.Cond.methodLink "StrokesHeard" (296 : Nat) ({ cls := "StrokesHeard$Ringer", name := "strokes", desc := "(II)I" } : Jvm.MethodName)) ∈ lw_all := lw_g (lw_at lw_m3 122 rfl) rfl
theorem q723 : (Jvm.Cond.methodLink "StrokesHeard" (314 : Nat) ({ cls := "StrokesHeard", name := "inAll", desc := "(LStrokesHeard$Ringer;)I" } : Jvm.MethodName)) ∈ lw_all := lw_g (lw_at lw_m3 162 rfl) rfl
theorem q724 : (Jvm.Cond.privateMethod ({ cls := "StrokesHeard", name := "inAll", desc := "(LStrokesHeard$Ringer;)I" } : Jvm.MethodName)) ∈ lw_tbl := lw_at lw_m3 163 rfl
theorem q725 : (Jvm.Cond.instanceMethod ({ cls := "StrokesHeard", name := "inAll", desc := "(LStrokesHeard$Ringer;)I" } : Jvm.MethodName)) ∈ lw_all := lw_g (lw_at lw_m3 164 rfl) rfl
theorem q726 : (Jvm.Cond.code ({ cls := "StrokesHeard", name := "inAll", desc := "(LStrokesHeard$Ringer;)I" } : Jvm.MethodName) prog_1_method_39_code (4 : Nat) (Option.some Jvm.ClassFile.FieldType.int)) ∈ lw_all := lw_g (lw_at lw_m3 165 rfl) rfl
theorem q727 : (Jvm.Cond.methodLink "StrokesHeard" (318 : Nat) ({ cls := "StrokesHeard$Ringer", name := "worth", desc := "()I" } : Jvm.MethodName)) ∈ lw_all := lw_g (lw_at lw_m3 166 rfl) rfl
theorem q752 : (Jvm.Cond.instanceMethod ({ cls := "StrokesHeard", name := "as", desc := "(II)I" } : Jvm.MethodName)) ∈ lw_all := lw_g (lw_at lw_m3 191 rfl) rfl
theorem q753 : (Jvm.Cond.selects "StrokesHeard" ({ cls := "StrokesHeard", name := "as", desc := "(II)I" } : Jvm.MethodName) ({ cls := "StrokesHeard", name := "as", desc := "(II)I" } : Jvm.MethodName)) ∈ lw_all := lw_g (lw_at lw_m3 192 rfl) rfl
theorem q754 : (Jvm.Cond.codeWith ({ cls := "StrokesHeard", name := "as", desc := "(II)I" } : Jvm.MethodName) prog_1_method_43_code (5 : Nat) (Option.some Jvm.ClassFile.FieldType.int) [((30 : Nat), (38 : Nat), (39 : Nat), (325 : Nat))]) ∈ lw_all := lw_g (lw_at lw_m3 193 rfl) rfl
theorem q755 : (Jvm.Cond.classLink "StrokesHeard" (325 : Nat) "java/lang/ClassCastException") ∈ lw_all := lw_g (lw_at lw_m3 194 rfl) rfl
theorem q782 : (Jvm.Cond.methodLink "StrokesHeard" (321 : Nat) ({ cls := "StrokesHeard", name := "takenFor", desc := "(Ljava/lang/Object;I)LStrokesHeard$Ringer;" } : Jvm.MethodName)) ∈ lw_all := lw_g (lw_at lw_m3 221 rfl) rfl
theorem q783 : (Jvm.Cond.static ({ cls := "StrokesHeard", name := "takenFor", desc := "(Ljava/lang/Object;I)LStrokesHeard$Ringer;" } : Jvm.MethodName)) ∈ lw_all := lw_g (lw_at lw_m3 222 rfl) rfl
theorem q784 : (Jvm.Cond.code ({ cls := "StrokesHeard", name := "takenFor", desc := "(Ljava/lang/Object;I)LStrokesHeard$Ringer;" } : Jvm.MethodName) prog_1_method_42_code (2 : Nat) (Option.some (Jvm.ClassFile.FieldType.object "StrokesHeard$Ringer"))) ∈ lw_all := lw_g (lw_at lw_m3 223 rfl) rfl
theorem q785 : (Jvm.Cond.constant "StrokesHeard" (327 : Nat) (-1000000012 : Int32)) ∈ lw_all := lw_g (lw_at lw_m3 224 rfl) rfl
theorem q787 : (Jvm.Cond.instanceMethod ({ cls := "StrokesHeard", name := "turns", desc := "(II)I" } : Jvm.MethodName)) ∈ lw_all := lw_g (lw_at lw_m3 226 rfl) rfl
theorem q788 : (Jvm.Cond.selects "StrokesHeard" ({ cls := "StrokesHeard", name := "turns", desc := "(II)I" } : Jvm.MethodName) ({ cls := "StrokesHeard", name := "turns", desc := "(II)I" } : Jvm.MethodName)) ∈ lw_all := lw_g (lw_at lw_m3 227 rfl) rfl
theorem q789 : (Jvm.Cond.code ({ cls := "StrokesHeard", name := "turns", desc := "(II)I" } : Jvm.MethodName) prog_1_method_44_code (4 : Nat) (Option.some Jvm.ClassFile.FieldType.int)) ∈ lw_all := lw_g (lw_at lw_m3 228 rfl) rfl
theorem q790 : (Jvm.Cond.methodLink "StrokesHeard" (328 : Nat) ({ cls := "StrokesHeard$Ringer", name := "takes", desc := "(LStrokesHeard$Ringer;)V" } : Jvm.MethodName)) ∈ lw_all := lw_g (lw_at lw_m3 229 rfl) rfl
theorem q801 : (Jvm.Cond.instanceMethod ({ cls := "StrokesHeard", name := "set", desc := "(III)I" } : Jvm.MethodName)) ∈ lw_all := lw_g (lw_at lw_m4 0 rfl) rfl
theorem q802 : (Jvm.Cond.selects "StrokesHeard" ({ cls := "StrokesHeard", name := "set", desc := "(III)I" } : Jvm.MethodName) ({ cls := "StrokesHeard", name := "set", desc := "(III)I" } : Jvm.MethodName)) ∈ lw_all := lw_g (lw_at lw_m4 1 rfl) rfl
theorem q803 : (Jvm.Cond.code ({ cls := "StrokesHeard", name := "set", desc := "(III)I" } : Jvm.MethodName) prog_1_method_46_code (4 : Nat) (Option.some Jvm.ClassFile.FieldType.int)) ∈ lw_all := lw_g (lw_at lw_m4 2 rfl) rfl
theorem q804 : (Jvm.Cond.methodLink "StrokesHeard" (332 : Nat) ({ cls := "StrokesHeard", name := "becomes", desc := "(LStrokesHeard$Ringer;II)I" } : Jvm.MethodName)) ∈ lw_all := lw_g (lw_at lw_m4 3 rfl) rfl
theorem q805 : (Jvm.Cond.static ({ cls := "StrokesHeard", name := "becomes", desc := "(LStrokesHeard$Ringer;II)I" } : Jvm.MethodName)) ∈ lw_all := lw_g (lw_at lw_m4 4 rfl) rfl
theorem q806 : (Jvm.Cond.code ({ cls := "StrokesHeard", name := "becomes", desc := "(LStrokesHeard$Ringer;II)I" } : Jvm.MethodName) prog_1_method_45_code (4 : Nat) (Option.some Jvm.ClassFile.FieldType.int)) ∈ lw_all := lw_g (lw_at lw_m4 5 rfl) rfl
theorem q808 : (Jvm.Cond.instanceMethod ({ cls := "StrokesHeard", name := "strokes", desc := "(II)I" } : Jvm.MethodName)) ∈ lw_all := lw_g (lw_at lw_m4 7 rfl) rfl
theorem q809 : (Jvm.Cond.selects "StrokesHeard" ({ cls := "StrokesHeard", name := "strokes", desc := "(II)I" } : Jvm.MethodName) ({ cls := "StrokesHeard", name := "strokes", desc := "(II)I" } : Jvm.MethodName)) ∈ lw_all := lw_g (lw_at lw_m4 8 rfl) rfl
theorem q810 : (Jvm.Cond.code ({ cls := "StrokesHeard", name := "strokes", desc := "(II)I" } : Jvm.MethodName) prog_1_method_47_code (3 : Nat) (Option.some Jvm.ClassFile.FieldType.int)) ∈ lw_all := lw_g (lw_at lw_m4 9 rfl) rfl
theorem q812 : (Jvm.Cond.instanceMethod ({ cls := "StrokesHeard", name := "total", desc := "(I)I" } : Jvm.MethodName)) ∈ lw_all := lw_g (lw_at lw_m4 11 rfl) rfl
theorem q813 : (Jvm.Cond.selects "StrokesHeard" ({ cls := "StrokesHeard", name := "total", desc := "(I)I" } : Jvm.MethodName) ({ cls := "StrokesHeard", name := "total", desc := "(I)I" } : Jvm.MethodName)) ∈ lw_all := lw_g (lw_at lw_m4 12 rfl) rfl
theorem q814 : (Jvm.Cond.code ({ cls := "StrokesHeard", name := "total", desc := "(I)I" } : Jvm.MethodName) prog_1_method_49_code (2 : Nat) (Option.some Jvm.ClassFile.FieldType.int)) ∈ lw_all := lw_g (lw_at lw_m4 13 rfl) rfl
theorem q815 : (Jvm.Cond.methodLink "StrokesHeard" (336 : Nat) ({ cls := "StrokesHeard", name := "totalAt", desc := "(I)I" } : Jvm.MethodName)) ∈ lw_all := lw_g (lw_at lw_m4 14 rfl) rfl
theorem q816 : (Jvm.Cond.privateMethod ({ cls := "StrokesHeard", name := "totalAt", desc := "(I)I" } : Jvm.MethodName)) ∈ lw_tbl := lw_at lw_m4 15 rfl
theorem q817 : (Jvm.Cond.instanceMethod ({ cls := "StrokesHeard", name := "totalAt", desc := "(I)I" } : Jvm.MethodName)) ∈ lw_all := lw_g (lw_at lw_m4 16 rfl) rfl
theorem q818 : (Jvm.Cond.code ({ cls := "StrokesHeard", name := "totalAt", desc := "(I)I" } : Jvm.MethodName) prog_1_method_48_code (4 : Nat) (Option.some Jvm.ClassFile.FieldType.int)) ∈ lw_all := lw_g (lw_at lw_m4 17 rfl) rfl
theorem q820 : (Jvm.Cond.instanceMethod ({ cls := "StrokesHeard", name := "ear", desc := "(II)I" } : Jvm.MethodName)) ∈ lw_all := lw_g (lw_at lw_m4 19 rfl) rfl
theorem q821 : (Jvm.Cond.selects "StrokesHeard" ({ cls := "StrokesHeard", name := "ear", desc := "(II)I" } : Jvm.MethodName) ({ cls := "StrokesHeard", name := "ear", desc := "(II)I" } : Jvm.MethodName)) ∈ lw_all := lw_g (lw_at lw_m4 20 rfl) rfl
theorem q822 : (Jvm.Cond.code ({ cls := "StrokesHeard", name := "ear", desc := "(II)I" } : Jvm.MethodName) prog_1_method_50_code (4 : Nat) (Option.some Jvm.ClassFile.FieldType.int)) ∈ lw_all := lw_g (lw_at lw_m4 21 rfl) rfl
theorem q824 : (Jvm.Cond.instanceMethod ({ cls := "StrokesHeard", name := "deal", desc := "(I)I" } : Jvm.MethodName)) ∈ lw_all := lw_g (lw_at lw_m4 23 rfl) rfl
theorem q825 : (Jvm.Cond.selects "StrokesHeard" ({ cls := "StrokesHeard", name := "deal", desc := "(I)I" } : Jvm.MethodName) ({ cls := "StrokesHeard", name := "deal", desc := "(I)I" } : Jvm.MethodName)) ∈ lw_all := lw_g (lw_at lw_m4 24 rfl) rfl
theorem q826 : (Jvm.Cond.code ({ cls := "StrokesHeard", name := "deal", desc := "(I)I" } : Jvm.MethodName) prog_1_method_51_code (5 : Nat) (Option.some Jvm.ClassFile.FieldType.int)) ∈ lw_all := lw_g (lw_at lw_m4 25 rfl) rfl
theorem q827 : (Jvm.Cond.methodLink "StrokesHeard" (342 : Nat) ({ cls := "StrokesHeard$State", name := "draw", desc := "()I" } : Jvm.MethodName)) ∈ lw_all := lw_g (lw_at lw_m4 26 rfl) rfl
theorem q833 : (Jvm.Cond.instanceMethod ({ cls := "StrokesHeard", name := "seed", desc := "(I)I" } : Jvm.MethodName)) ∈ lw_all := lw_g (lw_at lw_m4 32 rfl) rfl
theorem q834 : (Jvm.Cond.selects "StrokesHeard" ({ cls := "StrokesHeard", name := "seed", desc := "(I)I" } : Jvm.MethodName) ({ cls := "StrokesHeard", name := "seed", desc := "(I)I" } : Jvm.MethodName)) ∈ lw_all := lw_g (lw_at lw_m4 33 rfl) rfl
theorem q835 : (Jvm.Cond.code ({ cls := "StrokesHeard", name := "seed", desc := "(I)I" } : Jvm.MethodName) prog_1_method_52_code (3 : Nat) (Option.some Jvm.ClassFile.FieldType.int)) ∈ lw_all := lw_g (lw_at lw_m4 34 rfl) rfl
theorem q837 : (Jvm.Cond.instanceMethod ({ cls := "StrokesHeard", name := "minutes", desc := "(I)I" } : Jvm.MethodName)) ∈ lw_all := lw_g (lw_at lw_m4 36 rfl) rfl
theorem q838 : (Jvm.Cond.selects "StrokesHeard" ({ cls := "StrokesHeard", name := "minutes", desc := "(I)I" } : Jvm.MethodName) ({ cls := "StrokesHeard", name := "minutes", desc := "(I)I" } : Jvm.MethodName)) ∈ lw_all := lw_g (lw_at lw_m4 37 rfl) rfl
theorem q839 : (Jvm.Cond.code ({ cls := "StrokesHeard", name := "minutes", desc := "(I)I" } : Jvm.MethodName) prog_1_method_55_code (3 : Nat) (Option.some Jvm.ClassFile.FieldType.int)) ∈ lw_all := lw_g (lw_at lw_m4 38 rfl) rfl
theorem q840 : (Jvm.Cond.methodLink "StrokesHeard" (363 : Nat) ({ cls := "StrokesHeard", name := "goesOn", desc := "(I)V" } : Jvm.MethodName)) ∈ lw_all := lw_g (lw_at lw_m4 39 rfl) rfl
theorem q841 : (Jvm.Cond.privateMethod ({ cls := "StrokesHeard", name := "goesOn", desc := "(I)V" } : Jvm.MethodName)) ∈ lw_tbl := lw_at lw_m4 40 rfl
theorem q842 : (Jvm.Cond.instanceMethod ({ cls := "StrokesHeard", name := "goesOn", desc := "(I)V" } : Jvm.MethodName)) ∈ lw_all := lw_g (lw_at lw_m4 41 rfl) rfl
theorem q843 : (Jvm.Cond.code ({ cls := "StrokesHeard", name := "goesOn", desc := "(I)V" } : Jvm.MethodName) prog_1_method_54_code (3 : Nat) (Option.none : Option Jvm.ClassFile.FieldType)) ∈ lw_all := lw_g (lw_at lw_m4 42 rfl) rfl
theorem q844 : (Jvm.Cond.methodLink "StrokesHeard" (360 : Nat) ({ cls := "StrokesHeard", name := "aMinute", desc := "()V" } : Jvm.MethodName)) ∈ lw_all := lw_g (lw_at lw_m4 43 rfl) rfl
theorem q845 : (Jvm.Cond.privateMethod ({ cls := "StrokesHeard", name := "aMinute", desc := "()V" } : Jvm.MethodName)) ∈ lw_tbl := lw_at lw_m4 44 rfl
theorem q846 : (Jvm.Cond.instanceMethod ({ cls := "StrokesHeard", name := "aMinute", desc := "()V" } : Jvm.MethodName)) ∈ lw_all := lw_g (lw_at lw_m4 45 rfl) rfl
theorem q847 : (Jvm.Cond.code ({ cls := "StrokesHeard", name := "aMinute", desc := "()V" } : Jvm.MethodName) prog_1_method_53_code (5 : Nat) (Option.none : Option Jvm.ClassFile.FieldType)) ∈ lw_all := lw_g (lw_at lw_m4 46 rfl) rfl
theorem q848 : (Jvm.Cond.methodLink "StrokesHeard" (357 : Nat) ({ cls := "StrokesHeard$State", name := "notes", desc := "(I)V" } : Jvm.MethodName)) ∈ lw_all := lw_g (lw_at lw_m4 47 rfl) rfl
theorem q857 : (Jvm.Cond.instanceMethod ({ cls := "StrokesHeard", name := "bed", desc := "(I)I" } : Jvm.MethodName)) ∈ lw_all := lw_g (lw_at lw_m4 56 rfl) rfl
theorem q858 : (Jvm.Cond.selects "StrokesHeard" ({ cls := "StrokesHeard", name := "bed", desc := "(I)I" } : Jvm.MethodName) ({ cls := "StrokesHeard", name := "bed", desc := "(I)I" } : Jvm.MethodName)) ∈ lw_all := lw_g (lw_at lw_m4 57 rfl) rfl
theorem q859 : (Jvm.Cond.code ({ cls := "StrokesHeard", name := "bed", desc := "(I)I" } : Jvm.MethodName) prog_1_method_56_code (2 : Nat) (Option.some Jvm.ClassFile.FieldType.int)) ∈ lw_all := lw_g (lw_at lw_m4 58 rfl) rfl
theorem q861 : (Jvm.Cond.instanceMethod ({ cls := "StrokesHeard", name := "note", desc := "(I)I" } : Jvm.MethodName)) ∈ lw_all := lw_g (lw_at lw_m4 60 rfl) rfl
theorem q862 : (Jvm.Cond.selects "StrokesHeard" ({ cls := "StrokesHeard", name := "note", desc := "(I)I" } : Jvm.MethodName) ({ cls := "StrokesHeard", name := "note", desc := "(I)I" } : Jvm.MethodName)) ∈ lw_all := lw_g (lw_at lw_m4 61 rfl) rfl
theorem q863 : (Jvm.Cond.code ({ cls := "StrokesHeard", name := "note", desc := "(I)I" } : Jvm.MethodName) prog_1_method_57_code (2 : Nat) (Option.some Jvm.ClassFile.FieldType.int)) ∈ lw_all := lw_g (lw_at lw_m4 62 rfl) rfl
theorem q865 : (Jvm.Cond.instanceMethod ({ cls := "StrokesHeard", name := "fits", desc := "(I)I" } : Jvm.MethodName)) ∈ lw_all := lw_g (lw_at lw_m4 64 rfl) rfl
theorem q866 : (Jvm.Cond.selects "StrokesHeard" ({ cls := "StrokesHeard", name := "fits", desc := "(I)I" } : Jvm.MethodName) ({ cls := "StrokesHeard", name := "fits", desc := "(I)I" } : Jvm.MethodName)) ∈ lw_all := lw_g (lw_at lw_m4 65 rfl) rfl
theorem q867 : (Jvm.Cond.code ({ cls := "StrokesHeard", name := "fits", desc := "(I)I" } : Jvm.MethodName) prog_1_method_63_code (2 : Nat) (Option.some Jvm.ClassFile.FieldType.int)) ∈ lw_all := lw_g (lw_at lw_m4 66 rfl) rfl
theorem q868 : (Jvm.Cond.methodLink "StrokesHeard" (387 : Nat) ({ cls := "StrokesHeard", name := "addsUpAll", desc := "()V" } : Jvm.MethodName)) ∈ lw_all := lw_g (lw_at lw_m4 67 rfl) rfl
theorem q869 : (Jvm.Cond.privateMethod ({ cls := "StrokesHeard", name := "addsUpAll", desc := "()V" } : Jvm.MethodName)) ∈ lw_tbl := lw_at lw_m4 68 rfl
theorem q870 : (Jvm.Cond.instanceMethod ({ cls := "StrokesHeard", name := "addsUpAll", desc := "()V" } : Jvm.MethodName)) ∈ lw_all := lw_g (lw_at lw_m4 69 rfl) rfl
theorem q871 : (Jvm.Cond.code ({ cls := "StrokesHeard", name := "addsUpAll", desc := "()V" } : Jvm.MethodName) prog_1_method_59_code (2 : Nat) (Option.none : Option Jvm.ClassFile.FieldType)) ∈ lw_all := lw_g (lw_at lw_m4 70 rfl) rfl
theorem q872 : (Jvm.Cond.methodLink "StrokesHeard" (371 : Nat) ({ cls := "StrokesHeard", name := "addsUp", desc := "(ILStrokesHeard$Ringer;)V" } : Jvm.MethodName)) ∈ lw_all := lw_g (lw_at lw_m4 71 rfl) rfl
theorem q873 : (Jvm.Cond.privateMethod ({ cls := "StrokesHeard", name := "addsUp", desc := "(ILStrokesHeard$Ringer;)V" } : Jvm.MethodName)) ∈ lw_tbl := lw_at lw_m4 72 rfl
theorem q874 : (Jvm.Cond.instanceMethod ({ cls := "StrokesHeard", name := "addsUp", desc := "(ILStrokesHeard$Ringer;)V" } : Jvm.MethodName)) ∈ lw_all := lw_g (lw_at lw_m4 73 rfl) rfl
theorem q875 : (Jvm.Cond.code ({ cls := "StrokesHeard", name := "addsUp", desc := "(ILStrokesHeard$Ringer;)V" } : Jvm.MethodName) prog_1_method_58_code (4 : Nat) (Option.none : Option Jvm.ClassFile.FieldType)) ∈ lw_all := lw_g (lw_at lw_m4 74 rfl) rfl
theorem q876 : (Jvm.Cond.methodLink "StrokesHeard" (384 : Nat) ({ cls := "StrokesHeard", name := "isFit", desc := "(I)Z" } : Jvm.MethodName)) ∈ lw_all := lw_g (lw_at lw_m4 75 rfl) rfl
theorem q877 : (Jvm.Cond.privateMethod ({ cls := "StrokesHeard", name := "isFit", desc := "(I)Z" } : Jvm.MethodName)) ∈ lw_tbl := lw_at lw_m4 76 rfl
theorem q878 : (Jvm.Cond.instanceMethod ({ cls := "StrokesHeard", name := "isFit", desc := "(I)Z" } : Jvm.MethodName)) ∈ lw_all := lw_g (lw_at lw_m4 77 rfl) rfl
theorem q879 : (Jvm.Cond.code ({ cls := "StrokesHeard", name := "isFit", desc := "(I)Z" } : Jvm.MethodName) prog_1_method_60_code (5 : Nat) (Option.some Jvm.ClassFile.FieldType.boolean)) ∈ lw_all := lw_g (lw_at lw_m4 78 rfl) rfl
theorem q881 : (Jvm.Cond.instanceMethod ({ cls := "StrokesHeard", name := "may", desc := "(I)I" } : Jvm.MethodName)) ∈ lw_all := lw_g (lw_at lw_m4 80 rfl) rfl
theorem q882 : (Jvm.Cond.selects "StrokesHeard" ({ cls := "StrokesHeard", name := "may", desc := "(I)I" } : Jvm.MethodName) ({ cls := "StrokesHeard", name := "may", desc := "(I)I" } : Jvm.MethodName)) ∈ lw_all := lw_g (lw_at lw_m4 81 rfl) rfl
theorem q883 : (Jvm.Cond.code ({ cls := "StrokesHeard", name := "may", desc := "(I)I" } : Jvm.MethodName) prog_1_method_64_code (3 : Nat) (Option.some Jvm.ClassFile.FieldType.int)) ∈ lw_all := lw_g (lw_at lw_m4 82 rfl) rfl
theorem q884 : (Jvm.Cond.methodLink "StrokesHeard" (398 : Nat) ({ cls := "StrokesHeard", name := "isSure", desc := "()Z" } : Jvm.MethodName)) ∈ lw_all := lw_g (lw_at lw_m4 83 rfl) rfl
theorem q885 : (Jvm.Cond.privateMethod ({ cls := "StrokesHeard", name := "isSure", desc := "()Z" } : Jvm.MethodName)) ∈ lw_tbl := lw_at lw_m4 84 rfl
theorem q886 : (Jvm.Cond.instanceMethod ({ cls := "StrokesHeard", name := "isSure", desc := "()Z" } : Jvm.MethodName)) ∈ lw_all := lw_g (lw_at lw_m4 85 rfl) rfl
theorem q887 : (Jvm.Cond.code ({ cls := "StrokesHeard", name := "isSure", desc := "()Z" } : Jvm.MethodName) prog_1_method_62_code (1 : Nat) (Option.some Jvm.ClassFile.FieldType.boolean)) ∈ lw_all := lw_g (lw_at lw_m4 86 rfl) rfl
theorem q888 : (Jvm.Cond.methodLink "StrokesHeard" (390 : Nat) ({ cls := "StrokesHeard", name := "holds", desc := "()I" } : Jvm.MethodName)) ∈ lw_all := lw_g (lw_at lw_m4 87 rfl) rfl
theorem q889 : (Jvm.Cond.privateMethod ({ cls := "StrokesHeard", name := "holds", desc := "()I" } : Jvm.MethodName)) ∈ lw_tbl := lw_at lw_m4 88 rfl
theorem q890 : (Jvm.Cond.instanceMethod ({ cls := "StrokesHeard", name := "holds", desc := "()I" } : Jvm.MethodName)) ∈ lw_all := lw_g (lw_at lw_m4 89 rfl) rfl
theorem q891 : (Jvm.Cond.code ({ cls := "StrokesHeard", name := "holds", desc := "()I" } : Jvm.MethodName) prog_1_method_61_code (2 : Nat) (Option.some Jvm.ClassFile.FieldType.int)) ∈ lw_all := lw_g (lw_at lw_m4 90 rfl) rfl
theorem q892 : (Jvm.Cond.methodLink "StrokesHeard" (393 : Nat) ({ cls := "java/lang/Integer", name := "bitCount", desc := "(I)I" } : Jvm.MethodName)) ∈ lw_all := lw_g (lw_at lw_m4 91 rfl) rfl
theorem q899 : (Jvm.Cond.instanceMethod ({ cls := "StrokesHeard", name := "next", desc := "()I" } : Jvm.MethodName)) ∈ lw_all := lw_g (lw_at lw_m4 98 rfl) rfl
theorem q900 : (Jvm.Cond.selects "StrokesHeard" ({ cls := "StrokesHeard", name := "next", desc := "()I" } : Jvm.MethodName) ({ cls := "StrokesHeard", name := "next", desc := "()I" } : Jvm.MethodName)) ∈ lw_all := lw_g (lw_at lw_m4 99 rfl) rfl
theorem q901 : (Jvm.Cond.code ({ cls := "StrokesHeard", name := "next", desc := "()I" } : Jvm.MethodName) prog_1_method_65_code (2 : Nat) (Option.some Jvm.ClassFile.FieldType.int)) ∈ lw_all := lw_g (lw_at lw_m4 100 rfl) rfl
theorem q903 : (Jvm.Cond.instanceMethod ({ cls := "StrokesHeard", name := "parts", desc := "(II)I" } : Jvm.MethodName)) ∈ lw_all := lw_g (lw_at lw_m4 102 rfl) rfl
theorem q904 : (Jvm.Cond.selects "StrokesHeard" ({ cls := "StrokesHeard", name := "parts", desc := "(II)I" } : Jvm.MethodName) ({ cls := "StrokesHeard", name := "parts", desc := "(II)I" } : Jvm.MethodName)) ∈ lw_all := lw_g (lw_at lw_m4 103 rfl) rfl
theorem q905 : (Jvm.Cond.code ({ cls := "StrokesHeard", name := "parts", desc := "(II)I" } : Jvm.MethodName) prog_1_method_66_code (7 : Nat) (Option.some Jvm.ClassFile.FieldType.int)) ∈ lw_all := lw_g (lw_at lw_m4 104 rfl) rfl
theorem q907 : (Jvm.Cond.instanceMethod ({ cls := "StrokesHeard", name := "astray", desc := "(I)I" } : Jvm.MethodName)) ∈ lw_all := lw_g (lw_at lw_m4 106 rfl) rfl
theorem q908 : (Jvm.Cond.selects "StrokesHeard" ({ cls := "StrokesHeard", name := "astray", desc := "(I)I" } : Jvm.MethodName) ({ cls := "StrokesHeard", name := "astray", desc := "(I)I" } : Jvm.MethodName)) ∈ lw_all := lw_g (lw_at lw_m4 107 rfl) rfl
theorem q909 : (Jvm.Cond.code ({ cls := "StrokesHeard", name := "astray", desc := "(I)I" } : Jvm.MethodName) prog_1_method_67_code (6 : Nat) (Option.some Jvm.ClassFile.FieldType.int)) ∈ lw_all := lw_g (lw_at lw_m4 108 rfl) rfl
theorem q911 : (Jvm.Cond.instanceMethod ({ cls := "StrokesHeard", name := "right", desc := "(II)I" } : Jvm.MethodName)) ∈ lw_all := lw_g (lw_at lw_m4 110 rfl) rfl
theorem q912 : (Jvm.Cond.selects "StrokesHeard" ({ cls := "StrokesHeard", name := "right", desc := "(II)I" } : Jvm.MethodName) ({ cls := "StrokesHeard", name := "right", desc := "(II)I" } : Jvm.MethodName)) ∈ lw_all := lw_g (lw_at lw_m4 111 rfl) rfl
theorem q913 : (Jvm.Cond.code ({ cls := "StrokesHeard", name := "right", desc := "(II)I" } : Jvm.MethodName) prog_1_method_68_code (9 : Nat) (Option.some Jvm.ClassFile.FieldType.int)) ∈ lw_all := lw_g (lw_at lw_m4 112 rfl) rfl
theorem q914 : (Jvm.Cond.constant "StrokesHeard" (402 : Nat) (99999 : Int32)) ∈ lw_all := lw_g (lw_at lw_m4 113 rfl) rfl
theorem q916 : (Jvm.Cond.instanceMethod ({ cls := "StrokesHeard", name := "telling", desc := "()I" } : Jvm.MethodName)) ∈ lw_all := lw_g (lw_at lw_m4 115 rfl) rfl
theorem q917 : (Jvm.Cond.selects "StrokesHeard" ({ cls := "StrokesHeard", name := "telling", desc := "()I" } : Jvm.MethodName) ({ cls := "StrokesHeard", name := "telling", desc := "()I" } : Jvm.MethodName)) ∈ lw_all := lw_g (lw_at lw_m4 116 rfl) rfl
theorem q918 : (Jvm.Cond.code ({ cls := "StrokesHeard", name := "telling", desc := "()I" } : Jvm.MethodName) prog_1_method_69_code (7 : Nat) (Option.some Jvm.ClassFile.FieldType.int)) ∈ lw_all := lw_g (lw_at lw_m4 117 rfl) rfl
theorem q920 : (Jvm.Cond.instanceMethod ({ cls := "StrokesHeard", name := "behind", desc := "(II)I" } : Jvm.MethodName)) ∈ lw_all := lw_g (lw_at lw_m4 119 rfl) rfl
theorem q921 : (Jvm.Cond.selects "StrokesHeard" ({ cls := "StrokesHeard", name := "behind", desc := "(II)I" } : Jvm.MethodName) ({ cls := "StrokesHeard", name := "behind", desc := "(II)I" } : Jvm.MethodName)) ∈ lw_all := lw_g (lw_at lw_m4 120 rfl) rfl
theorem q922 : (Jvm.Cond.code ({ cls := "StrokesHeard", name := "behind", desc := "(II)I" } : Jvm.MethodName) prog_1_method_72_code (4 : Nat) (Option.some Jvm.ClassFile.FieldType.int)) ∈ lw_all := lw_g (lw_at lw_m4 121 rfl) rfl
theorem q923 : (Jvm.Cond.methodLink "StrokesHeard" (407 : Nat) ({ cls := "StrokesHeard", name := "thinks", desc := "()V" } : Jvm.MethodName)) ∈ lw_all := lw_g (lw_at lw_m4 122 rfl) rfl
theorem q924 : (Jvm.Cond.privateMethod ({ cls := "StrokesHeard", name := "thinks", desc := "()V" } : Jvm.MethodName)) ∈ lw_tbl := lw_at lw_m4 123 rfl
theorem q925 : (Jvm.Cond.instanceMethod ({ cls := "StrokesHeard", name := "thinks", desc := "()V" } : Jvm.MethodName)) ∈ lw_all := lw_g (lw_at lw_m4 124 rfl) rfl
theorem q926 : (Jvm.Cond.code ({ cls := "StrokesHeard", name := "thinks", desc := "()V" } : Jvm.MethodName) prog_1_method_70_code (1 : Nat) (Option.none : Option Jvm.ClassFile.FieldType)) ∈ lw_all := lw_g (lw_at lw_m4 125 rfl) rfl
theorem q927 : (Jvm.Cond.methodLink "StrokesHeard" (403 : Nat) ({ cls := "StrokesHeard$State", name := "copyOf", desc := "(LStrokesHeard$State;)V" } : Jvm.MethodName)) ∈ lw_all := lw_g (lw_at lw_m4 126 rfl) rfl
theorem q966 : (Jvm.Cond.static ({ cls := "StrokesHeard", name := "copyRow", desc := "([I[I)V" } : Jvm.MethodName)) ∈ lw_all := lw_g (lw_at lw_m4 165 rfl) rfl
theorem q967 : (Jvm.Cond.code ({ cls := "StrokesHeard", name := "copyRow", desc := "([I[I)V" } : Jvm.MethodName) prog_1_method_5_code (2 : Nat) (Option.none : Option Jvm.ClassFile.FieldType)) ∈ lw_all := lw_g (lw_at lw_m4 166 rfl) rfl
theorem q968 : (Jvm.Cond.methodLink "StrokesHeard" (34 : Nat) ({ cls := "java/lang/System", name := "arraycopy", desc := "(Ljava/lang/Object;ILjava/lang/Object;II)V" } : Jvm.MethodName)) ∈ lw_all := lw_g (lw_at lw_m4 167 rfl) rfl
theorem q969 : (Jvm.Cond.methodLink "StrokesHeard" (410 : Nat) ({ cls := "StrokesHeard", name := "putsBack", desc := "()V" } : Jvm.MethodName)) ∈ lw_all := lw_g (lw_at lw_m4 168 rfl) rfl
theorem q970 : (Jvm.Cond.privateMethod ({ cls := "StrokesHeard", name := "putsBack", desc := "()V" } : Jvm.MethodName)) ∈ lw_tbl := lw_at lw_m4 169 rfl
theorem q971 : (Jvm.Cond.instanceMethod ({ cls := "StrokesHeard", name := "putsBack", desc := "()V" } : Jvm.MethodName)) ∈ lw_all := lw_g (lw_at lw_m4 170 rfl) rfl
theorem q972 : (Jvm.Cond.code ({ cls := "StrokesHeard", name := "putsBack", desc := "()V" } : Jvm.MethodName) prog_1_method_71_code (1 : Nat) (Option.none : Option Jvm.ClassFile.FieldType)) ∈ lw_all := lw_g (lw_at lw_m4 171 rfl) rfl
theorem q974 : (Jvm.Cond.instanceMethod ({ cls := "StrokesHeard", name := "listen", desc := "()I" } : Jvm.MethodName)) ∈ lw_all := lw_g (lw_at lw_m4 173 rfl) rfl
theorem q975 : (Jvm.Cond.selects "StrokesHeard" ({ cls := "StrokesHeard", name := "listen", desc := "()I" } : Jvm.MethodName) ({ cls := "StrokesHeard", name := "listen", desc := "()I" } : Jvm.MethodName)) ∈ lw_all := lw_g (lw_at lw_m4 174 rfl) rfl
theorem q976 : (Jvm.Cond.code ({ cls := "StrokesHeard", name := "listen", desc := "()I" } : Jvm.MethodName) prog_1_method_73_code (2 : Nat) (Option.some Jvm.ClassFile.FieldType.int)) ∈ lw_all := lw_g (lw_at lw_m4 175 rfl) rfl
theorem q978 : (Jvm.Cond.instanceMethod ({ cls := "StrokesHeard", name := "fee", desc := "()I" } : Jvm.MethodName)) ∈ lw_all := lw_g (lw_at lw_m4 177 rfl) rfl
theorem q979 : (Jvm.Cond.selects "StrokesHeard" ({ cls := "StrokesHeard", name := "fee", desc := "()I" } : Jvm.MethodName) ({ cls := "StrokesHeard", name := "fee", desc := "()I" } : Jvm.MethodName)) ∈ lw_all := lw_g (lw_at lw_m4 178 rfl) rfl
theorem q980 : (Jvm.Cond.code ({ cls := "StrokesHeard", name := "fee", desc := "()I" } : Jvm.MethodName) prog_1_method_74_code (2 : Nat) (Option.some Jvm.ClassFile.FieldType.int)) ∈ lw_all := lw_g (lw_at lw_m4 179 rfl) rfl
theorem q982 : (Jvm.Cond.instanceMethod ({ cls := "StrokesHeard", name := "fine", desc := "(I)I" } : Jvm.MethodName)) ∈ lw_all := lw_g (lw_at lw_m4 181 rfl) rfl
theorem q983 : (Jvm.Cond.selects "StrokesHeard" ({ cls := "StrokesHeard", name := "fine", desc := "(I)I" } : Jvm.MethodName) ({ cls := "StrokesHeard", name := "fine", desc := "(I)I" } : Jvm.MethodName)) ∈ lw_all := lw_g (lw_at lw_m4 182 rfl) rfl
theorem q984 : (Jvm.Cond.code ({ cls := "StrokesHeard", name := "fine", desc := "(I)I" } : Jvm.MethodName) prog_1_method_75_code (4 : Nat) (Option.some Jvm.ClassFile.FieldType.int)) ∈ lw_all := lw_g (lw_at lw_m4 183 rfl) rfl
theorem q986 : (Jvm.Cond.instanceMethod ({ cls := "StrokesHeard", name := "sheet", desc := "(III)I" } : Jvm.MethodName)) ∈ lw_all := lw_g (lw_at lw_m4 185 rfl) rfl
theorem q987 : (Jvm.Cond.selects "StrokesHeard" ({ cls := "StrokesHeard", name := "sheet", desc := "(III)I" } : Jvm.MethodName) ({ cls := "StrokesHeard", name := "sheet", desc := "(III)I" } : Jvm.MethodName)) ∈ lw_all := lw_g (lw_at lw_m4 186 rfl) rfl
theorem q988 : (Jvm.Cond.codeWith ({ cls := "StrokesHeard", name := "sheet", desc := "(III)I" } : Jvm.MethodName) prog_1_method_79_code (5 : Nat) (Option.some Jvm.ClassFile.FieldType.int) [((45 : Nat), (69 : Nat), (70 : Nat), (424 : Nat))]) ∈ lw_all := lw_g (lw_at lw_m4 187 rfl) rfl
theorem q989 : (Jvm.Cond.classLink "StrokesHeard" (424 : Nat) "java/lang/NegativeArraySizeException") ∈ lw_all := lw_g (lw_at lw_m4 188 rfl) rfl
theorem q1003 : (Jvm.Cond.methodLink "StrokesHeard" (413 : Nat) ({ cls := "StrokesHeard", name := "isSheet", desc := "(I)Z" } : Jvm.MethodName)) ∈ lw_all := lw_g (lw_at lw_m4 202 rfl) rfl
theorem q1004 : (Jvm.Cond.static ({ cls := "StrokesHeard", name := "isSheet", desc := "(I)Z" } : Jvm.MethodName)) ∈ lw_all := lw_g (lw_at lw_m4 203 rfl) rfl
theorem q1005 : (Jvm.Cond.code ({ cls := "StrokesHeard", name := "isSheet", desc := "(I)Z" } : Jvm.MethodName) prog_1_method_76_code (1 : Nat) (Option.some Jvm.ClassFile.FieldType.boolean)) ∈ lw_all := lw_g (lw_at lw_m4 204 rfl) rfl
theorem q1006 : (Jvm.Cond.methodLink "StrokesHeard" (420 : Nat) ({ cls := "StrokesHeard", name := "rowOf", desc := "(ZI)Ljava/lang/Object;" } : Jvm.MethodName)) ∈ lw_all := lw_g (lw_at lw_m4 205 rfl) rfl
theorem q1007 : (Jvm.Cond.static ({ cls := "StrokesHeard", name := "rowOf", desc := "(ZI)Ljava/lang/Object;" } : Jvm.MethodName)) ∈ lw_all := lw_g (lw_at lw_m4 206 rfl) rfl
theorem q1008 : (Jvm.Cond.code ({ cls := "StrokesHeard", name := "rowOf", desc := "(ZI)Ljava/lang/Object;" } : Jvm.MethodName) prog_1_method_78_code (2 : Nat) (Option.some (Jvm.ClassFile.FieldType.object "java/lang/Object"))) ∈ lw_all := lw_g (lw_at lw_m4 207 rfl) rfl
theorem q1009 : (Jvm.Cond.constant "StrokesHeard" (426 : Nat) (-1000000014 : Int32)) ∈ lw_all := lw_g (lw_at lw_m4 208 rfl) rfl
theorem q1012 : (Jvm.Cond.instanceMethod ({ cls := "StrokesHeard", name := "mark", desc := "(III)I" } : Jvm.MethodName)) ∈ lw_all := lw_g (lw_at lw_m4 211 rfl) rfl
theorem q1013 : (Jvm.Cond.selects "StrokesHeard" ({ cls := "StrokesHeard", name := "mark", desc := "(III)I" } : Jvm.MethodName) ({ cls := "StrokesHeard", name := "mark", desc := "(III)I" } : Jvm.MethodName)) ∈ lw_all := lw_g (lw_at lw_m4 212 rfl) rfl
theorem q1014 : (Jvm.Cond.code ({ cls := "StrokesHeard", name := "mark", desc := "(III)I" } : Jvm.MethodName) prog_1_method_81_code (5 : Nat) (Option.some Jvm.ClassFile.FieldType.int)) ∈ lw_all := lw_g (lw_at lw_m4 213 rfl) rfl
theorem q1015 : (Jvm.Cond.methodLink "StrokesHeard" (438 : Nat) ({ cls := "StrokesHeard$Sheet", name := "isThere", desc := "()Z" } : Jvm.MethodName)) ∈ lw_all := lw_g (lw_at lw_m4 214 rfl) rfl
theorem q1019 : (Jvm.Cond.constant "StrokesHeard" (441 : Nat) (-1000000011 : Int32)) ∈ lw_all := lw_g (lw_at lw_m4 218 rfl) rfl
theorem q1020 : (Jvm.Cond.methodLink "StrokesHeard" (442 : Nat) ({ cls := "StrokesHeard$Sheet", name := "size", desc := "()I" } : Jvm.MethodName)) ∈ lw_all := lw_g (lw_at lw_m4 219 rfl) rfl
theorem q1030 : (Jvm.Cond.methodLink "StrokesHeard" (445 : Nat) ({ cls := "StrokesHeard", name := "markIn", desc := "(LStrokesHeard$Sheet;II)I" } : Jvm.MethodName)) ∈ lw_all := lw_g (lw_at lw_m4 229 rfl) rfl
theorem q1031 : (Jvm.Cond.static ({ cls := "StrokesHeard", name := "markIn", desc := "(LStrokesHeard$Sheet;II)I" } : Jvm.MethodName)) ∈ lw_all := lw_g (lw_at lw_m4 230 rfl) rfl
theorem q1032 : (Jvm.Cond.code ({ cls := "StrokesHeard", name := "markIn", desc := "(LStrokesHeard$Sheet;II)I" } : Jvm.MethodName) prog_1_method_80_code (3 : Nat) (Option.some Jvm.ClassFile.FieldType.int)) ∈ lw_all := lw_g (lw_at lw_m4 231 rfl) rfl
theorem q1033 : (Jvm.Cond.methodLink "StrokesHeard" (427 : Nat) ({ cls := "StrokesHeard$Sheet", name := "isFloats", desc := "()Z" } : Jvm.MethodName)) ∈ lw_all := lw_g (lw_at lw_m4 232 rfl) rfl
theorem q1034 : (Jvm.Cond.classLink "StrokesHeard" (430 : Nat) "[F") ∈ lw_all := lw_g (lw_at lw_m4 233 rfl) rfl
theorem q1035 : (Jvm.Cond.constantFloat "StrokesHeard" (433 : Nat) (2143289344 : UInt32)) ∈ lw_all := lw_g (lw_at lw_m4 234 rfl) rfl
theorem q1036 : (Jvm.Cond.constant "StrokesHeard" (434 : Nat) (-99999 : Int32)) ∈ lw_all := lw_g (lw_at lw_m4 235 rfl) rfl
theorem q1037 : (Jvm.Cond.methodLink "StrokesHeard" (435 : Nat) ({ cls := "StrokesHeard$Sheet", name := "put", desc := "(II)V" } : Jvm.MethodName)) ∈ lw_all := lw_g (lw_at lw_m4 236 rfl) rfl
theorem q1041 : (Jvm.Cond.constant "StrokesHeard" (449 : Nat) (-1000000013 : Int32)) ∈ lw_all := lw_g (lw_at lw_m5 0 rfl) rfl
theorem q1043 : (Jvm.Cond.instanceMethod ({ cls := "StrokesHeard", name := "pour", desc := "(I)I" } : Jvm.MethodName)) ∈ lw_all := lw_g (lw_at lw_m5 2 rfl) rfl
theorem q1044 : (Jvm.Cond.selects "StrokesHeard" ({ cls := "StrokesHeard", name := "pour", desc := "(I)I" } : Jvm.MethodName) ({ cls := "StrokesHeard", name := "pour", desc := "(I)I" } : Jvm.MethodName)) ∈ lw_all := lw_g (lw_at lw_m5 3 rfl) rfl
theorem q1045 : (Jvm.Cond.code ({ cls := "StrokesHeard", name := "pour", desc := "(I)I" } : Jvm.MethodName) prog_1_method_82_code (6 : Nat) (Option.some Jvm.ClassFile.FieldType.int)) ∈ lw_all := lw_g (lw_at lw_m5 4 rfl) rfl
theorem q1046 : (Jvm.Cond.methodLink "StrokesHeard" (450 : Nat) ({ cls := "StrokesHeard$Sheet", name := "isNumber", desc := "(I)Z" } : Jvm.MethodName)) ∈ lw_all := lw_g (lw_at lw_m5 5 rfl) rfl
theorem q1050 : (Jvm.Cond.methodLink "StrokesHeard" (453 : Nat) ({ cls := "StrokesHeard$Sheet", name := "at", desc := "(I)I" } : Jvm.MethodName)) ∈ lw_all := lw_g (lw_at lw_m5 9 rfl) rfl
theorem q1055 : (Jvm.Cond.instanceMethod ({ cls := "StrokesHeard", name := "reads", desc := "(I)I" } : Jvm.MethodName)) ∈ lw_all := lw_g (lw_at lw_m5 14 rfl) rfl
theorem q1056 : (Jvm.Cond.selects "StrokesHeard" ({ cls := "StrokesHeard", name := "reads", desc := "(I)I" } : Jvm.MethodName) ({ cls := "StrokesHeard", name := "reads", desc := "(I)I" } : Jvm.MethodName)) ∈ lw_all := lw_g (lw_at lw_m5 15 rfl) rfl
theorem q1057 : (Jvm.Cond.code ({ cls := "StrokesHeard", name := "reads", desc := "(I)I" } : Jvm.MethodName) prog_1_method_83_code (4 : Nat) (Option.some Jvm.ClassFile.FieldType.int)) ∈ lw_all := lw_g (lw_at lw_m5 16 rfl) rfl
theorem q1059 : (Jvm.Cond.instanceMethod ({ cls := "StrokesHeard", name := "like", desc := "(II)I" } : Jvm.MethodName)) ∈ lw_all := lw_g (lw_at lw_m5 18 rfl) rfl
theorem q1060 : (Jvm.Cond.selects "StrokesHeard" ({ cls := "StrokesHeard", name := "like", desc := "(II)I" } : Jvm.MethodName) ({ cls := "StrokesHeard", name := "like", desc := "(II)I" } : Jvm.MethodName)) ∈ lw_all := lw_g (lw_at lw_m5 19 rfl) rfl
theorem q1061 : (Jvm.Cond.code ({ cls := "StrokesHeard", name := "like", desc := "(II)I" } : Jvm.MethodName) prog_1_method_84_code (11 : Nat) (Option.some Jvm.ClassFile.FieldType.int)) ∈ lw_all := lw_g (lw_at lw_m5 20 rfl) rfl
theorem q1062 : (Jvm.Cond.constantLong "StrokesHeard" (458 : Nat) (9223372036854775807 : Int64)) ∈ lw_all := lw_g (lw_at lw_m5 21 rfl) rfl
theorem q1063 : (Jvm.Cond.methodLink "StrokesHeard" (460 : Nat) ({ cls := "java/lang/Math", name := "abs", desc := "(J)J" } : Jvm.MethodName)) ∈ lw_all := lw_g (lw_at lw_m5 22 rfl) rfl
theorem q1066 : (Jvm.Cond.methodLink "StrokesHeard" (464 : Nat) ({ cls := "java/lang/Math", name := "min", desc := "(JJ)J" } : Jvm.MethodName)) ∈ lw_all := lw_g (lw_at lw_m5 25 rfl) rfl
theorem q1070 : (Jvm.Cond.instanceMethod ({ cls := "StrokesHeard", name := "copy", desc := "(IIIII)I" } : Jvm.MethodName)) ∈ lw_all := lw_g (lw_at lw_m5 29 rfl) rfl
theorem q1071 : (Jvm.Cond.selects "StrokesHeard" ({ cls := "StrokesHeard", name := "copy", desc := "(IIIII)I" } : Jvm.MethodName) ({ cls := "StrokesHeard", name := "copy", desc := "(IIIII)I" } : Jvm.MethodName)) ∈ lw_all := lw_g (lw_at lw_m5 30 rfl) rfl
theorem q1072 : (Jvm.Cond.code ({ cls := "StrokesHeard", name := "copy", desc := "(IIIII)I" } : Jvm.MethodName) prog_1_method_86_code (8 : Nat) (Option.some Jvm.ClassFile.FieldType.int)) ∈ lw_all := lw_g (lw_at lw_m5 31 rfl) rfl
theorem q1073 : (Jvm.Cond.methodLink "StrokesHeard" (469 : Nat) ({ cls := "StrokesHeard", name := "carries", desc := "(LStrokesHeard$Sheet;ILStrokesHeard$Sheet;II)V" } : Jvm.MethodName)) ∈ lw_all := lw_g (lw_at lw_m5 32 rfl) rfl
theorem q1074 : (Jvm.Cond.privateMethod ({ cls := "StrokesHeard", name := "carries", desc := "(LStrokesHeard$Sheet;ILStrokesHeard$Sheet;II)V" } : Jvm.MethodName)) ∈ lw_tbl := lw_at lw_m5 33 rfl
theorem q1075 : (Jvm.Cond.instanceMethod ({ cls := "StrokesHeard", name := "carries", desc := "(LStrokesHeard$Sheet;ILStrokesHeard$Sheet;II)V" } : Jvm.MethodName)) ∈ lw_all := lw_g (lw_at lw_m5 34 rfl) rfl
theorem q1076 : (Jvm.Cond.code ({ cls := "StrokesHeard", name := "carries", desc := "(LStrokesHeard$Sheet;ILStrokesHeard$Sheet;II)V" } : Jvm.MethodName) prog_1_method_85_code (9 : Nat) (Option.none : Option Jvm.ClassFile.FieldType)) ∈ lw_all := lw_g (lw_at lw_m5 35 rfl) rfl
theorem q1077 : (Jvm.Cond.classLink "StrokesHeard" (467 : Nat) "[S") ∈ lw_all := lw_g (lw_at lw_m5 36 rfl) rfl
theorem q1079 : (Jvm.Cond.instanceMethod ({ cls := "StrokesHeard", name := "lay", desc := "(III)I" } : Jvm.MethodName)) ∈ lw_all := lw_g (lw_at lw_m5 38 rfl) rfl
theorem q1080 : (Jvm.Cond.selects "StrokesHeard" ({ cls := "StrokesHeard", name := "lay", desc := "(III)I" } : Jvm.MethodName) ({ cls := "StrokesHeard", name := "lay", desc := "(III)I" } : Jvm.MethodName)) ∈ lw_all := lw_g (lw_at lw_m5 39 rfl) rfl
theorem q1081 : (Jvm.Cond.code ({ cls := "StrokesHeard", name := "lay", desc := "(III)I" } : Jvm.MethodName) prog_1_method_88_code (5 : Nat) (Option.some Jvm.ClassFile.FieldType.int)) ∈ lw_all := lw_g (lw_at lw_m5 40 rfl) rfl
theorem q1082 : (Jvm.Cond.methodLink "StrokesHeard" (473 : Nat) ({ cls := "StrokesHeard", name := "isSlot", desc := "(I)Z" } : Jvm.MethodName)) ∈ lw_all := lw_g (lw_at lw_m5 41 rfl) rfl
theorem q1083 : (Jvm.Cond.static ({ cls := "StrokesHeard", name := "isSlot", desc := "(I)Z" } : Jvm.MethodName)) ∈ lw_all := lw_g (lw_at lw_m5 42 rfl) rfl
theorem q1084 : (Jvm.Cond.code ({ cls := "StrokesHeard", name := "isSlot", desc := "(I)Z" } : Jvm.MethodName) prog_1_method_77_code (1 : Nat) (Option.some Jvm.ClassFile.FieldType.boolean)) ∈ lw_all := lw_g (lw_at lw_m5 43 rfl) rfl
theorem q1085 : (Jvm.Cond.methodLink "StrokesHeard" (476 : Nat) ({ cls := "StrokesHeard$Slot", name := "thing", desc := "()I" } : Jvm.MethodName)) ∈ lw_all := lw_g (lw_at lw_m5 44 rfl) rfl
theorem q1091 : (Jvm.Cond.methodLink "StrokesHeard" (479 : Nat) ({ cls := "StrokesHeard$Ringer", name := "copy", desc := "()LStrokesHeard$Ringer;" } : Jvm.MethodName)) ∈ lw_all := lw_g (lw_at lw_m5 50 rfl) rfl
theorem q1103 : (Jvm.Cond.methodLink "StrokesHeard" (483 : Nat) ({ cls := "StrokesHeard", name := "own", desc := "(LStrokesHeard$Sheet;)LStrokesHeard$Sheet;" } : Jvm.MethodName)) ∈ lw_all := lw_g (lw_at lw_m5 62 rfl) rfl
theorem q1104 : (Jvm.Cond.privateMethod ({ cls := "StrokesHeard", name := "own", desc := "(LStrokesHeard$Sheet;)LStrokesHeard$Sheet;" } : Jvm.MethodName)) ∈ lw_tbl := lw_at lw_m5 63 rfl
theorem q1105 : (Jvm.Cond.instanceMethod ({ cls := "StrokesHeard", name := "own", desc := "(LStrokesHeard$Sheet;)LStrokesHeard$Sheet;" } : Jvm.MethodName)) ∈ lw_all := lw_g (lw_at lw_m5 64 rfl) rfl
theorem q1106 : (Jvm.Cond.code ({ cls := "StrokesHeard", name := "own", desc := "(LStrokesHeard$Sheet;)LStrokesHeard$Sheet;" } : Jvm.MethodName) prog_1_method_87_code (3 : Nat) (Option.some (Jvm.ClassFile.FieldType.object "StrokesHeard$Sheet"))) ∈ lw_all := lw_g (lw_at lw_m5 65 rfl) rfl
theorem q1107 : (Jvm.Cond.classLink "StrokesHeard" (487 : Nat) "StrokesHeard$Figure") ∈ lw_all := lw_g (lw_at lw_m5 66 rfl) rfl
theorem q1109 : (Jvm.Cond.methodLink "StrokesHeard" (489 : Nat) ({ cls := "StrokesHeard$Figure", name := "<init>", desc := "(I)V" } : Jvm.MethodName)) ∈ lw_all := lw_g (lw_at lw_m5 68 rfl) rfl
theorem q1114 : (Jvm.Cond.fieldLinkNest "StrokesHeard" (497 : Nat) "StrokesHeard$Figure" "v" "I" "StrokesHeard") ∈ lw_tbl := lw_at lw_m5 73 rfl
theorem q1119 : (Jvm.Cond.instanceMethod ({ cls := "StrokesHeard", name := "ask", desc := "(II)I" } : Jvm.MethodName)) ∈ lw_all := lw_g (lw_at lw_m5 78 rfl) rfl
theorem q1120 : (Jvm.Cond.selects "StrokesHeard" ({ cls := "StrokesHeard", name := "ask", desc := "(II)I" } : Jvm.MethodName) ({ cls := "StrokesHeard", name := "ask", desc := "(II)I" } : Jvm.MethodName)) ∈ lw_all := lw_g (lw_at lw_m5 79 rfl) rfl
theorem q1121 : (Jvm.Cond.codeWith ({ cls := "StrokesHeard", name := "ask", desc := "(II)I" } : Jvm.MethodName) prog_1_method_89_code (5 : Nat) (Option.some Jvm.ClassFile.FieldType.int) [((37 : Nat), (51 : Nat), (52 : Nat), (325 : Nat))]) ∈ lw_all := lw_g (lw_at lw_m5 80 rfl) rfl
theorem q1122 : (Jvm.Cond.interfaceEntry "StrokesHeard" (494 : Nat)) ∈ lw_tbl := lw_at lw_m5 81 rfl
theorem q1123 : (Jvm.Cond.methodLink "StrokesHeard" (494 : Nat) ({ cls := "StrokesHeard$Chimes", name := "worth", desc := "()I" } : Jvm.MethodName)) ∈ lw_all := lw_g (lw_at lw_m5 82 rfl) rfl
theorem q1151 : (Jvm.Cond.instanceMethod ({ cls := "StrokesHeard", name := "item", desc := "(II)I" } : Jvm.MethodName)) ∈ lw_all := lw_g (lw_at lw_m5 110 rfl) rfl
theorem q1152 : (Jvm.Cond.selects "StrokesHeard" ({ cls := "StrokesHeard", name := "item", desc := "(II)I" } : Jvm.MethodName) ({ cls := "StrokesHeard", name := "item", desc := "(II)I" } : Jvm.MethodName)) ∈ lw_all := lw_g (lw_at lw_m5 111 rfl) rfl
theorem q1153 : (Jvm.Cond.codeWith ({ cls := "StrokesHeard", name := "item", desc := "(II)I" } : Jvm.MethodName) prog_1_method_90_code (5 : Nat) (Option.some Jvm.ClassFile.FieldType.int) [((28 : Nat), (52 : Nat), (75 : Nat), (325 : Nat)), ((53 : Nat), (74 : Nat), (75 : Nat), (325 : Nat))]) ∈ lw_all := lw_g (lw_at lw_m5 112 rfl) rfl
theorem q1155 : (Jvm.Cond.instanceMethod ({ cls := "StrokesHeard", name := "rest", desc := "(II)I" } : Jvm.MethodName)) ∈ lw_all := lw_g (lw_at lw_m5 114 rfl) rfl
theorem q1156 : (Jvm.Cond.selects "StrokesHeard" ({ cls := "StrokesHeard", name := "rest", desc := "(II)I" } : Jvm.MethodName) ({ cls := "StrokesHeard", name := "rest", desc := "(II)I" } : Jvm.MethodName)) ∈ lw_all := lw_g (lw_at lw_m5 115 rfl) rfl
theorem q1157 : (Jvm.Cond.code ({ cls := "StrokesHeard", name := "rest", desc := "(II)I" } : Jvm.MethodName) prog_1_method_91_code (5 : Nat) (Option.some Jvm.ClassFile.FieldType.int)) ∈ lw_all := lw_g (lw_at lw_m5 116 rfl) rfl
theorem q1158 : (Jvm.Cond.constant "StrokesHeard" (500 : Nat) (-1000000002 : Int32)) ∈ lw_all := lw_g (lw_at lw_m5 117 rfl) rfl
theorem q1160 : (Jvm.Cond.instanceMethod ({ cls := "StrokesHeard", name := "tell", desc := "(I)I" } : Jvm.MethodName)) ∈ lw_all := lw_g (lw_at lw_m5 119 rfl) rfl
theorem q1161 : (Jvm.Cond.selects "StrokesHeard" ({ cls := "StrokesHeard", name := "tell", desc := "(I)I" } : Jvm.MethodName) ({ cls := "StrokesHeard", name := "tell", desc := "(I)I" } : Jvm.MethodName)) ∈ lw_all := lw_g (lw_at lw_m5 120 rfl) rfl
theorem q1162 : (Jvm.Cond.code ({ cls := "StrokesHeard", name := "tell", desc := "(I)I" } : Jvm.MethodName) prog_1_method_92_code (2 : Nat) (Option.some Jvm.ClassFile.FieldType.int)) ∈ lw_all := lw_g (lw_at lw_m5 121 rfl) rfl
theorem q1164 : (Jvm.Cond.instanceMethod ({ cls := "StrokesHeard", name := "check", desc := "(I)I" } : Jvm.MethodName)) ∈ lw_all := lw_g (lw_at lw_m5 123 rfl) rfl
theorem q1165 : (Jvm.Cond.selects "StrokesHeard" ({ cls := "StrokesHeard", name := "check", desc := "(I)I" } : Jvm.MethodName) ({ cls := "StrokesHeard", name := "check", desc := "(I)I" } : Jvm.MethodName)) ∈ lw_all := lw_g (lw_at lw_m5 124 rfl) rfl
theorem q1166 : (Jvm.Cond.code ({ cls := "StrokesHeard", name := "check", desc := "(I)I" } : Jvm.MethodName) prog_1_method_94_code (5 : Nat) (Option.some Jvm.ClassFile.FieldType.int)) ∈ lw_all := lw_g (lw_at lw_m5 125 rfl) rfl
theorem q1167 : (Jvm.Cond.methodLink "StrokesHeard" (508 : Nat) ({ cls := "StrokesHeard", name := "rowsOfMinutes", desc := "(I)I" } : Jvm.MethodName)) ∈ lw_all := lw_g (lw_at lw_m5 126 rfl) rfl
theorem q1168 : (Jvm.Cond.privateMethod ({ cls := "StrokesHeard", name := "rowsOfMinutes", desc := "(I)I" } : Jvm.MethodName)) ∈ lw_tbl := lw_at lw_m5 127 rfl
theorem q1169 : (Jvm.Cond.instanceMethod ({ cls := "StrokesHeard", name := "rowsOfMinutes", desc := "(I)I" } : Jvm.MethodName)) ∈ lw_all := lw_g (lw_at lw_m5 128 rfl) rfl
theorem q1170 : (Jvm.Cond.code ({ cls := "StrokesHeard", name := "rowsOfMinutes", desc := "(I)I" } : Jvm.MethodName) prog_1_method_93_code (3 : Nat) (Option.some Jvm.ClassFile.FieldType.int)) ∈ lw_all := lw_g (lw_at lw_m5 129 rfl) rfl
theorem q1172 : (Jvm.Cond.instanceMethod ({ cls := "StrokesHeard", name := "keep", desc := "()I" } : Jvm.MethodName)) ∈ lw_all := lw_g (lw_at lw_m5 131 rfl) rfl
theorem q1173 : (Jvm.Cond.selects "StrokesHeard" ({ cls := "StrokesHeard", name := "keep", desc := "()I" } : Jvm.MethodName) ({ cls := "StrokesHeard", name := "keep", desc := "()I" } : Jvm.MethodName)) ∈ lw_all := lw_g (lw_at lw_m5 132 rfl) rfl
theorem q1174 : (Jvm.Cond.code ({ cls := "StrokesHeard", name := "keep", desc := "()I" } : Jvm.MethodName) prog_1_method_95_code (1 : Nat) (Option.some Jvm.ClassFile.FieldType.int)) ∈ lw_all := lw_g (lw_at lw_m5 133 rfl) rfl
theorem q1176 : (Jvm.Cond.instanceMethod ({ cls := "StrokesHeard", name := "back", desc := "()I" } : Jvm.MethodName)) ∈ lw_all := lw_g (lw_at lw_m5 135 rfl) rfl
theorem q1177 : (Jvm.Cond.selects "StrokesHeard" ({ cls := "StrokesHeard", name := "back", desc := "()I" } : Jvm.MethodName) ({ cls := "StrokesHeard", name := "back", desc := "()I" } : Jvm.MethodName)) ∈ lw_all := lw_g (lw_at lw_m5 136 rfl) rfl
theorem q1178 : (Jvm.Cond.code ({ cls := "StrokesHeard", name := "back", desc := "()I" } : Jvm.MethodName) prog_1_method_96_code (1 : Nat) (Option.some Jvm.ClassFile.FieldType.int)) ∈ lw_all := lw_g (lw_at lw_m5 137 rfl) rfl
theorem q1180 : (Jvm.Cond.instanceMethod ({ cls := "StrokesHeard", name := "count", desc := "(I)I" } : Jvm.MethodName)) ∈ lw_all := lw_g (lw_at lw_m5 139 rfl) rfl
theorem q1181 : (Jvm.Cond.selects "StrokesHeard" ({ cls := "StrokesHeard", name := "count", desc := "(I)I" } : Jvm.MethodName) ({ cls := "StrokesHeard", name := "count", desc := "(I)I" } : Jvm.MethodName)) ∈ lw_all := lw_g (lw_at lw_m5 140 rfl) rfl
theorem q1182 : (Jvm.Cond.code ({ cls := "StrokesHeard", name := "count", desc := "(I)I" } : Jvm.MethodName) prog_1_method_97_code (2 : Nat) (Option.some Jvm.ClassFile.FieldType.int)) ∈ lw_all := lw_g (lw_at lw_m5 141 rfl) rfl
theorem in_X0 : ∀ w ∈ wsX00, w ∈ lw_all := lw_in wsX00 [296, 298, 300, 302, 304, 306, 308, 310, 312, 314, 316, 318, 320, 322, 324, 326, 328, 330, 332, 334, 336, 338, 340, 342, 344, 346, 348] (by decide +kernel) (by decide +kernel)
