/-! StrokesHeardModel -/
set_option maxRecDepth 100000
def RX5 : String := "StrokesHeardModel"
def TX5 : u_T := fun k => match k with
  | 0 => ("StrokesHeardModel", "s", "[I", true)
  | 1 => ("StrokesHeardModel", "image", "[I", true)
  | 2 => ("StrokesHeardModel", "aside", "[I", true)
  | 3 => ("StrokesHeardModel", "hasImage", "Z", false)
  | 4 => ("StrokesHeardModel", "tSort", "[I", true)
  | 5 => ("StrokesHeardModel", "tSize", "[I", true)
  | 6 => ("StrokesHeardModel", "tNumber", "[I", true)
  | 7 => ("StrokesHeardModel", "held", "[I", true)
  | 8 => ("StrokesHeardModel", "heldNumber", "[I", true)
  | 9 => ("StrokesHeardModel", "heldWorth", "[I", true)
  | 10 => ("StrokesHeardModel", "heldSize", "[I", true)
  | 11 => ("StrokesHeardModel", "heldRow", "[I", true)
  | 12 => ("StrokesHeardModel", "all", "[I", true)
  | 13 => ("StrokesHeardModel", "close", "[I", true)
  | 14 => ("StrokesHeardModel", "tape", "[I", true)
  | 15 => ("StrokesHeardModel", "taped", "I", false)
  | 16 => ("StrokesHeardModel", "begin", "I", false)
  | 17 => ("StrokesHeardModel", "behind", "I", false)
  | 18 => ("StrokesHeardModel", "token", "I", false)
  | 19 => ("StrokesHeardModel", "number", "I", false)
  | 20 => ("StrokesHeardModel", "letter", "I", false)
  | 21 => ("StrokesHeardModel", "deep", "I", false)
  | 22 => ("StrokesHeardModel", "turned", "I", false)
  | 23 => ("StrokesHeardModel", "laid", "I", false)
  | 24 => ("StrokesHeardModel", "laidAt", "I", false)
  | 25 => ("StrokesHeardModel", "said", "I", false)
  | 26 => ("StrokesHeardModel", "named", "[I", true)
  | 27 => ("StrokesHeardModel", "pile", "[I", true)
  | 28 => ("StrokesHeardModel", "carried", "[I", true)
  | 29 => ("StrokesHeardModel", "waits", "[I", true)
  | 30 => ("StrokesHeardModel", "waiting", "I", false)
  | _ => ("StrokesHeardModel", "rowDue", "[I", true)
def tyX5 : Nat → FieldType := fun k => match k with
  | 0 => .array .int
  | 1 => .array .int
  | 2 => .array .int
  | 3 => .boolean
  | 4 => .array .int
  | 5 => .array .int
  | 6 => .array .int
  | 7 => .array .int
  | 8 => .array .int
  | 9 => .array .int
  | 10 => .array .int
  | 11 => .array .int
  | 12 => .array .int
  | 13 => .array .int
  | 14 => .array .int
  | 15 => .int
  | 16 => .int
  | 17 => .int
  | 18 => .int
  | 19 => .int
  | 20 => .int
  | 21 => .int
  | 22 => .int
  | 23 => .int
  | 24 => .int
  | 25 => .int
  | 26 => .array .int
  | 27 => .array .int
  | 28 => .array .int
  | 29 => .array .int
  | 30 => .int
  | _ => .array .int
abbrev wsX50 : List Cond := u_ws RX5 TX5 32
set_option maxRecDepth 100000 in
theorem nmX5 : ∀ a, a < 32 → ∀ b, b < 32 → a ≠ b → (TX5 a).2.1 ≠ (TX5 b).2.1 := by decide +kernel
set_option maxRecDepth 100000 in
theorem tyX5_ok : ∀ k, k < 32 → parseFieldDescriptor (TX5 k).2.2.1 = some (tyX5 k) := by decide +kernel
abbrev cX5_init : ByteArray := prog_18_method_1_code
def yX5_init : MethodName := ⟨RX5, "<init>", "()V"⟩
def dkwX5_init_8 : List UInt8 := [132, 1, 1, 167, 255, 241, 177]
abbrev dktX5_init_8 : List UInt8 := dkwX5_init_8 ++ []
def dkwX5_init_7 : List UInt8 := [42, 180, 0, 7, 16, 6, 16, 100, 79, 3, 60, 27, 7, 162, 0, 16, 42, 180, 0, 19, 27, 2, 79]
abbrev dktX5_init_7 : List UInt8 := dkwX5_init_7 ++ dktX5_init_8
def dkwX5_init_6 : List UInt8 := [42, 16, 60, 188, 10, 181, 0, 61, 42, 16, 60, 188, 10, 181, 0, 64, 42, 180, 0, 7, 16, 9, 4, 79]
abbrev dktX5_init_6 : List UInt8 := dkwX5_init_6 ++ dktX5_init_7
def dkwX5_init_5 : List UInt8 := [17, 0, 128, 188, 10, 181, 0, 52, 42, 16, 100, 188, 10, 181, 0, 55, 42, 16, 24, 188, 10, 181, 0, 58]
abbrev dktX5_init_5 : List UInt8 := dkwX5_init_5 ++ dktX5_init_6
def dkwX5_init_4 : List UInt8 := [188, 10, 181, 0, 43, 42, 16, 40, 188, 10, 181, 0, 46, 42, 16, 96, 188, 10, 181, 0, 49, 42]
abbrev dktX5_init_4 : List UInt8 := dkwX5_init_4 ++ dktX5_init_5
def dkwX5_init_3 : List UInt8 := [188, 10, 181, 0, 34, 42, 8, 188, 10, 181, 0, 37, 42, 16, 120, 188, 10, 181, 0, 40, 42, 17, 2, 208]
abbrev dktX5_init_3 : List UInt8 := dkwX5_init_3 ++ dktX5_init_4
def dkwX5_init_2 : List UInt8 := [16, 96, 188, 10, 181, 0, 25, 42, 8, 188, 10, 181, 0, 28, 42, 8, 188, 10, 181, 0, 31, 42, 8]
abbrev dktX5_init_2 : List UInt8 := dkwX5_init_2 ++ dktX5_init_3
def dkwX5_init_1 : List UInt8 := [17, 11, 224, 188, 10, 181, 0, 16, 42, 7, 188, 10, 181, 0, 19, 42, 7, 188, 10, 181, 0, 22, 42]
abbrev dktX5_init_1 : List UInt8 := dkwX5_init_1 ++ dktX5_init_2
def dkwX5_init_0 : List UInt8 := [42, 183, 0, 1, 42, 17, 11, 224, 188, 10, 181, 0, 7, 42, 17, 11, 224, 188, 10, 181, 0, 13, 42]
abbrev dktX5_init_0 : List UInt8 := dkwX5_init_0 ++ dktX5_init_1
theorem dksX5_init_0 : cX5_init.data.toList.drop 0 = dktX5_init_0 := by decide +kernel
theorem dksX5_init_1 : cX5_init.data.toList.drop 23 = dktX5_init_1 := dk_seg dksX5_init_0 23 rfl rfl
theorem dksX5_init_2 : cX5_init.data.toList.drop 46 = dktX5_init_2 := dk_seg dksX5_init_1 23 rfl rfl
theorem dksX5_init_3 : cX5_init.data.toList.drop 69 = dktX5_init_3 := dk_seg dksX5_init_2 23 rfl rfl
theorem dksX5_init_4 : cX5_init.data.toList.drop 93 = dktX5_init_4 := dk_seg dksX5_init_3 24 rfl rfl
theorem dksX5_init_5 : cX5_init.data.toList.drop 115 = dktX5_init_5 := dk_seg dksX5_init_4 22 rfl rfl
theorem dksX5_init_6 : cX5_init.data.toList.drop 139 = dktX5_init_6 := dk_seg dksX5_init_5 24 rfl rfl
theorem dksX5_init_7 : cX5_init.data.toList.drop 163 = dktX5_init_7 := dk_seg dksX5_init_6 24 rfl rfl
theorem dksX5_init_8 : cX5_init.data.toList.drop 186 = dktX5_init_8 := dk_seg dksX5_init_7 23 rfl rfl
theorem dX5_init_0 : decode cX5_init 0 = .ok (.aload_n 0, 1) := dk_42 (dk_at dksX5_init_0 0 rfl rfl)
theorem dX5_init_1 : decode cX5_init 1 = .ok (.invokespecial 1, 3) := dk_183 0 1 (dk_at dksX5_init_0 1 rfl rfl)
theorem dX5_init_4 : decode cX5_init 4 = .ok (.aload_n 0, 1) := dk_42 (dk_at dksX5_init_0 4 rfl rfl)
theorem dX5_init_5 : decode cX5_init 5 = .ok (.sipush 3040, 3) := dk_17 11 224 (dk_at dksX5_init_0 5 rfl rfl)
theorem dX5_init_8 : decode cX5_init 8 = .ok (.newarray .int, 2) := dk_188_10 (dk_at dksX5_init_0 8 rfl rfl)
theorem dX5_init_10 : decode cX5_init 10 = .ok (.putfield 7, 3) := dk_181 0 7 (dk_at dksX5_init_0 10 rfl rfl)
theorem dX5_init_13 : decode cX5_init 13 = .ok (.aload_n 0, 1) := dk_42 (dk_at dksX5_init_0 13 rfl rfl)
theorem dX5_init_14 : decode cX5_init 14 = .ok (.sipush 3040, 3) := dk_17 11 224 (dk_at dksX5_init_0 14 rfl rfl)
theorem dX5_init_17 : decode cX5_init 17 = .ok (.newarray .int, 2) := dk_188_10 (dk_at dksX5_init_0 17 rfl rfl)
theorem dX5_init_19 : decode cX5_init 19 = .ok (.putfield 13, 3) := dk_181 0 13 (dk_at dksX5_init_0 19 rfl rfl)
theorem dX5_init_22 : decode cX5_init 22 = .ok (.aload_n 0, 1) := dk_42 (dk_at dksX5_init_0 22 rfl rfl)
theorem dX5_init_23 : decode cX5_init 23 = .ok (.sipush 3040, 3) := dk_17 11 224 (dk_at dksX5_init_1 0 rfl rfl)
theorem dX5_init_26 : decode cX5_init 26 = .ok (.newarray .int, 2) := dk_188_10 (dk_at dksX5_init_1 3 rfl rfl)
theorem dX5_init_28 : decode cX5_init 28 = .ok (.putfield 16, 3) := dk_181 0 16 (dk_at dksX5_init_1 5 rfl rfl)
theorem dX5_init_31 : decode cX5_init 31 = .ok (.aload_n 0, 1) := dk_42 (dk_at dksX5_init_1 8 rfl rfl)
theorem dX5_init_32 : decode cX5_init 32 = .ok (.iconst 4, 1) := dk_7 (dk_at dksX5_init_1 9 rfl rfl)
theorem dX5_init_33 : decode cX5_init 33 = .ok (.newarray .int, 2) := dk_188_10 (dk_at dksX5_init_1 10 rfl rfl)
theorem dX5_init_35 : decode cX5_init 35 = .ok (.putfield 19, 3) := dk_181 0 19 (dk_at dksX5_init_1 12 rfl rfl)
theorem dX5_init_38 : decode cX5_init 38 = .ok (.aload_n 0, 1) := dk_42 (dk_at dksX5_init_1 15 rfl rfl)
theorem dX5_init_39 : decode cX5_init 39 = .ok (.iconst 4, 1) := dk_7 (dk_at dksX5_init_1 16 rfl rfl)
theorem dX5_init_40 : decode cX5_init 40 = .ok (.newarray .int, 2) := dk_188_10 (dk_at dksX5_init_1 17 rfl rfl)
theorem dX5_init_42 : decode cX5_init 42 = .ok (.putfield 22, 3) := dk_181 0 22 (dk_at dksX5_init_1 19 rfl rfl)
theorem dX5_init_45 : decode cX5_init 45 = .ok (.aload_n 0, 1) := dk_42 (dk_at dksX5_init_1 22 rfl rfl)
theorem dX5_init_46 : decode cX5_init 46 = .ok (.bipush 96, 2) := dk_16 96 (dk_at dksX5_init_2 0 rfl rfl)
theorem dX5_init_48 : decode cX5_init 48 = .ok (.newarray .int, 2) := dk_188_10 (dk_at dksX5_init_2 2 rfl rfl)
theorem dX5_init_50 : decode cX5_init 50 = .ok (.putfield 25, 3) := dk_181 0 25 (dk_at dksX5_init_2 4 rfl rfl)
theorem dX5_init_53 : decode cX5_init 53 = .ok (.aload_n 0, 1) := dk_42 (dk_at dksX5_init_2 7 rfl rfl)
theorem dX5_init_54 : decode cX5_init 54 = .ok (.iconst 5, 1) := dk_8 (dk_at dksX5_init_2 8 rfl rfl)
theorem dX5_init_55 : decode cX5_init 55 = .ok (.newarray .int, 2) := dk_188_10 (dk_at dksX5_init_2 9 rfl rfl)
theorem dX5_init_57 : decode cX5_init 57 = .ok (.putfield 28, 3) := dk_181 0 28 (dk_at dksX5_init_2 11 rfl rfl)
theorem dX5_init_60 : decode cX5_init 60 = .ok (.aload_n 0, 1) := dk_42 (dk_at dksX5_init_2 14 rfl rfl)
theorem dX5_init_61 : decode cX5_init 61 = .ok (.iconst 5, 1) := dk_8 (dk_at dksX5_init_2 15 rfl rfl)
theorem dX5_init_62 : decode cX5_init 62 = .ok (.newarray .int, 2) := dk_188_10 (dk_at dksX5_init_2 16 rfl rfl)
theorem dX5_init_64 : decode cX5_init 64 = .ok (.putfield 31, 3) := dk_181 0 31 (dk_at dksX5_init_2 18 rfl rfl)
theorem dX5_init_67 : decode cX5_init 67 = .ok (.aload_n 0, 1) := dk_42 (dk_at dksX5_init_2 21 rfl rfl)
theorem dX5_init_68 : decode cX5_init 68 = .ok (.iconst 5, 1) := dk_8 (dk_at dksX5_init_2 22 rfl rfl)
theorem dX5_init_69 : decode cX5_init 69 = .ok (.newarray .int, 2) := dk_188_10 (dk_at dksX5_init_3 0 rfl rfl)
theorem dX5_init_71 : decode cX5_init 71 = .ok (.putfield 34, 3) := dk_181 0 34 (dk_at dksX5_init_3 2 rfl rfl)
theorem dX5_init_74 : decode cX5_init 74 = .ok (.aload_n 0, 1) := dk_42 (dk_at dksX5_init_3 5 rfl rfl)
theorem dX5_init_75 : decode cX5_init 75 = .ok (.iconst 5, 1) := dk_8 (dk_at dksX5_init_3 6 rfl rfl)
theorem dX5_init_76 : decode cX5_init 76 = .ok (.newarray .int, 2) := dk_188_10 (dk_at dksX5_init_3 7 rfl rfl)
theorem dX5_init_78 : decode cX5_init 78 = .ok (.putfield 37, 3) := dk_181 0 37 (dk_at dksX5_init_3 9 rfl rfl)
theorem dX5_init_81 : decode cX5_init 81 = .ok (.aload_n 0, 1) := dk_42 (dk_at dksX5_init_3 12 rfl rfl)
theorem dX5_init_82 : decode cX5_init 82 = .ok (.bipush 120, 2) := dk_16 120 (dk_at dksX5_init_3 13 rfl rfl)
theorem dX5_init_84 : decode cX5_init 84 = .ok (.newarray .int, 2) := dk_188_10 (dk_at dksX5_init_3 15 rfl rfl)
theorem dX5_init_86 : decode cX5_init 86 = .ok (.putfield 40, 3) := dk_181 0 40 (dk_at dksX5_init_3 17 rfl rfl)
theorem dX5_init_89 : decode cX5_init 89 = .ok (.aload_n 0, 1) := dk_42 (dk_at dksX5_init_3 20 rfl rfl)
theorem dX5_init_90 : decode cX5_init 90 = .ok (.sipush 720, 3) := dk_17 2 208 (dk_at dksX5_init_3 21 rfl rfl)
theorem dX5_init_93 : decode cX5_init 93 = .ok (.newarray .int, 2) := dk_188_10 (dk_at dksX5_init_4 0 rfl rfl)
theorem dX5_init_95 : decode cX5_init 95 = .ok (.putfield 43, 3) := dk_181 0 43 (dk_at dksX5_init_4 2 rfl rfl)
theorem dX5_init_98 : decode cX5_init 98 = .ok (.aload_n 0, 1) := dk_42 (dk_at dksX5_init_4 5 rfl rfl)
theorem dX5_init_99 : decode cX5_init 99 = .ok (.bipush 40, 2) := dk_16 40 (dk_at dksX5_init_4 6 rfl rfl)
theorem dX5_init_101 : decode cX5_init 101 = .ok (.newarray .int, 2) := dk_188_10 (dk_at dksX5_init_4 8 rfl rfl)
theorem dX5_init_103 : decode cX5_init 103 = .ok (.putfield 46, 3) := dk_181 0 46 (dk_at dksX5_init_4 10 rfl rfl)
theorem dX5_init_106 : decode cX5_init 106 = .ok (.aload_n 0, 1) := dk_42 (dk_at dksX5_init_4 13 rfl rfl)
theorem dX5_init_107 : decode cX5_init 107 = .ok (.bipush 96, 2) := dk_16 96 (dk_at dksX5_init_4 14 rfl rfl)
theorem dX5_init_109 : decode cX5_init 109 = .ok (.newarray .int, 2) := dk_188_10 (dk_at dksX5_init_4 16 rfl rfl)
theorem dX5_init_111 : decode cX5_init 111 = .ok (.putfield 49, 3) := dk_181 0 49 (dk_at dksX5_init_4 18 rfl rfl)
theorem dX5_init_114 : decode cX5_init 114 = .ok (.aload_n 0, 1) := dk_42 (dk_at dksX5_init_4 21 rfl rfl)
theorem dX5_init_115 : decode cX5_init 115 = .ok (.sipush 128, 3) := dk_17 0 128 (dk_at dksX5_init_5 0 rfl rfl)
theorem dX5_init_118 : decode cX5_init 118 = .ok (.newarray .int, 2) := dk_188_10 (dk_at dksX5_init_5 3 rfl rfl)
theorem dX5_init_120 : decode cX5_init 120 = .ok (.putfield 52, 3) := dk_181 0 52 (dk_at dksX5_init_5 5 rfl rfl)
theorem dX5_init_123 : decode cX5_init 123 = .ok (.aload_n 0, 1) := dk_42 (dk_at dksX5_init_5 8 rfl rfl)
theorem dX5_init_124 : decode cX5_init 124 = .ok (.bipush 100, 2) := dk_16 100 (dk_at dksX5_init_5 9 rfl rfl)
theorem dX5_init_126 : decode cX5_init 126 = .ok (.newarray .int, 2) := dk_188_10 (dk_at dksX5_init_5 11 rfl rfl)
theorem dX5_init_128 : decode cX5_init 128 = .ok (.putfield 55, 3) := dk_181 0 55 (dk_at dksX5_init_5 13 rfl rfl)
theorem dX5_init_131 : decode cX5_init 131 = .ok (.aload_n 0, 1) := dk_42 (dk_at dksX5_init_5 16 rfl rfl)
theorem dX5_init_132 : decode cX5_init 132 = .ok (.bipush 24, 2) := dk_16 24 (dk_at dksX5_init_5 17 rfl rfl)
theorem dX5_init_134 : decode cX5_init 134 = .ok (.newarray .int, 2) := dk_188_10 (dk_at dksX5_init_5 19 rfl rfl)
theorem dX5_init_136 : decode cX5_init 136 = .ok (.putfield 58, 3) := dk_181 0 58 (dk_at dksX5_init_5 21 rfl rfl)
theorem dX5_init_139 : decode cX5_init 139 = .ok (.aload_n 0, 1) := dk_42 (dk_at dksX5_init_6 0 rfl rfl)
theorem dX5_init_140 : decode cX5_init 140 = .ok (.bipush 60, 2) := dk_16 60 (dk_at dksX5_init_6 1 rfl rfl)
theorem dX5_init_142 : decode cX5_init 142 = .ok (.newarray .int, 2) := dk_188_10 (dk_at dksX5_init_6 3 rfl rfl)
theorem dX5_init_144 : decode cX5_init 144 = .ok (.putfield 61, 3) := dk_181 0 61 (dk_at dksX5_init_6 5 rfl rfl)
theorem dX5_init_147 : decode cX5_init 147 = .ok (.aload_n 0, 1) := dk_42 (dk_at dksX5_init_6 8 rfl rfl)
theorem dX5_init_148 : decode cX5_init 148 = .ok (.bipush 60, 2) := dk_16 60 (dk_at dksX5_init_6 9 rfl rfl)
theorem dX5_init_150 : decode cX5_init 150 = .ok (.newarray .int, 2) := dk_188_10 (dk_at dksX5_init_6 11 rfl rfl)
theorem dX5_init_152 : decode cX5_init 152 = .ok (.putfield 64, 3) := dk_181 0 64 (dk_at dksX5_init_6 13 rfl rfl)
theorem dX5_init_155 : decode cX5_init 155 = .ok (.aload_n 0, 1) := dk_42 (dk_at dksX5_init_6 16 rfl rfl)
theorem dX5_init_156 : decode cX5_init 156 = .ok (.getfield 7, 3) := dk_180 0 7 (dk_at dksX5_init_6 17 rfl rfl)
theorem dX5_init_159 : decode cX5_init 159 = .ok (.bipush 9, 2) := dk_16 9 (dk_at dksX5_init_6 20 rfl rfl)
theorem dX5_init_161 : decode cX5_init 161 = .ok (.iconst 1, 1) := dk_4 (dk_at dksX5_init_6 22 rfl rfl)
theorem dX5_init_162 : decode cX5_init 162 = .ok (.iastore, 1) := dk_79 (dk_at dksX5_init_6 23 rfl rfl)
theorem dX5_init_163 : decode cX5_init 163 = .ok (.aload_n 0, 1) := dk_42 (dk_at dksX5_init_7 0 rfl rfl)
theorem dX5_init_164 : decode cX5_init 164 = .ok (.getfield 7, 3) := dk_180 0 7 (dk_at dksX5_init_7 1 rfl rfl)
theorem dX5_init_167 : decode cX5_init 167 = .ok (.bipush 6, 2) := dk_16 6 (dk_at dksX5_init_7 4 rfl rfl)
theorem dX5_init_169 : decode cX5_init 169 = .ok (.bipush 100, 2) := dk_16 100 (dk_at dksX5_init_7 6 rfl rfl)
theorem dX5_init_171 : decode cX5_init 171 = .ok (.iastore, 1) := dk_79 (dk_at dksX5_init_7 8 rfl rfl)
theorem dX5_init_172 : decode cX5_init 172 = .ok (.iconst 0, 1) := dk_3 (dk_at dksX5_init_7 9 rfl rfl)
theorem dX5_init_173 : decode cX5_init 173 = .ok (.istore_n 1, 1) := dk_60 (dk_at dksX5_init_7 10 rfl rfl)
theorem dX5_init_174 : decode cX5_init 174 = .ok (.iload_n 1, 1) := dk_27 (dk_at dksX5_init_7 11 rfl rfl)
theorem dX5_init_175 : decode cX5_init 175 = .ok (.iconst 4, 1) := dk_7 (dk_at dksX5_init_7 12 rfl rfl)
theorem dX5_init_176 : decode cX5_init 176 = .ok (.if_icmp .ge 16, 3) := dk_162 0 16 (dk_at dksX5_init_7 13 rfl rfl)
theorem dX5_init_179 : decode cX5_init 179 = .ok (.aload_n 0, 1) := dk_42 (dk_at dksX5_init_7 16 rfl rfl)
theorem dX5_init_180 : decode cX5_init 180 = .ok (.getfield 19, 3) := dk_180 0 19 (dk_at dksX5_init_7 17 rfl rfl)
theorem dX5_init_183 : decode cX5_init 183 = .ok (.iload_n 1, 1) := dk_27 (dk_at dksX5_init_7 20 rfl rfl)
theorem dX5_init_184 : decode cX5_init 184 = .ok (.iconst (-1), 1) := dk_2 (dk_at dksX5_init_7 21 rfl rfl)
theorem dX5_init_185 : decode cX5_init 185 = .ok (.iastore, 1) := dk_79 (dk_at dksX5_init_7 22 rfl rfl)
theorem dX5_init_186 : decode cX5_init 186 = .ok (.iinc 1 1, 3) := dk_132 1 1 (dk_at dksX5_init_8 0 rfl rfl)
theorem dX5_init_189 : decode cX5_init 189 = .ok (.goto (-15), 3) := dk_167 255 241 (dk_at dksX5_init_8 3 rfl rfl)
theorem dX5_init_192 : decode cX5_init 192 = .ok (.return_, 1) := dk_177 (dk_at dksX5_init_8 6 rfl rfl)
abbrev cX5_clock : ByteArray := prog_18_method_15_code
def yX5_clock : MethodName := ⟨RX5, "clock", "(III)I"⟩
def dkwX5_clock_2 : List UInt8 := [160, 0, 6, 18, 84, 172, 42, 27, 28, 29, 182, 0, 85, 42, 180, 0, 7, 3, 46, 4, 100, 172]
abbrev dktX5_clock_2 : List UInt8 := dkwX5_clock_2 ++ []
def dkwX5_clock_1 : List UInt8 := [29, 133, 9, 20, 0, 81, 184, 0, 68, 154, 0, 6, 18, 83, 172, 42, 180, 0, 7, 3, 46, 16, 6]
abbrev dktX5_clock_1 : List UInt8 := dkwX5_clock_1 ++ dktX5_clock_2
def dkwX5_clock_0 : List UInt8 := [27, 133, 9, 20, 0, 77, 184, 0, 68, 153, 0, 27, 28, 133, 9, 20, 0, 79, 184, 0, 68, 153, 0, 15]
abbrev dktX5_clock_0 : List UInt8 := dkwX5_clock_0 ++ dktX5_clock_1
theorem dksX5_clock_0 : cX5_clock.data.toList.drop 0 = dktX5_clock_0 := by decide +kernel
theorem dksX5_clock_1 : cX5_clock.data.toList.drop 24 = dktX5_clock_1 := dk_seg dksX5_clock_0 24 rfl rfl
theorem dksX5_clock_2 : cX5_clock.data.toList.drop 47 = dktX5_clock_2 := dk_seg dksX5_clock_1 23 rfl rfl
theorem dX5_clock_0 : decode cX5_clock 0 = .ok (.iload_n 1, 1) := dk_27 (dk_at dksX5_clock_0 0 rfl rfl)
theorem dX5_clock_1 : decode cX5_clock 1 = .ok (.i2l, 1) := dk_133 (dk_at dksX5_clock_0 1 rfl rfl)
theorem dX5_clock_2 : decode cX5_clock 2 = .ok (.lconst 0, 1) := dk_9 (dk_at dksX5_clock_0 2 rfl rfl)
theorem dX5_clock_3 : decode cX5_clock 3 = .ok (.ldc2_w 77, 3) := dk_20 0 77 (dk_at dksX5_clock_0 3 rfl rfl)
theorem dX5_clock_6 : decode cX5_clock 6 = .ok (.invokestatic 68, 3) := dk_184 0 68 (dk_at dksX5_clock_0 6 rfl rfl)
theorem dX5_clock_9 : decode cX5_clock 9 = .ok (.ifCond .eq 27, 3) := dk_153 0 27 (dk_at dksX5_clock_0 9 rfl rfl)
theorem dX5_clock_12 : decode cX5_clock 12 = .ok (.iload_n 2, 1) := dk_28 (dk_at dksX5_clock_0 12 rfl rfl)
theorem dX5_clock_13 : decode cX5_clock 13 = .ok (.i2l, 1) := dk_133 (dk_at dksX5_clock_0 13 rfl rfl)
theorem dX5_clock_14 : decode cX5_clock 14 = .ok (.lconst 0, 1) := dk_9 (dk_at dksX5_clock_0 14 rfl rfl)
theorem dX5_clock_15 : decode cX5_clock 15 = .ok (.ldc2_w 79, 3) := dk_20 0 79 (dk_at dksX5_clock_0 15 rfl rfl)
theorem dX5_clock_18 : decode cX5_clock 18 = .ok (.invokestatic 68, 3) := dk_184 0 68 (dk_at dksX5_clock_0 18 rfl rfl)
theorem dX5_clock_21 : decode cX5_clock 21 = .ok (.ifCond .eq 15, 3) := dk_153 0 15 (dk_at dksX5_clock_0 21 rfl rfl)
theorem dX5_clock_24 : decode cX5_clock 24 = .ok (.iload_n 3, 1) := dk_29 (dk_at dksX5_clock_1 0 rfl rfl)
theorem dX5_clock_25 : decode cX5_clock 25 = .ok (.i2l, 1) := dk_133 (dk_at dksX5_clock_1 1 rfl rfl)
theorem dX5_clock_26 : decode cX5_clock 26 = .ok (.lconst 0, 1) := dk_9 (dk_at dksX5_clock_1 2 rfl rfl)
theorem dX5_clock_27 : decode cX5_clock 27 = .ok (.ldc2_w 81, 3) := dk_20 0 81 (dk_at dksX5_clock_1 3 rfl rfl)
theorem dX5_clock_30 : decode cX5_clock 30 = .ok (.invokestatic 68, 3) := dk_184 0 68 (dk_at dksX5_clock_1 6 rfl rfl)
theorem dX5_clock_33 : decode cX5_clock 33 = .ok (.ifCond .ne 6, 3) := dk_154 0 6 (dk_at dksX5_clock_1 9 rfl rfl)
theorem dX5_clock_36 : decode cX5_clock 36 = .ok (.ldc 83, 2) := dk_18 83 (dk_at dksX5_clock_1 12 rfl rfl)
theorem dX5_clock_38 : decode cX5_clock 38 = .ok (.ireturn, 1) := dk_172 (dk_at dksX5_clock_1 14 rfl rfl)
theorem dX5_clock_39 : decode cX5_clock 39 = .ok (.aload_n 0, 1) := dk_42 (dk_at dksX5_clock_1 15 rfl rfl)
theorem dX5_clock_40 : decode cX5_clock 40 = .ok (.getfield 7, 3) := dk_180 0 7 (dk_at dksX5_clock_1 16 rfl rfl)
theorem dX5_clock_43 : decode cX5_clock 43 = .ok (.iconst 0, 1) := dk_3 (dk_at dksX5_clock_1 19 rfl rfl)
theorem dX5_clock_44 : decode cX5_clock 44 = .ok (.iaload, 1) := dk_46 (dk_at dksX5_clock_1 20 rfl rfl)
theorem dX5_clock_45 : decode cX5_clock 45 = .ok (.bipush 6, 2) := dk_16 6 (dk_at dksX5_clock_1 21 rfl rfl)
theorem dX5_clock_47 : decode cX5_clock 47 = .ok (.if_icmp .ne 6, 3) := dk_160 0 6 (dk_at dksX5_clock_2 0 rfl rfl)
theorem dX5_clock_50 : decode cX5_clock 50 = .ok (.ldc 84, 2) := dk_18 84 (dk_at dksX5_clock_2 3 rfl rfl)
theorem dX5_clock_52 : decode cX5_clock 52 = .ok (.ireturn, 1) := dk_172 (dk_at dksX5_clock_2 5 rfl rfl)
theorem dX5_clock_53 : decode cX5_clock 53 = .ok (.aload_n 0, 1) := dk_42 (dk_at dksX5_clock_2 6 rfl rfl)
theorem dX5_clock_54 : decode cX5_clock 54 = .ok (.iload_n 1, 1) := dk_27 (dk_at dksX5_clock_2 7 rfl rfl)
theorem dX5_clock_55 : decode cX5_clock 55 = .ok (.iload_n 2, 1) := dk_28 (dk_at dksX5_clock_2 8 rfl rfl)
theorem dX5_clock_56 : decode cX5_clock 56 = .ok (.iload_n 3, 1) := dk_29 (dk_at dksX5_clock_2 9 rfl rfl)
theorem dX5_clock_57 : decode cX5_clock 57 = .ok (.invokevirtual 85, 3) := dk_182 0 85 (dk_at dksX5_clock_2 10 rfl rfl)
theorem dX5_clock_60 : decode cX5_clock 60 = .ok (.aload_n 0, 1) := dk_42 (dk_at dksX5_clock_2 13 rfl rfl)
theorem dX5_clock_61 : decode cX5_clock 61 = .ok (.getfield 7, 3) := dk_180 0 7 (dk_at dksX5_clock_2 14 rfl rfl)
theorem dX5_clock_64 : decode cX5_clock 64 = .ok (.iconst 0, 1) := dk_3 (dk_at dksX5_clock_2 17 rfl rfl)
theorem dX5_clock_65 : decode cX5_clock 65 = .ok (.iaload, 1) := dk_46 (dk_at dksX5_clock_2 18 rfl rfl)
theorem dX5_clock_66 : decode cX5_clock 66 = .ok (.iconst 1, 1) := dk_4 (dk_at dksX5_clock_2 19 rfl rfl)
theorem dX5_clock_67 : decode cX5_clock 67 = .ok (.isub, 1) := dk_100 (dk_at dksX5_clock_2 20 rfl rfl)
theorem dX5_clock_68 : decode cX5_clock 68 = .ok (.ireturn, 1) := dk_172 (dk_at dksX5_clock_2 21 rfl rfl)
abbrev cX5_isIn : ByteArray := prog_18_method_2_code
def yX5_isIn : MethodName := ⟨RX5, "isIn", "(JJJ)Z"⟩
def dkwX5_isIn_0 : List UInt8 := [30, 32, 148, 155, 0, 14, 30, 22, 4, 148, 157, 0, 7, 4, 167, 0, 4, 3, 172]
abbrev dktX5_isIn_0 : List UInt8 := dkwX5_isIn_0 ++ []
theorem dksX5_isIn_0 : cX5_isIn.data.toList.drop 0 = dktX5_isIn_0 := by decide +kernel
theorem dX5_isIn_0 : decode cX5_isIn 0 = .ok (.lload_n 0, 1) := dk_30 (dk_at dksX5_isIn_0 0 rfl rfl)
theorem dX5_isIn_1 : decode cX5_isIn 1 = .ok (.lload_n 2, 1) := dk_32 (dk_at dksX5_isIn_0 1 rfl rfl)
theorem dX5_isIn_2 : decode cX5_isIn 2 = .ok (.lcmp, 1) := dk_148 (dk_at dksX5_isIn_0 2 rfl rfl)
theorem dX5_isIn_3 : decode cX5_isIn 3 = .ok (.ifCond .lt 14, 3) := dk_155 0 14 (dk_at dksX5_isIn_0 3 rfl rfl)
theorem dX5_isIn_6 : decode cX5_isIn 6 = .ok (.lload_n 0, 1) := dk_30 (dk_at dksX5_isIn_0 6 rfl rfl)
theorem dX5_isIn_7 : decode cX5_isIn 7 = .ok (.lload 4, 2) := dk_22 4 (dk_at dksX5_isIn_0 7 rfl rfl)
theorem dX5_isIn_9 : decode cX5_isIn 9 = .ok (.lcmp, 1) := dk_148 (dk_at dksX5_isIn_0 9 rfl rfl)
theorem dX5_isIn_10 : decode cX5_isIn 10 = .ok (.ifCond .gt 7, 3) := dk_157 0 7 (dk_at dksX5_isIn_0 10 rfl rfl)
theorem dX5_isIn_13 : decode cX5_isIn 13 = .ok (.iconst 1, 1) := dk_4 (dk_at dksX5_isIn_0 13 rfl rfl)
theorem dX5_isIn_14 : decode cX5_isIn 14 = .ok (.goto 4, 3) := dk_167 0 4 (dk_at dksX5_isIn_0 14 rfl rfl)
theorem dX5_isIn_17 : decode cX5_isIn 17 = .ok (.iconst 0, 1) := dk_3 (dk_at dksX5_isIn_0 17 rfl rfl)
theorem dX5_isIn_18 : decode cX5_isIn 18 = .ok (.ireturn, 1) := dk_172 (dk_at dksX5_isIn_0 18 rfl rfl)
abbrev cX5_comes : ByteArray := prog_18_method_14_code
def yX5_comes : MethodName := ⟨RX5, "comes", "(III)V"⟩
def dkwX5_comes_1 : List UInt8 := [182, 0, 73, 42, 21, 4, 4, 28, 182, 0, 73, 42, 21, 4, 5, 29, 182, 0, 73, 177]
abbrev dktX5_comes_1 : List UInt8 := dkwX5_comes_1 ++ []
def dkwX5_comes_0 : List UInt8 := [42, 180, 0, 7, 3, 46, 54, 4, 42, 180, 0, 7, 3, 92, 46, 4, 96, 79, 42, 21, 4, 3, 27]
abbrev dktX5_comes_0 : List UInt8 := dkwX5_comes_0 ++ dktX5_comes_1
theorem dksX5_comes_0 : cX5_comes.data.toList.drop 0 = dktX5_comes_0 := by decide +kernel
theorem dksX5_comes_1 : cX5_comes.data.toList.drop 23 = dktX5_comes_1 := dk_seg dksX5_comes_0 23 rfl rfl
theorem dX5_comes_0 : decode cX5_comes 0 = .ok (.aload_n 0, 1) := dk_42 (dk_at dksX5_comes_0 0 rfl rfl)
theorem dX5_comes_1 : decode cX5_comes 1 = .ok (.getfield 7, 3) := dk_180 0 7 (dk_at dksX5_comes_0 1 rfl rfl)
theorem dX5_comes_4 : decode cX5_comes 4 = .ok (.iconst 0, 1) := dk_3 (dk_at dksX5_comes_0 4 rfl rfl)
theorem dX5_comes_5 : decode cX5_comes 5 = .ok (.iaload, 1) := dk_46 (dk_at dksX5_comes_0 5 rfl rfl)
theorem dX5_comes_6 : decode cX5_comes 6 = .ok (.istore 4, 2) := dk_54 4 (dk_at dksX5_comes_0 6 rfl rfl)
theorem dX5_comes_8 : decode cX5_comes 8 = .ok (.aload_n 0, 1) := dk_42 (dk_at dksX5_comes_0 8 rfl rfl)
theorem dX5_comes_9 : decode cX5_comes 9 = .ok (.getfield 7, 3) := dk_180 0 7 (dk_at dksX5_comes_0 9 rfl rfl)
theorem dX5_comes_12 : decode cX5_comes 12 = .ok (.iconst 0, 1) := dk_3 (dk_at dksX5_comes_0 12 rfl rfl)
theorem dX5_comes_13 : decode cX5_comes 13 = .ok (.dup2, 1) := dk_92 (dk_at dksX5_comes_0 13 rfl rfl)
theorem dX5_comes_14 : decode cX5_comes 14 = .ok (.iaload, 1) := dk_46 (dk_at dksX5_comes_0 14 rfl rfl)
theorem dX5_comes_15 : decode cX5_comes 15 = .ok (.iconst 1, 1) := dk_4 (dk_at dksX5_comes_0 15 rfl rfl)
theorem dX5_comes_16 : decode cX5_comes 16 = .ok (.iadd, 1) := dk_96 (dk_at dksX5_comes_0 16 rfl rfl)
theorem dX5_comes_17 : decode cX5_comes 17 = .ok (.iastore, 1) := dk_79 (dk_at dksX5_comes_0 17 rfl rfl)
theorem dX5_comes_18 : decode cX5_comes 18 = .ok (.aload_n 0, 1) := dk_42 (dk_at dksX5_comes_0 18 rfl rfl)
theorem dX5_comes_19 : decode cX5_comes 19 = .ok (.iload 4, 2) := dk_21 4 (dk_at dksX5_comes_0 19 rfl rfl)
theorem dX5_comes_21 : decode cX5_comes 21 = .ok (.iconst 0, 1) := dk_3 (dk_at dksX5_comes_0 21 rfl rfl)
theorem dX5_comes_22 : decode cX5_comes 22 = .ok (.iload_n 1, 1) := dk_27 (dk_at dksX5_comes_0 22 rfl rfl)
theorem dX5_comes_23 : decode cX5_comes 23 = .ok (.invokevirtual 73, 3) := dk_182 0 73 (dk_at dksX5_comes_1 0 rfl rfl)
theorem dX5_comes_26 : decode cX5_comes 26 = .ok (.aload_n 0, 1) := dk_42 (dk_at dksX5_comes_1 3 rfl rfl)
theorem dX5_comes_27 : decode cX5_comes 27 = .ok (.iload 4, 2) := dk_21 4 (dk_at dksX5_comes_1 4 rfl rfl)
theorem dX5_comes_29 : decode cX5_comes 29 = .ok (.iconst 1, 1) := dk_4 (dk_at dksX5_comes_1 6 rfl rfl)
theorem dX5_comes_30 : decode cX5_comes 30 = .ok (.iload_n 2, 1) := dk_28 (dk_at dksX5_comes_1 7 rfl rfl)
theorem dX5_comes_31 : decode cX5_comes 31 = .ok (.invokevirtual 73, 3) := dk_182 0 73 (dk_at dksX5_comes_1 8 rfl rfl)
theorem dX5_comes_34 : decode cX5_comes 34 = .ok (.aload_n 0, 1) := dk_42 (dk_at dksX5_comes_1 11 rfl rfl)
theorem dX5_comes_35 : decode cX5_comes 35 = .ok (.iload 4, 2) := dk_21 4 (dk_at dksX5_comes_1 12 rfl rfl)
theorem dX5_comes_37 : decode cX5_comes 37 = .ok (.iconst 2, 1) := dk_5 (dk_at dksX5_comes_1 14 rfl rfl)
theorem dX5_comes_38 : decode cX5_comes 38 = .ok (.iload_n 3, 1) := dk_29 (dk_at dksX5_comes_1 15 rfl rfl)
theorem dX5_comes_39 : decode cX5_comes 39 = .ok (.invokevirtual 73, 3) := dk_182 0 73 (dk_at dksX5_comes_1 16 rfl rfl)
theorem dX5_comes_42 : decode cX5_comes 42 = .ok (.return_, 1) := dk_177 (dk_at dksX5_comes_1 19 rfl rfl)
abbrev cX5_sets : ByteArray := prog_18_method_9_code
def yX5_sets : MethodName := ⟨RX5, "sets", "(III)V"⟩
def dkwX5_sets_0 : List UInt8 := [42, 180, 0, 7, 16, 10, 6, 27, 104, 96, 28, 96, 29, 79, 177]
abbrev dktX5_sets_0 : List UInt8 := dkwX5_sets_0 ++ []
theorem dksX5_sets_0 : cX5_sets.data.toList.drop 0 = dktX5_sets_0 := by decide +kernel
theorem dX5_sets_0 : decode cX5_sets 0 = .ok (.aload_n 0, 1) := dk_42 (dk_at dksX5_sets_0 0 rfl rfl)
theorem dX5_sets_1 : decode cX5_sets 1 = .ok (.getfield 7, 3) := dk_180 0 7 (dk_at dksX5_sets_0 1 rfl rfl)
theorem dX5_sets_4 : decode cX5_sets 4 = .ok (.bipush 10, 2) := dk_16 10 (dk_at dksX5_sets_0 4 rfl rfl)
theorem dX5_sets_6 : decode cX5_sets 6 = .ok (.iconst 3, 1) := dk_6 (dk_at dksX5_sets_0 6 rfl rfl)
theorem dX5_sets_7 : decode cX5_sets 7 = .ok (.iload_n 1, 1) := dk_27 (dk_at dksX5_sets_0 7 rfl rfl)
theorem dX5_sets_8 : decode cX5_sets 8 = .ok (.imul, 1) := dk_104 (dk_at dksX5_sets_0 8 rfl rfl)
theorem dX5_sets_9 : decode cX5_sets 9 = .ok (.iadd, 1) := dk_96 (dk_at dksX5_sets_0 9 rfl rfl)
theorem dX5_sets_10 : decode cX5_sets 10 = .ok (.iload_n 2, 1) := dk_28 (dk_at dksX5_sets_0 10 rfl rfl)
theorem dX5_sets_11 : decode cX5_sets 11 = .ok (.iadd, 1) := dk_96 (dk_at dksX5_sets_0 11 rfl rfl)
theorem dX5_sets_12 : decode cX5_sets 12 = .ok (.iload_n 3, 1) := dk_29 (dk_at dksX5_sets_0 12 rfl rfl)
theorem dX5_sets_13 : decode cX5_sets 13 = .ok (.iastore, 1) := dk_79 (dk_at dksX5_sets_0 13 rfl rfl)
theorem dX5_sets_14 : decode cX5_sets 14 = .ok (.return_, 1) := dk_177 (dk_at dksX5_sets_0 14 rfl rfl)
abbrev cX5_told : ByteArray := prog_18_method_23_code
def yX5_told : MethodName := ⟨RX5, "told", "(II)I"⟩
def dkwX5_told_4 : List UInt8 := [27, 182, 0, 118, 172]
abbrev dktX5_told_4 : List UInt8 := dkwX5_told_4 ++ []
def dkwX5_told_3 : List UInt8 := [27, 21, 4, 182, 0, 115, 96, 62, 132, 4, 1, 167, 255, 230, 28, 7, 160, 0, 7, 29, 167, 0, 8, 42]
abbrev dktX5_told_3 : List UInt8 := dkwX5_told_3 ++ dktX5_told_4
def dkwX5_told_2 : List UInt8 := [182, 0, 115, 172, 3, 62, 3, 54, 4, 21, 4, 17, 2, 208, 162, 0, 24, 28, 7, 160, 0, 19, 29, 42]
abbrev dktX5_told_2 : List UInt8 := dkwX5_told_2 ++ dktX5_told_3
def dkwX5_told_1 : List UInt8 := [6, 162, 0, 10, 42, 27, 28, 182, 0, 88, 172, 28, 6, 160, 0, 13, 42, 27, 42, 182, 0, 111]
abbrev dktX5_told_1 : List UInt8 := dkwX5_told_1 ++ dktX5_told_2
def dkwX5_told_0 : List UInt8 := [42, 27, 182, 0, 107, 153, 0, 15, 28, 133, 9, 20, 0, 77, 184, 0, 68, 154, 0, 6, 18, 83, 172, 28]
abbrev dktX5_told_0 : List UInt8 := dkwX5_told_0 ++ dktX5_told_1
theorem dksX5_told_0 : cX5_told.data.toList.drop 0 = dktX5_told_0 := by decide +kernel
theorem dksX5_told_1 : cX5_told.data.toList.drop 24 = dktX5_told_1 := dk_seg dksX5_told_0 24 rfl rfl
theorem dksX5_told_2 : cX5_told.data.toList.drop 46 = dktX5_told_2 := dk_seg dksX5_told_1 22 rfl rfl
theorem dksX5_told_3 : cX5_told.data.toList.drop 70 = dktX5_told_3 := dk_seg dksX5_told_2 24 rfl rfl
theorem dksX5_told_4 : cX5_told.data.toList.drop 94 = dktX5_told_4 := dk_seg dksX5_told_3 24 rfl rfl
theorem dX5_told_0 : decode cX5_told 0 = .ok (.aload_n 0, 1) := dk_42 (dk_at dksX5_told_0 0 rfl rfl)
theorem dX5_told_1 : decode cX5_told 1 = .ok (.iload_n 1, 1) := dk_27 (dk_at dksX5_told_0 1 rfl rfl)
theorem dX5_told_2 : decode cX5_told 2 = .ok (.invokevirtual 107, 3) := dk_182 0 107 (dk_at dksX5_told_0 2 rfl rfl)
theorem dX5_told_5 : decode cX5_told 5 = .ok (.ifCond .eq 15, 3) := dk_153 0 15 (dk_at dksX5_told_0 5 rfl rfl)
theorem dX5_told_8 : decode cX5_told 8 = .ok (.iload_n 2, 1) := dk_28 (dk_at dksX5_told_0 8 rfl rfl)
theorem dX5_told_9 : decode cX5_told 9 = .ok (.i2l, 1) := dk_133 (dk_at dksX5_told_0 9 rfl rfl)
theorem dX5_told_10 : decode cX5_told 10 = .ok (.lconst 0, 1) := dk_9 (dk_at dksX5_told_0 10 rfl rfl)
theorem dX5_told_11 : decode cX5_told 11 = .ok (.ldc2_w 77, 3) := dk_20 0 77 (dk_at dksX5_told_0 11 rfl rfl)
theorem dX5_told_14 : decode cX5_told 14 = .ok (.invokestatic 68, 3) := dk_184 0 68 (dk_at dksX5_told_0 14 rfl rfl)
theorem dX5_told_17 : decode cX5_told 17 = .ok (.ifCond .ne 6, 3) := dk_154 0 6 (dk_at dksX5_told_0 17 rfl rfl)
theorem dX5_told_20 : decode cX5_told 20 = .ok (.ldc 83, 2) := dk_18 83 (dk_at dksX5_told_0 20 rfl rfl)
theorem dX5_told_22 : decode cX5_told 22 = .ok (.ireturn, 1) := dk_172 (dk_at dksX5_told_0 22 rfl rfl)
theorem dX5_told_23 : decode cX5_told 23 = .ok (.iload_n 2, 1) := dk_28 (dk_at dksX5_told_0 23 rfl rfl)
theorem dX5_told_24 : decode cX5_told 24 = .ok (.iconst 3, 1) := dk_6 (dk_at dksX5_told_1 0 rfl rfl)
theorem dX5_told_25 : decode cX5_told 25 = .ok (.if_icmp .ge 10, 3) := dk_162 0 10 (dk_at dksX5_told_1 1 rfl rfl)
theorem dX5_told_28 : decode cX5_told 28 = .ok (.aload_n 0, 1) := dk_42 (dk_at dksX5_told_1 4 rfl rfl)
theorem dX5_told_29 : decode cX5_told 29 = .ok (.iload_n 1, 1) := dk_27 (dk_at dksX5_told_1 5 rfl rfl)
theorem dX5_told_30 : decode cX5_told 30 = .ok (.iload_n 2, 1) := dk_28 (dk_at dksX5_told_1 6 rfl rfl)
theorem dX5_told_31 : decode cX5_told 31 = .ok (.invokevirtual 88, 3) := dk_182 0 88 (dk_at dksX5_told_1 7 rfl rfl)
theorem dX5_told_34 : decode cX5_told 34 = .ok (.ireturn, 1) := dk_172 (dk_at dksX5_told_1 10 rfl rfl)
theorem dX5_told_35 : decode cX5_told 35 = .ok (.iload_n 2, 1) := dk_28 (dk_at dksX5_told_1 11 rfl rfl)
theorem dX5_told_36 : decode cX5_told 36 = .ok (.iconst 3, 1) := dk_6 (dk_at dksX5_told_1 12 rfl rfl)
theorem dX5_told_37 : decode cX5_told 37 = .ok (.if_icmp .ne 13, 3) := dk_160 0 13 (dk_at dksX5_told_1 13 rfl rfl)
theorem dX5_told_40 : decode cX5_told 40 = .ok (.aload_n 0, 1) := dk_42 (dk_at dksX5_told_1 16 rfl rfl)
theorem dX5_told_41 : decode cX5_told 41 = .ok (.iload_n 1, 1) := dk_27 (dk_at dksX5_told_1 17 rfl rfl)
theorem dX5_told_42 : decode cX5_told 42 = .ok (.aload_n 0, 1) := dk_42 (dk_at dksX5_told_1 18 rfl rfl)
theorem dX5_told_43 : decode cX5_told 43 = .ok (.invokevirtual 111, 3) := dk_182 0 111 (dk_at dksX5_told_1 19 rfl rfl)
theorem dX5_told_46 : decode cX5_told 46 = .ok (.invokevirtual 115, 3) := dk_182 0 115 (dk_at dksX5_told_2 0 rfl rfl)
theorem dX5_told_49 : decode cX5_told 49 = .ok (.ireturn, 1) := dk_172 (dk_at dksX5_told_2 3 rfl rfl)
theorem dX5_told_50 : decode cX5_told 50 = .ok (.iconst 0, 1) := dk_3 (dk_at dksX5_told_2 4 rfl rfl)
theorem dX5_told_51 : decode cX5_told 51 = .ok (.istore_n 3, 1) := dk_62 (dk_at dksX5_told_2 5 rfl rfl)
theorem dX5_told_52 : decode cX5_told 52 = .ok (.iconst 0, 1) := dk_3 (dk_at dksX5_told_2 6 rfl rfl)
theorem dX5_told_53 : decode cX5_told 53 = .ok (.istore 4, 2) := dk_54 4 (dk_at dksX5_told_2 7 rfl rfl)
theorem dX5_told_55 : decode cX5_told 55 = .ok (.iload 4, 2) := dk_21 4 (dk_at dksX5_told_2 9 rfl rfl)
theorem dX5_told_57 : decode cX5_told 57 = .ok (.sipush 720, 3) := dk_17 2 208 (dk_at dksX5_told_2 11 rfl rfl)
theorem dX5_told_60 : decode cX5_told 60 = .ok (.if_icmp .ge 24, 3) := dk_162 0 24 (dk_at dksX5_told_2 14 rfl rfl)
theorem dX5_told_63 : decode cX5_told 63 = .ok (.iload_n 2, 1) := dk_28 (dk_at dksX5_told_2 17 rfl rfl)
theorem dX5_told_64 : decode cX5_told 64 = .ok (.iconst 4, 1) := dk_7 (dk_at dksX5_told_2 18 rfl rfl)
theorem dX5_told_65 : decode cX5_told 65 = .ok (.if_icmp .ne 19, 3) := dk_160 0 19 (dk_at dksX5_told_2 19 rfl rfl)
theorem dX5_told_68 : decode cX5_told 68 = .ok (.iload_n 3, 1) := dk_29 (dk_at dksX5_told_2 22 rfl rfl)
theorem dX5_told_69 : decode cX5_told 69 = .ok (.aload_n 0, 1) := dk_42 (dk_at dksX5_told_2 23 rfl rfl)
theorem dX5_told_70 : decode cX5_told 70 = .ok (.iload_n 1, 1) := dk_27 (dk_at dksX5_told_3 0 rfl rfl)
theorem dX5_told_71 : decode cX5_told 71 = .ok (.iload 4, 2) := dk_21 4 (dk_at dksX5_told_3 1 rfl rfl)
theorem dX5_told_73 : decode cX5_told 73 = .ok (.invokevirtual 115, 3) := dk_182 0 115 (dk_at dksX5_told_3 3 rfl rfl)
theorem dX5_told_76 : decode cX5_told 76 = .ok (.iadd, 1) := dk_96 (dk_at dksX5_told_3 6 rfl rfl)
theorem dX5_told_77 : decode cX5_told 77 = .ok (.istore_n 3, 1) := dk_62 (dk_at dksX5_told_3 7 rfl rfl)
theorem dX5_told_78 : decode cX5_told 78 = .ok (.iinc 4 1, 3) := dk_132 4 1 (dk_at dksX5_told_3 8 rfl rfl)
theorem dX5_told_81 : decode cX5_told 81 = .ok (.goto (-26), 3) := dk_167 255 230 (dk_at dksX5_told_3 11 rfl rfl)
theorem dX5_told_84 : decode cX5_told 84 = .ok (.iload_n 2, 1) := dk_28 (dk_at dksX5_told_3 14 rfl rfl)
theorem dX5_told_85 : decode cX5_told 85 = .ok (.iconst 4, 1) := dk_7 (dk_at dksX5_told_3 15 rfl rfl)
theorem dX5_told_86 : decode cX5_told 86 = .ok (.if_icmp .ne 7, 3) := dk_160 0 7 (dk_at dksX5_told_3 16 rfl rfl)
theorem dX5_told_89 : decode cX5_told 89 = .ok (.iload_n 3, 1) := dk_29 (dk_at dksX5_told_3 19 rfl rfl)
theorem dX5_told_90 : decode cX5_told 90 = .ok (.goto 8, 3) := dk_167 0 8 (dk_at dksX5_told_3 20 rfl rfl)
theorem dX5_told_93 : decode cX5_told 93 = .ok (.aload_n 0, 1) := dk_42 (dk_at dksX5_told_3 23 rfl rfl)
theorem dX5_told_94 : decode cX5_told 94 = .ok (.iload_n 1, 1) := dk_27 (dk_at dksX5_told_4 0 rfl rfl)
theorem dX5_told_95 : decode cX5_told 95 = .ok (.invokevirtual 118, 3) := dk_182 0 118 (dk_at dksX5_told_4 1 rfl rfl)
theorem dX5_told_98 : decode cX5_told 98 = .ok (.ireturn, 1) := dk_172 (dk_at dksX5_told_4 4 rfl rfl)
abbrev cX5_isClock : ByteArray := prog_18_method_10_code
def yX5_isClock : MethodName := ⟨RX5, "isClock", "(I)Z"⟩
def dkwX5_isClock_0 : List UInt8 := [27, 133, 9, 42, 180, 0, 7, 3, 46, 4, 100, 133, 184, 0, 68, 172]
abbrev dktX5_isClock_0 : List UInt8 := dkwX5_isClock_0 ++ []
theorem dksX5_isClock_0 : cX5_isClock.data.toList.drop 0 = dktX5_isClock_0 := by decide +kernel
theorem dX5_isClock_0 : decode cX5_isClock 0 = .ok (.iload_n 1, 1) := dk_27 (dk_at dksX5_isClock_0 0 rfl rfl)
theorem dX5_isClock_1 : decode cX5_isClock 1 = .ok (.i2l, 1) := dk_133 (dk_at dksX5_isClock_0 1 rfl rfl)
theorem dX5_isClock_2 : decode cX5_isClock 2 = .ok (.lconst 0, 1) := dk_9 (dk_at dksX5_isClock_0 2 rfl rfl)
theorem dX5_isClock_3 : decode cX5_isClock 3 = .ok (.aload_n 0, 1) := dk_42 (dk_at dksX5_isClock_0 3 rfl rfl)
theorem dX5_isClock_4 : decode cX5_isClock 4 = .ok (.getfield 7, 3) := dk_180 0 7 (dk_at dksX5_isClock_0 4 rfl rfl)
theorem dX5_isClock_7 : decode cX5_isClock 7 = .ok (.iconst 0, 1) := dk_3 (dk_at dksX5_isClock_0 7 rfl rfl)
theorem dX5_isClock_8 : decode cX5_isClock 8 = .ok (.iaload, 1) := dk_46 (dk_at dksX5_isClock_0 8 rfl rfl)
theorem dX5_isClock_9 : decode cX5_isClock 9 = .ok (.iconst 1, 1) := dk_4 (dk_at dksX5_isClock_0 9 rfl rfl)
theorem dX5_isClock_10 : decode cX5_isClock 10 = .ok (.isub, 1) := dk_100 (dk_at dksX5_isClock_0 10 rfl rfl)
theorem dX5_isClock_11 : decode cX5_isClock 11 = .ok (.i2l, 1) := dk_133 (dk_at dksX5_isClock_0 11 rfl rfl)
theorem dX5_isClock_12 : decode cX5_isClock 12 = .ok (.invokestatic 68, 3) := dk_184 0 68 (dk_at dksX5_isClock_0 12 rfl rfl)
theorem dX5_isClock_15 : decode cX5_isClock 15 = .ok (.ireturn, 1) := dk_172 (dk_at dksX5_isClock_0 15 rfl rfl)
abbrev cX5_of : ByteArray := prog_18_method_8_code
def yX5_of : MethodName := ⟨RX5, "of", "(II)I"⟩
def dkwX5_of_0 : List UInt8 := [42, 180, 0, 7, 16, 10, 6, 27, 104, 96, 28, 96, 46, 172]
abbrev dktX5_of_0 : List UInt8 := dkwX5_of_0 ++ []
theorem dksX5_of_0 : cX5_of.data.toList.drop 0 = dktX5_of_0 := by decide +kernel
theorem dX5_of_0 : decode cX5_of 0 = .ok (.aload_n 0, 1) := dk_42 (dk_at dksX5_of_0 0 rfl rfl)
theorem dX5_of_1 : decode cX5_of 1 = .ok (.getfield 7, 3) := dk_180 0 7 (dk_at dksX5_of_0 1 rfl rfl)
theorem dX5_of_4 : decode cX5_of 4 = .ok (.bipush 10, 2) := dk_16 10 (dk_at dksX5_of_0 4 rfl rfl)
theorem dX5_of_6 : decode cX5_of 6 = .ok (.iconst 3, 1) := dk_6 (dk_at dksX5_of_0 6 rfl rfl)
theorem dX5_of_7 : decode cX5_of 7 = .ok (.iload_n 1, 1) := dk_27 (dk_at dksX5_of_0 7 rfl rfl)
theorem dX5_of_8 : decode cX5_of 8 = .ok (.imul, 1) := dk_104 (dk_at dksX5_of_0 8 rfl rfl)
theorem dX5_of_9 : decode cX5_of 9 = .ok (.iadd, 1) := dk_96 (dk_at dksX5_of_0 9 rfl rfl)
theorem dX5_of_10 : decode cX5_of 10 = .ok (.iload_n 2, 1) := dk_28 (dk_at dksX5_of_0 10 rfl rfl)
theorem dX5_of_11 : decode cX5_of 11 = .ok (.iadd, 1) := dk_96 (dk_at dksX5_of_0 11 rfl rfl)
theorem dX5_of_12 : decode cX5_of 12 = .ok (.iaload, 1) := dk_46 (dk_at dksX5_of_0 12 rfl rfl)
theorem dX5_of_13 : decode cX5_of 13 = .ok (.ireturn, 1) := dk_172 (dk_at dksX5_of_0 13 rfl rfl)
abbrev cX5_timeNow : ByteArray := prog_18_method_21_code
def yX5_timeNow : MethodName := ⟨RX5, "timeNow", "()I"⟩
def dkwX5_timeNow_0 : List UInt8 := [42, 180, 0, 7, 5, 46, 17, 2, 208, 112, 172]
abbrev dktX5_timeNow_0 : List UInt8 := dkwX5_timeNow_0 ++ []
theorem dksX5_timeNow_0 : cX5_timeNow.data.toList.drop 0 = dktX5_timeNow_0 := by decide +kernel
theorem dX5_timeNow_0 : decode cX5_timeNow 0 = .ok (.aload_n 0, 1) := dk_42 (dk_at dksX5_timeNow_0 0 rfl rfl)
theorem dX5_timeNow_1 : decode cX5_timeNow 1 = .ok (.getfield 7, 3) := dk_180 0 7 (dk_at dksX5_timeNow_0 1 rfl rfl)
theorem dX5_timeNow_4 : decode cX5_timeNow 4 = .ok (.iconst 2, 1) := dk_5 (dk_at dksX5_timeNow_0 4 rfl rfl)
theorem dX5_timeNow_5 : decode cX5_timeNow 5 = .ok (.iaload, 1) := dk_46 (dk_at dksX5_timeNow_0 5 rfl rfl)
theorem dX5_timeNow_6 : decode cX5_timeNow 6 = .ok (.sipush 720, 3) := dk_17 2 208 (dk_at dksX5_timeNow_0 6 rfl rfl)
theorem dX5_timeNow_9 : decode cX5_timeNow 9 = .ok (.irem, 1) := dk_112 (dk_at dksX5_timeNow_0 9 rfl rfl)
theorem dX5_timeNow_10 : decode cX5_timeNow 10 = .ok (.ireturn, 1) := dk_172 (dk_at dksX5_timeNow_0 10 rfl rfl)
abbrev cX5_strikes : ByteArray := prog_18_method_19_code
def yX5_strikes : MethodName := ⟨RX5, "strikes", "(II)I"⟩
def dkwX5_strikes_6 : List UInt8 := [182, 0, 102, 160, 0, 13, 42, 27, 21, 4, 182, 0, 99, 167, 0, 4, 3, 172, 3, 172]
abbrev dktX5_strikes_6 : List UInt8 := dkwX5_strikes_6 ++ []
def dkwX5_strikes_5 : List UInt8 := [160, 0, 7, 4, 167, 0, 4, 3, 172, 21, 5, 16, 15, 162, 0, 25, 21, 5, 42, 27, 21, 4]
abbrev dktX5_strikes_5 : List UInt8 := dkwX5_strikes_5 ++ dktX5_strikes_6
def dkwX5_strikes_4 : List UInt8 := [21, 5, 16, 15, 112, 154, 0, 11, 21, 5, 16, 15, 108, 167, 0, 4, 3, 172, 21, 5, 16, 30]
abbrev dktX5_strikes_4 : List UInt8 := dkwX5_strikes_4 ++ dktX5_strikes_5
def dkwX5_strikes_3 : List UInt8 := [170, 0, 0, 0, 95, 0, 0, 0, 1, 0, 0, 0, 5, 0, 0, 0, 33, 0, 0, 0, 64, 0, 0, 0, 33, 0, 0, 0, 64, 0, 0, 0, 51]
abbrev dktX5_strikes_3 : List UInt8 := dkwX5_strikes_3 ++ dktX5_strikes_4
def dkwX5_strikes_2 : List UInt8 := [21, 4, 182, 0, 99, 172, 42, 27, 3, 182, 0, 88]
abbrev dktX5_strikes_2 : List UInt8 := dkwX5_strikes_2 ++ dktX5_strikes_3
def dkwX5_strikes_1 : List UInt8 := [16, 12, 167, 0, 7, 29, 16, 60, 108, 54, 4, 29, 16, 60, 112, 54, 5, 21, 5, 154, 0, 11, 42, 27]
abbrev dktX5_strikes_1 : List UInt8 := dkwX5_strikes_1 ++ dktX5_strikes_2
def dkwX5_strikes_0 : List UInt8 := [28, 17, 2, 208, 96, 42, 27, 4, 182, 0, 88, 100, 17, 2, 208, 112, 62, 29, 16, 60, 162, 0, 8]
abbrev dktX5_strikes_0 : List UInt8 := dkwX5_strikes_0 ++ dktX5_strikes_1
theorem dksX5_strikes_0 : cX5_strikes.data.toList.drop 0 = dktX5_strikes_0 := by decide +kernel
theorem dksX5_strikes_1 : cX5_strikes.data.toList.drop 23 = dktX5_strikes_1 := dk_seg dksX5_strikes_0 23 rfl rfl
theorem dksX5_strikes_2 : cX5_strikes.data.toList.drop 47 = dktX5_strikes_2 := dk_seg dksX5_strikes_1 24 rfl rfl
theorem dksX5_strikes_3 : cX5_strikes.data.toList.drop 59 = dktX5_strikes_3 := dk_seg dksX5_strikes_2 12 rfl rfl
theorem dksX5_strikes_4 : cX5_strikes.data.toList.drop 92 = dktX5_strikes_4 := dk_seg dksX5_strikes_3 33 rfl rfl
theorem dksX5_strikes_5 : cX5_strikes.data.toList.drop 114 = dktX5_strikes_5 := dk_seg dksX5_strikes_4 22 rfl rfl
theorem dksX5_strikes_6 : cX5_strikes.data.toList.drop 136 = dktX5_strikes_6 := dk_seg dksX5_strikes_5 22 rfl rfl
theorem dX5_strikes_0 : decode cX5_strikes 0 = .ok (.iload_n 2, 1) := dk_28 (dk_at dksX5_strikes_0 0 rfl rfl)
theorem dX5_strikes_1 : decode cX5_strikes 1 = .ok (.sipush 720, 3) := dk_17 2 208 (dk_at dksX5_strikes_0 1 rfl rfl)
theorem dX5_strikes_4 : decode cX5_strikes 4 = .ok (.iadd, 1) := dk_96 (dk_at dksX5_strikes_0 4 rfl rfl)
theorem dX5_strikes_5 : decode cX5_strikes 5 = .ok (.aload_n 0, 1) := dk_42 (dk_at dksX5_strikes_0 5 rfl rfl)
theorem dX5_strikes_6 : decode cX5_strikes 6 = .ok (.iload_n 1, 1) := dk_27 (dk_at dksX5_strikes_0 6 rfl rfl)
theorem dX5_strikes_7 : decode cX5_strikes 7 = .ok (.iconst 1, 1) := dk_4 (dk_at dksX5_strikes_0 7 rfl rfl)
theorem dX5_strikes_8 : decode cX5_strikes 8 = .ok (.invokevirtual 88, 3) := dk_182 0 88 (dk_at dksX5_strikes_0 8 rfl rfl)
theorem dX5_strikes_11 : decode cX5_strikes 11 = .ok (.isub, 1) := dk_100 (dk_at dksX5_strikes_0 11 rfl rfl)
theorem dX5_strikes_12 : decode cX5_strikes 12 = .ok (.sipush 720, 3) := dk_17 2 208 (dk_at dksX5_strikes_0 12 rfl rfl)
theorem dX5_strikes_15 : decode cX5_strikes 15 = .ok (.irem, 1) := dk_112 (dk_at dksX5_strikes_0 15 rfl rfl)
theorem dX5_strikes_16 : decode cX5_strikes 16 = .ok (.istore_n 3, 1) := dk_62 (dk_at dksX5_strikes_0 16 rfl rfl)
theorem dX5_strikes_17 : decode cX5_strikes 17 = .ok (.iload_n 3, 1) := dk_29 (dk_at dksX5_strikes_0 17 rfl rfl)
theorem dX5_strikes_18 : decode cX5_strikes 18 = .ok (.bipush 60, 2) := dk_16 60 (dk_at dksX5_strikes_0 18 rfl rfl)
theorem dX5_strikes_20 : decode cX5_strikes 20 = .ok (.if_icmp .ge 8, 3) := dk_162 0 8 (dk_at dksX5_strikes_0 20 rfl rfl)
theorem dX5_strikes_23 : decode cX5_strikes 23 = .ok (.bipush 12, 2) := dk_16 12 (dk_at dksX5_strikes_1 0 rfl rfl)
theorem dX5_strikes_25 : decode cX5_strikes 25 = .ok (.goto 7, 3) := dk_167 0 7 (dk_at dksX5_strikes_1 2 rfl rfl)
theorem dX5_strikes_28 : decode cX5_strikes 28 = .ok (.iload_n 3, 1) := dk_29 (dk_at dksX5_strikes_1 5 rfl rfl)
theorem dX5_strikes_29 : decode cX5_strikes 29 = .ok (.bipush 60, 2) := dk_16 60 (dk_at dksX5_strikes_1 6 rfl rfl)
theorem dX5_strikes_31 : decode cX5_strikes 31 = .ok (.idiv, 1) := dk_108 (dk_at dksX5_strikes_1 8 rfl rfl)
theorem dX5_strikes_32 : decode cX5_strikes 32 = .ok (.istore 4, 2) := dk_54 4 (dk_at dksX5_strikes_1 9 rfl rfl)
theorem dX5_strikes_34 : decode cX5_strikes 34 = .ok (.iload_n 3, 1) := dk_29 (dk_at dksX5_strikes_1 11 rfl rfl)
theorem dX5_strikes_35 : decode cX5_strikes 35 = .ok (.bipush 60, 2) := dk_16 60 (dk_at dksX5_strikes_1 12 rfl rfl)
theorem dX5_strikes_37 : decode cX5_strikes 37 = .ok (.irem, 1) := dk_112 (dk_at dksX5_strikes_1 14 rfl rfl)
theorem dX5_strikes_38 : decode cX5_strikes 38 = .ok (.istore 5, 2) := dk_54 5 (dk_at dksX5_strikes_1 15 rfl rfl)
theorem dX5_strikes_40 : decode cX5_strikes 40 = .ok (.iload 5, 2) := dk_21 5 (dk_at dksX5_strikes_1 17 rfl rfl)
theorem dX5_strikes_42 : decode cX5_strikes 42 = .ok (.ifCond .ne 11, 3) := dk_154 0 11 (dk_at dksX5_strikes_1 19 rfl rfl)
theorem dX5_strikes_45 : decode cX5_strikes 45 = .ok (.aload_n 0, 1) := dk_42 (dk_at dksX5_strikes_1 22 rfl rfl)
theorem dX5_strikes_46 : decode cX5_strikes 46 = .ok (.iload_n 1, 1) := dk_27 (dk_at dksX5_strikes_1 23 rfl rfl)
theorem dX5_strikes_47 : decode cX5_strikes 47 = .ok (.iload 4, 2) := dk_21 4 (dk_at dksX5_strikes_2 0 rfl rfl)
theorem dX5_strikes_49 : decode cX5_strikes 49 = .ok (.invokevirtual 99, 3) := dk_182 0 99 (dk_at dksX5_strikes_2 2 rfl rfl)
theorem dX5_strikes_52 : decode cX5_strikes 52 = .ok (.ireturn, 1) := dk_172 (dk_at dksX5_strikes_2 5 rfl rfl)
theorem dX5_strikes_53 : decode cX5_strikes 53 = .ok (.aload_n 0, 1) := dk_42 (dk_at dksX5_strikes_2 6 rfl rfl)
theorem dX5_strikes_54 : decode cX5_strikes 54 = .ok (.iload_n 1, 1) := dk_27 (dk_at dksX5_strikes_2 7 rfl rfl)
theorem dX5_strikes_55 : decode cX5_strikes 55 = .ok (.iconst 0, 1) := dk_3 (dk_at dksX5_strikes_2 8 rfl rfl)
theorem dX5_strikes_56 : decode cX5_strikes 56 = .ok (.invokevirtual 88, 3) := dk_182 0 88 (dk_at dksX5_strikes_2 9 rfl rfl)
theorem dX5_strikes_59 : decode cX5_strikes 59 = .ok (.tableswitch 95 1 5 #[33, 64, 33, 64, 51], 33) := by decide +kernel
theorem dX5_strikes_92 : decode cX5_strikes 92 = .ok (.iload 5, 2) := dk_21 5 (dk_at dksX5_strikes_4 0 rfl rfl)
theorem dX5_strikes_94 : decode cX5_strikes 94 = .ok (.bipush 15, 2) := dk_16 15 (dk_at dksX5_strikes_4 2 rfl rfl)
theorem dX5_strikes_96 : decode cX5_strikes 96 = .ok (.irem, 1) := dk_112 (dk_at dksX5_strikes_4 4 rfl rfl)
theorem dX5_strikes_97 : decode cX5_strikes 97 = .ok (.ifCond .ne 11, 3) := dk_154 0 11 (dk_at dksX5_strikes_4 5 rfl rfl)
theorem dX5_strikes_100 : decode cX5_strikes 100 = .ok (.iload 5, 2) := dk_21 5 (dk_at dksX5_strikes_4 8 rfl rfl)
theorem dX5_strikes_102 : decode cX5_strikes 102 = .ok (.bipush 15, 2) := dk_16 15 (dk_at dksX5_strikes_4 10 rfl rfl)
theorem dX5_strikes_104 : decode cX5_strikes 104 = .ok (.idiv, 1) := dk_108 (dk_at dksX5_strikes_4 12 rfl rfl)
theorem dX5_strikes_105 : decode cX5_strikes 105 = .ok (.goto 4, 3) := dk_167 0 4 (dk_at dksX5_strikes_4 13 rfl rfl)
theorem dX5_strikes_108 : decode cX5_strikes 108 = .ok (.iconst 0, 1) := dk_3 (dk_at dksX5_strikes_4 16 rfl rfl)
theorem dX5_strikes_109 : decode cX5_strikes 109 = .ok (.ireturn, 1) := dk_172 (dk_at dksX5_strikes_4 17 rfl rfl)
theorem dX5_strikes_110 : decode cX5_strikes 110 = .ok (.iload 5, 2) := dk_21 5 (dk_at dksX5_strikes_4 18 rfl rfl)
theorem dX5_strikes_112 : decode cX5_strikes 112 = .ok (.bipush 30, 2) := dk_16 30 (dk_at dksX5_strikes_4 20 rfl rfl)
theorem dX5_strikes_114 : decode cX5_strikes 114 = .ok (.if_icmp .ne 7, 3) := dk_160 0 7 (dk_at dksX5_strikes_5 0 rfl rfl)
theorem dX5_strikes_117 : decode cX5_strikes 117 = .ok (.iconst 1, 1) := dk_4 (dk_at dksX5_strikes_5 3 rfl rfl)
theorem dX5_strikes_118 : decode cX5_strikes 118 = .ok (.goto 4, 3) := dk_167 0 4 (dk_at dksX5_strikes_5 4 rfl rfl)
theorem dX5_strikes_121 : decode cX5_strikes 121 = .ok (.iconst 0, 1) := dk_3 (dk_at dksX5_strikes_5 7 rfl rfl)
theorem dX5_strikes_122 : decode cX5_strikes 122 = .ok (.ireturn, 1) := dk_172 (dk_at dksX5_strikes_5 8 rfl rfl)
theorem dX5_strikes_123 : decode cX5_strikes 123 = .ok (.iload 5, 2) := dk_21 5 (dk_at dksX5_strikes_5 9 rfl rfl)
theorem dX5_strikes_125 : decode cX5_strikes 125 = .ok (.bipush 15, 2) := dk_16 15 (dk_at dksX5_strikes_5 11 rfl rfl)
theorem dX5_strikes_127 : decode cX5_strikes 127 = .ok (.if_icmp .ge 25, 3) := dk_162 0 25 (dk_at dksX5_strikes_5 13 rfl rfl)
theorem dX5_strikes_130 : decode cX5_strikes 130 = .ok (.iload 5, 2) := dk_21 5 (dk_at dksX5_strikes_5 16 rfl rfl)
theorem dX5_strikes_132 : decode cX5_strikes 132 = .ok (.aload_n 0, 1) := dk_42 (dk_at dksX5_strikes_5 18 rfl rfl)
theorem dX5_strikes_133 : decode cX5_strikes 133 = .ok (.iload_n 1, 1) := dk_27 (dk_at dksX5_strikes_5 19 rfl rfl)
theorem dX5_strikes_134 : decode cX5_strikes 134 = .ok (.iload 4, 2) := dk_21 4 (dk_at dksX5_strikes_5 20 rfl rfl)
theorem dX5_strikes_136 : decode cX5_strikes 136 = .ok (.invokevirtual 102, 3) := dk_182 0 102 (dk_at dksX5_strikes_6 0 rfl rfl)
theorem dX5_strikes_139 : decode cX5_strikes 139 = .ok (.if_icmp .ne 13, 3) := dk_160 0 13 (dk_at dksX5_strikes_6 3 rfl rfl)
theorem dX5_strikes_142 : decode cX5_strikes 142 = .ok (.aload_n 0, 1) := dk_42 (dk_at dksX5_strikes_6 6 rfl rfl)
theorem dX5_strikes_143 : decode cX5_strikes 143 = .ok (.iload_n 1, 1) := dk_27 (dk_at dksX5_strikes_6 7 rfl rfl)
theorem dX5_strikes_144 : decode cX5_strikes 144 = .ok (.iload 4, 2) := dk_21 4 (dk_at dksX5_strikes_6 8 rfl rfl)
theorem dX5_strikes_146 : decode cX5_strikes 146 = .ok (.invokevirtual 99, 3) := dk_182 0 99 (dk_at dksX5_strikes_6 10 rfl rfl)
theorem dX5_strikes_149 : decode cX5_strikes 149 = .ok (.goto 4, 3) := dk_167 0 4 (dk_at dksX5_strikes_6 13 rfl rfl)
theorem dX5_strikes_152 : decode cX5_strikes 152 = .ok (.iconst 0, 1) := dk_3 (dk_at dksX5_strikes_6 16 rfl rfl)
theorem dX5_strikes_153 : decode cX5_strikes 153 = .ok (.ireturn, 1) := dk_172 (dk_at dksX5_strikes_6 17 rfl rfl)
theorem dX5_strikes_154 : decode cX5_strikes 154 = .ok (.iconst 0, 1) := dk_3 (dk_at dksX5_strikes_6 18 rfl rfl)
theorem dX5_strikes_155 : decode cX5_strikes 155 = .ok (.ireturn, 1) := dk_172 (dk_at dksX5_strikes_6 19 rfl rfl)
abbrev cX5_atHour : ByteArray := prog_18_method_18_code
def yX5_atHour : MethodName := ⟨RX5, "atHour", "(II)I"⟩
def dkwX5_atHour_1 : List UInt8 := [160, 0, 13, 28, 8, 108, 28, 8, 112, 96, 167, 0, 4, 28, 172]
abbrev dktX5_atHour_1 : List UInt8 := dkwX5_atHour_1 ++ []
def dkwX5_atHour_0 : List UInt8 := [42, 27, 3, 182, 0, 88, 6, 160, 0, 9, 28, 7, 96, 167, 0, 24, 42, 27, 3, 182, 0, 88, 7]
abbrev dktX5_atHour_0 : List UInt8 := dkwX5_atHour_0 ++ dktX5_atHour_1
theorem dksX5_atHour_0 : cX5_atHour.data.toList.drop 0 = dktX5_atHour_0 := by decide +kernel
theorem dksX5_atHour_1 : cX5_atHour.data.toList.drop 23 = dktX5_atHour_1 := dk_seg dksX5_atHour_0 23 rfl rfl
theorem dX5_atHour_0 : decode cX5_atHour 0 = .ok (.aload_n 0, 1) := dk_42 (dk_at dksX5_atHour_0 0 rfl rfl)
theorem dX5_atHour_1 : decode cX5_atHour 1 = .ok (.iload_n 1, 1) := dk_27 (dk_at dksX5_atHour_0 1 rfl rfl)
theorem dX5_atHour_2 : decode cX5_atHour 2 = .ok (.iconst 0, 1) := dk_3 (dk_at dksX5_atHour_0 2 rfl rfl)
theorem dX5_atHour_3 : decode cX5_atHour 3 = .ok (.invokevirtual 88, 3) := dk_182 0 88 (dk_at dksX5_atHour_0 3 rfl rfl)
theorem dX5_atHour_6 : decode cX5_atHour 6 = .ok (.iconst 3, 1) := dk_6 (dk_at dksX5_atHour_0 6 rfl rfl)
theorem dX5_atHour_7 : decode cX5_atHour 7 = .ok (.if_icmp .ne 9, 3) := dk_160 0 9 (dk_at dksX5_atHour_0 7 rfl rfl)
theorem dX5_atHour_10 : decode cX5_atHour 10 = .ok (.iload_n 2, 1) := dk_28 (dk_at dksX5_atHour_0 10 rfl rfl)
theorem dX5_atHour_11 : decode cX5_atHour 11 = .ok (.iconst 4, 1) := dk_7 (dk_at dksX5_atHour_0 11 rfl rfl)
theorem dX5_atHour_12 : decode cX5_atHour 12 = .ok (.iadd, 1) := dk_96 (dk_at dksX5_atHour_0 12 rfl rfl)
theorem dX5_atHour_13 : decode cX5_atHour 13 = .ok (.goto 24, 3) := dk_167 0 24 (dk_at dksX5_atHour_0 13 rfl rfl)
theorem dX5_atHour_16 : decode cX5_atHour 16 = .ok (.aload_n 0, 1) := dk_42 (dk_at dksX5_atHour_0 16 rfl rfl)
theorem dX5_atHour_17 : decode cX5_atHour 17 = .ok (.iload_n 1, 1) := dk_27 (dk_at dksX5_atHour_0 17 rfl rfl)
theorem dX5_atHour_18 : decode cX5_atHour 18 = .ok (.iconst 0, 1) := dk_3 (dk_at dksX5_atHour_0 18 rfl rfl)
theorem dX5_atHour_19 : decode cX5_atHour 19 = .ok (.invokevirtual 88, 3) := dk_182 0 88 (dk_at dksX5_atHour_0 19 rfl rfl)
theorem dX5_atHour_22 : decode cX5_atHour 22 = .ok (.iconst 4, 1) := dk_7 (dk_at dksX5_atHour_0 22 rfl rfl)
theorem dX5_atHour_23 : decode cX5_atHour 23 = .ok (.if_icmp .ne 13, 3) := dk_160 0 13 (dk_at dksX5_atHour_1 0 rfl rfl)
theorem dX5_atHour_26 : decode cX5_atHour 26 = .ok (.iload_n 2, 1) := dk_28 (dk_at dksX5_atHour_1 3 rfl rfl)
theorem dX5_atHour_27 : decode cX5_atHour 27 = .ok (.iconst 5, 1) := dk_8 (dk_at dksX5_atHour_1 4 rfl rfl)
theorem dX5_atHour_28 : decode cX5_atHour 28 = .ok (.idiv, 1) := dk_108 (dk_at dksX5_atHour_1 5 rfl rfl)
theorem dX5_atHour_29 : decode cX5_atHour 29 = .ok (.iload_n 2, 1) := dk_28 (dk_at dksX5_atHour_1 6 rfl rfl)
theorem dX5_atHour_30 : decode cX5_atHour 30 = .ok (.iconst 5, 1) := dk_8 (dk_at dksX5_atHour_1 7 rfl rfl)
theorem dX5_atHour_31 : decode cX5_atHour 31 = .ok (.irem, 1) := dk_112 (dk_at dksX5_atHour_1 8 rfl rfl)
theorem dX5_atHour_32 : decode cX5_atHour 32 = .ok (.iadd, 1) := dk_96 (dk_at dksX5_atHour_1 9 rfl rfl)
theorem dX5_atHour_33 : decode cX5_atHour 33 = .ok (.goto 4, 3) := dk_167 0 4 (dk_at dksX5_atHour_1 10 rfl rfl)
theorem dX5_atHour_36 : decode cX5_atHour 36 = .ok (.iload_n 2, 1) := dk_28 (dk_at dksX5_atHour_1 13 rfl rfl)
theorem dX5_atHour_37 : decode cX5_atHour 37 = .ok (.ireturn, 1) := dk_172 (dk_at dksX5_atHour_1 14 rfl rfl)
abbrev cX5_again : ByteArray := prog_18_method_17_code
def yX5_again : MethodName := ⟨RX5, "again", "(II)I"⟩
def dkwX5_again_3 : List UInt8 := [167, 0, 5, 21, 4, 172]
abbrev dktX5_again_3 : List UInt8 := dkwX5_again_3 ++ []
def dkwX5_again_2 : List UInt8 := [182, 0, 96, 54, 4, 21, 4, 4, 162, 0, 7, 4, 167, 0, 17, 21, 4, 16, 14, 164, 0, 8, 16, 14]
abbrev dktX5_again_2 : List UInt8 := dkwX5_again_2 ++ dktX5_again_3
def dkwX5_again_1 : List UInt8 := [79, 42, 180, 0, 52, 16, 116, 42, 27, 5, 182, 0, 88, 79, 42, 180, 0, 52, 16, 104, 28, 79, 42, 29]
abbrev dktX5_again_1 : List UInt8 := dkwX5_again_1 ++ dktX5_again_2
def dkwX5_again_0 : List UInt8 := [42, 3, 182, 0, 92, 62, 29, 156, 0, 5, 5, 172, 42, 180, 0, 52, 16, 111, 42, 27, 4, 182, 0, 88]
abbrev dktX5_again_0 : List UInt8 := dkwX5_again_0 ++ dktX5_again_1
theorem dksX5_again_0 : cX5_again.data.toList.drop 0 = dktX5_again_0 := by decide +kernel
theorem dksX5_again_1 : cX5_again.data.toList.drop 24 = dktX5_again_1 := dk_seg dksX5_again_0 24 rfl rfl
theorem dksX5_again_2 : cX5_again.data.toList.drop 48 = dktX5_again_2 := dk_seg dksX5_again_1 24 rfl rfl
theorem dksX5_again_3 : cX5_again.data.toList.drop 72 = dktX5_again_3 := dk_seg dksX5_again_2 24 rfl rfl
theorem dX5_again_0 : decode cX5_again 0 = .ok (.aload_n 0, 1) := dk_42 (dk_at dksX5_again_0 0 rfl rfl)
theorem dX5_again_1 : decode cX5_again 1 = .ok (.iconst 0, 1) := dk_3 (dk_at dksX5_again_0 1 rfl rfl)
theorem dX5_again_2 : decode cX5_again 2 = .ok (.invokevirtual 92, 3) := dk_182 0 92 (dk_at dksX5_again_0 2 rfl rfl)
theorem dX5_again_5 : decode cX5_again 5 = .ok (.istore_n 3, 1) := dk_62 (dk_at dksX5_again_0 5 rfl rfl)
theorem dX5_again_6 : decode cX5_again 6 = .ok (.iload_n 3, 1) := dk_29 (dk_at dksX5_again_0 6 rfl rfl)
theorem dX5_again_7 : decode cX5_again 7 = .ok (.ifCond .ge 5, 3) := dk_156 0 5 (dk_at dksX5_again_0 7 rfl rfl)
theorem dX5_again_10 : decode cX5_again 10 = .ok (.iconst 2, 1) := dk_5 (dk_at dksX5_again_0 10 rfl rfl)
theorem dX5_again_11 : decode cX5_again 11 = .ok (.ireturn, 1) := dk_172 (dk_at dksX5_again_0 11 rfl rfl)
theorem dX5_again_12 : decode cX5_again 12 = .ok (.aload_n 0, 1) := dk_42 (dk_at dksX5_again_0 12 rfl rfl)
theorem dX5_again_13 : decode cX5_again 13 = .ok (.getfield 52, 3) := dk_180 0 52 (dk_at dksX5_again_0 13 rfl rfl)
theorem dX5_again_16 : decode cX5_again 16 = .ok (.bipush 111, 2) := dk_16 111 (dk_at dksX5_again_0 16 rfl rfl)
theorem dX5_again_18 : decode cX5_again 18 = .ok (.aload_n 0, 1) := dk_42 (dk_at dksX5_again_0 18 rfl rfl)
theorem dX5_again_19 : decode cX5_again 19 = .ok (.iload_n 1, 1) := dk_27 (dk_at dksX5_again_0 19 rfl rfl)
theorem dX5_again_20 : decode cX5_again 20 = .ok (.iconst 1, 1) := dk_4 (dk_at dksX5_again_0 20 rfl rfl)
theorem dX5_again_21 : decode cX5_again 21 = .ok (.invokevirtual 88, 3) := dk_182 0 88 (dk_at dksX5_again_0 21 rfl rfl)
theorem dX5_again_24 : decode cX5_again 24 = .ok (.iastore, 1) := dk_79 (dk_at dksX5_again_1 0 rfl rfl)
theorem dX5_again_25 : decode cX5_again 25 = .ok (.aload_n 0, 1) := dk_42 (dk_at dksX5_again_1 1 rfl rfl)
theorem dX5_again_26 : decode cX5_again 26 = .ok (.getfield 52, 3) := dk_180 0 52 (dk_at dksX5_again_1 2 rfl rfl)
theorem dX5_again_29 : decode cX5_again 29 = .ok (.bipush 116, 2) := dk_16 116 (dk_at dksX5_again_1 5 rfl rfl)
theorem dX5_again_31 : decode cX5_again 31 = .ok (.aload_n 0, 1) := dk_42 (dk_at dksX5_again_1 7 rfl rfl)
theorem dX5_again_32 : decode cX5_again 32 = .ok (.iload_n 1, 1) := dk_27 (dk_at dksX5_again_1 8 rfl rfl)
theorem dX5_again_33 : decode cX5_again 33 = .ok (.iconst 2, 1) := dk_5 (dk_at dksX5_again_1 9 rfl rfl)
theorem dX5_again_34 : decode cX5_again 34 = .ok (.invokevirtual 88, 3) := dk_182 0 88 (dk_at dksX5_again_1 10 rfl rfl)
theorem dX5_again_37 : decode cX5_again 37 = .ok (.iastore, 1) := dk_79 (dk_at dksX5_again_1 13 rfl rfl)
theorem dX5_again_38 : decode cX5_again 38 = .ok (.aload_n 0, 1) := dk_42 (dk_at dksX5_again_1 14 rfl rfl)
theorem dX5_again_39 : decode cX5_again 39 = .ok (.getfield 52, 3) := dk_180 0 52 (dk_at dksX5_again_1 15 rfl rfl)
theorem dX5_again_42 : decode cX5_again 42 = .ok (.bipush 104, 2) := dk_16 104 (dk_at dksX5_again_1 18 rfl rfl)
theorem dX5_again_44 : decode cX5_again 44 = .ok (.iload_n 2, 1) := dk_28 (dk_at dksX5_again_1 20 rfl rfl)
theorem dX5_again_45 : decode cX5_again 45 = .ok (.iastore, 1) := dk_79 (dk_at dksX5_again_1 21 rfl rfl)
theorem dX5_again_46 : decode cX5_again 46 = .ok (.aload_n 0, 1) := dk_42 (dk_at dksX5_again_1 22 rfl rfl)
theorem dX5_again_47 : decode cX5_again 47 = .ok (.iload_n 3, 1) := dk_29 (dk_at dksX5_again_1 23 rfl rfl)
theorem dX5_again_48 : decode cX5_again 48 = .ok (.invokevirtual 96, 3) := dk_182 0 96 (dk_at dksX5_again_2 0 rfl rfl)
theorem dX5_again_51 : decode cX5_again 51 = .ok (.istore 4, 2) := dk_54 4 (dk_at dksX5_again_2 3 rfl rfl)
theorem dX5_again_53 : decode cX5_again 53 = .ok (.iload 4, 2) := dk_21 4 (dk_at dksX5_again_2 5 rfl rfl)
theorem dX5_again_55 : decode cX5_again 55 = .ok (.iconst 1, 1) := dk_4 (dk_at dksX5_again_2 7 rfl rfl)
theorem dX5_again_56 : decode cX5_again 56 = .ok (.if_icmp .ge 7, 3) := dk_162 0 7 (dk_at dksX5_again_2 8 rfl rfl)
theorem dX5_again_59 : decode cX5_again 59 = .ok (.iconst 1, 1) := dk_4 (dk_at dksX5_again_2 11 rfl rfl)
theorem dX5_again_60 : decode cX5_again 60 = .ok (.goto 17, 3) := dk_167 0 17 (dk_at dksX5_again_2 12 rfl rfl)
theorem dX5_again_63 : decode cX5_again 63 = .ok (.iload 4, 2) := dk_21 4 (dk_at dksX5_again_2 15 rfl rfl)
theorem dX5_again_65 : decode cX5_again 65 = .ok (.bipush 14, 2) := dk_16 14 (dk_at dksX5_again_2 17 rfl rfl)
theorem dX5_again_67 : decode cX5_again 67 = .ok (.if_icmp .le 8, 3) := dk_164 0 8 (dk_at dksX5_again_2 19 rfl rfl)
theorem dX5_again_70 : decode cX5_again 70 = .ok (.bipush 14, 2) := dk_16 14 (dk_at dksX5_again_2 22 rfl rfl)
theorem dX5_again_72 : decode cX5_again 72 = .ok (.goto 5, 3) := dk_167 0 5 (dk_at dksX5_again_3 0 rfl rfl)
theorem dX5_again_75 : decode cX5_again 75 = .ok (.iload 4, 2) := dk_21 4 (dk_at dksX5_again_3 3 rfl rfl)
theorem dX5_again_77 : decode cX5_again 77 = .ok (.ireturn, 1) := dk_172 (dk_at dksX5_again_3 5 rfl rfl)
abbrev cX5_counts : ByteArray := prog_18_method_79_code
def yX5_counts : MethodName := ⟨RX5, "counts", "(I)I"⟩
def dkwX5_counts_1 : List UInt8 := [27, 160, 0, 7, 29, 167, 0, 4, 28, 61, 132, 3, 1, 167, 255, 223, 28, 172]
abbrev dktX5_counts_1 : List UInt8 := dkwX5_counts_1 ++ []
def dkwX5_counts_0 : List UInt8 := [2, 61, 3, 62, 29, 42, 180, 0, 7, 4, 46, 162, 0, 29, 42, 180, 0, 7, 42, 29, 182, 1, 21, 46]
abbrev dktX5_counts_0 : List UInt8 := dkwX5_counts_0 ++ dktX5_counts_1
theorem dksX5_counts_0 : cX5_counts.data.toList.drop 0 = dktX5_counts_0 := by decide +kernel
theorem dksX5_counts_1 : cX5_counts.data.toList.drop 24 = dktX5_counts_1 := dk_seg dksX5_counts_0 24 rfl rfl
theorem dX5_counts_0 : decode cX5_counts 0 = .ok (.iconst (-1), 1) := dk_2 (dk_at dksX5_counts_0 0 rfl rfl)
theorem dX5_counts_1 : decode cX5_counts 1 = .ok (.istore_n 2, 1) := dk_61 (dk_at dksX5_counts_0 1 rfl rfl)
theorem dX5_counts_2 : decode cX5_counts 2 = .ok (.iconst 0, 1) := dk_3 (dk_at dksX5_counts_0 2 rfl rfl)
theorem dX5_counts_3 : decode cX5_counts 3 = .ok (.istore_n 3, 1) := dk_62 (dk_at dksX5_counts_0 3 rfl rfl)
theorem dX5_counts_4 : decode cX5_counts 4 = .ok (.iload_n 3, 1) := dk_29 (dk_at dksX5_counts_0 4 rfl rfl)
theorem dX5_counts_5 : decode cX5_counts 5 = .ok (.aload_n 0, 1) := dk_42 (dk_at dksX5_counts_0 5 rfl rfl)
theorem dX5_counts_6 : decode cX5_counts 6 = .ok (.getfield 7, 3) := dk_180 0 7 (dk_at dksX5_counts_0 6 rfl rfl)
theorem dX5_counts_9 : decode cX5_counts 9 = .ok (.iconst 1, 1) := dk_4 (dk_at dksX5_counts_0 9 rfl rfl)
theorem dX5_counts_10 : decode cX5_counts 10 = .ok (.iaload, 1) := dk_46 (dk_at dksX5_counts_0 10 rfl rfl)
theorem dX5_counts_11 : decode cX5_counts 11 = .ok (.if_icmp .ge 29, 3) := dk_162 0 29 (dk_at dksX5_counts_0 11 rfl rfl)
theorem dX5_counts_14 : decode cX5_counts 14 = .ok (.aload_n 0, 1) := dk_42 (dk_at dksX5_counts_0 14 rfl rfl)
theorem dX5_counts_15 : decode cX5_counts 15 = .ok (.getfield 7, 3) := dk_180 0 7 (dk_at dksX5_counts_0 15 rfl rfl)
theorem dX5_counts_18 : decode cX5_counts 18 = .ok (.aload_n 0, 1) := dk_42 (dk_at dksX5_counts_0 18 rfl rfl)
theorem dX5_counts_19 : decode cX5_counts 19 = .ok (.iload_n 3, 1) := dk_29 (dk_at dksX5_counts_0 19 rfl rfl)
theorem dX5_counts_20 : decode cX5_counts 20 = .ok (.invokevirtual 277, 3) := dk_182 1 21 (dk_at dksX5_counts_0 20 rfl rfl)
theorem dX5_counts_23 : decode cX5_counts 23 = .ok (.iaload, 1) := dk_46 (dk_at dksX5_counts_0 23 rfl rfl)
theorem dX5_counts_24 : decode cX5_counts 24 = .ok (.iload_n 1, 1) := dk_27 (dk_at dksX5_counts_1 0 rfl rfl)
theorem dX5_counts_25 : decode cX5_counts 25 = .ok (.if_icmp .ne 7, 3) := dk_160 0 7 (dk_at dksX5_counts_1 1 rfl rfl)
theorem dX5_counts_28 : decode cX5_counts 28 = .ok (.iload_n 3, 1) := dk_29 (dk_at dksX5_counts_1 4 rfl rfl)
theorem dX5_counts_29 : decode cX5_counts 29 = .ok (.goto 4, 3) := dk_167 0 4 (dk_at dksX5_counts_1 5 rfl rfl)
theorem dX5_counts_32 : decode cX5_counts 32 = .ok (.iload_n 2, 1) := dk_28 (dk_at dksX5_counts_1 8 rfl rfl)
theorem dX5_counts_33 : decode cX5_counts 33 = .ok (.istore_n 2, 1) := dk_61 (dk_at dksX5_counts_1 9 rfl rfl)
theorem dX5_counts_34 : decode cX5_counts 34 = .ok (.iinc 3 1, 3) := dk_132 3 1 (dk_at dksX5_counts_1 10 rfl rfl)
theorem dX5_counts_37 : decode cX5_counts 37 = .ok (.goto (-33), 3) := dk_167 255 223 (dk_at dksX5_counts_1 13 rfl rfl)
theorem dX5_counts_40 : decode cX5_counts 40 = .ok (.iload_n 2, 1) := dk_28 (dk_at dksX5_counts_1 16 rfl rfl)
theorem dX5_counts_41 : decode cX5_counts 41 = .ok (.ireturn, 1) := dk_172 (dk_at dksX5_counts_1 17 rfl rfl)
abbrev cX5_textAt : ByteArray := prog_18_method_7_code
def yX5_textAt : MethodName := ⟨RX5, "textAt", "(I)I"⟩
def dkwX5_textAt_0 : List UInt8 := [16, 40, 17, 0, 200, 27, 104, 96, 172]
abbrev dktX5_textAt_0 : List UInt8 := dkwX5_textAt_0 ++ []
theorem dksX5_textAt_0 : cX5_textAt.data.toList.drop 0 = dktX5_textAt_0 := by decide +kernel
theorem dX5_textAt_0 : decode cX5_textAt 0 = .ok (.bipush 40, 2) := dk_16 40 (dk_at dksX5_textAt_0 0 rfl rfl)
theorem dX5_textAt_2 : decode cX5_textAt 2 = .ok (.sipush 200, 3) := dk_17 0 200 (dk_at dksX5_textAt_0 2 rfl rfl)
theorem dX5_textAt_5 : decode cX5_textAt 5 = .ok (.iload_n 1, 1) := dk_27 (dk_at dksX5_textAt_0 5 rfl rfl)
theorem dX5_textAt_6 : decode cX5_textAt 6 = .ok (.imul, 1) := dk_104 (dk_at dksX5_textAt_0 6 rfl rfl)
theorem dX5_textAt_7 : decode cX5_textAt 7 = .ok (.iadd, 1) := dk_96 (dk_at dksX5_textAt_0 7 rfl rfl)
theorem dX5_textAt_8 : decode cX5_textAt 8 = .ok (.ireturn, 1) := dk_172 (dk_at dksX5_textAt_0 8 rfl rfl)
abbrev cX5_worked : ByteArray := prog_18_method_82_code
def yX5_worked : MethodName := ⟨RX5, "worked", "(I)I"⟩
def dkwX5_worked_7 : List UInt8 := [3, 46, 172]
abbrev dktX5_worked_7 : List UInt8 := dkwX5_worked_7 ++ []
def dkwX5_worked_6 : List UInt8 := [28, 4, 100, 46, 42, 180, 0, 55, 28, 46, 184, 1, 36, 79, 132, 3, 1, 167, 255, 100, 42, 180, 0, 55]
abbrev dktX5_worked_6 : List UInt8 := dkwX5_worked_6 ++ dktX5_worked_7
def dkwX5_worked_5 : List UInt8 := [167, 0, 4, 3, 79, 167, 0, 33, 132, 2, 255, 42, 180, 0, 55, 28, 4, 100, 21, 5, 42, 180, 0, 55]
abbrev dktX5_worked_5 : List UInt8 := dkwX5_worked_5 ++ dktX5_worked_6
def dkwX5_worked_4 : List UInt8 := [16, 33, 160, 0, 30, 42, 180, 0, 55, 28, 4, 100, 42, 180, 0, 55, 28, 4, 100, 46, 154, 0, 7, 4]
abbrev dktX5_worked_4 : List UInt8 := dkwX5_worked_4 ++ dktX5_worked_5
def dkwX5_worked_3 : List UInt8 := [154, 0, 8, 21, 5, 167, 0, 10, 42, 180, 0, 52, 21, 5, 46, 79, 132, 2, 1, 167, 0, 67, 21, 5]
abbrev dktX5_worked_3 : List UInt8 := dkwX5_worked_3 ++ dktX5_worked_4
def dkwX5_worked_2 : List UInt8 := [96, 5, 29, 104, 96, 4, 96, 46, 54, 5, 21, 4, 5, 159, 0, 32, 42, 180, 0, 55, 28, 21, 4]
abbrev dktX5_worked_2 : List UInt8 := dkwX5_worked_2 ++ dktX5_worked_3
def dkwX5_worked_1 : List UInt8 := [42, 27, 182, 1, 21, 7, 96, 5, 29, 104, 96, 46, 54, 4, 42, 180, 0, 7, 42, 27, 182, 1, 21, 7]
abbrev dktX5_worked_1 : List UInt8 := dkwX5_worked_1 ++ dktX5_worked_2
def dkwX5_worked_0 : List UInt8 := [3, 61, 3, 62, 29, 42, 180, 0, 7, 42, 27, 182, 1, 21, 5, 96, 46, 162, 0, 146, 42, 180, 0, 7]
abbrev dktX5_worked_0 : List UInt8 := dkwX5_worked_0 ++ dktX5_worked_1
theorem dksX5_worked_0 : cX5_worked.data.toList.drop 0 = dktX5_worked_0 := by decide +kernel
theorem dksX5_worked_1 : cX5_worked.data.toList.drop 24 = dktX5_worked_1 := dk_seg dksX5_worked_0 24 rfl rfl
theorem dksX5_worked_2 : cX5_worked.data.toList.drop 48 = dktX5_worked_2 := dk_seg dksX5_worked_1 24 rfl rfl
theorem dksX5_worked_3 : cX5_worked.data.toList.drop 71 = dktX5_worked_3 := dk_seg dksX5_worked_2 23 rfl rfl
theorem dksX5_worked_4 : cX5_worked.data.toList.drop 95 = dktX5_worked_4 := dk_seg dksX5_worked_3 24 rfl rfl
theorem dksX5_worked_5 : cX5_worked.data.toList.drop 119 = dktX5_worked_5 := dk_seg dksX5_worked_4 24 rfl rfl
theorem dksX5_worked_6 : cX5_worked.data.toList.drop 143 = dktX5_worked_6 := dk_seg dksX5_worked_5 24 rfl rfl
theorem dksX5_worked_7 : cX5_worked.data.toList.drop 167 = dktX5_worked_7 := dk_seg dksX5_worked_6 24 rfl rfl
theorem dX5_worked_0 : decode cX5_worked 0 = .ok (.iconst 0, 1) := dk_3 (dk_at dksX5_worked_0 0 rfl rfl)
theorem dX5_worked_1 : decode cX5_worked 1 = .ok (.istore_n 2, 1) := dk_61 (dk_at dksX5_worked_0 1 rfl rfl)
theorem dX5_worked_2 : decode cX5_worked 2 = .ok (.iconst 0, 1) := dk_3 (dk_at dksX5_worked_0 2 rfl rfl)
theorem dX5_worked_3 : decode cX5_worked 3 = .ok (.istore_n 3, 1) := dk_62 (dk_at dksX5_worked_0 3 rfl rfl)
theorem dX5_worked_4 : decode cX5_worked 4 = .ok (.iload_n 3, 1) := dk_29 (dk_at dksX5_worked_0 4 rfl rfl)
theorem dX5_worked_5 : decode cX5_worked 5 = .ok (.aload_n 0, 1) := dk_42 (dk_at dksX5_worked_0 5 rfl rfl)
theorem dX5_worked_6 : decode cX5_worked 6 = .ok (.getfield 7, 3) := dk_180 0 7 (dk_at dksX5_worked_0 6 rfl rfl)
theorem dX5_worked_9 : decode cX5_worked 9 = .ok (.aload_n 0, 1) := dk_42 (dk_at dksX5_worked_0 9 rfl rfl)
theorem dX5_worked_10 : decode cX5_worked 10 = .ok (.iload_n 1, 1) := dk_27 (dk_at dksX5_worked_0 10 rfl rfl)
theorem dX5_worked_11 : decode cX5_worked 11 = .ok (.invokevirtual 277, 3) := dk_182 1 21 (dk_at dksX5_worked_0 11 rfl rfl)
theorem dX5_worked_14 : decode cX5_worked 14 = .ok (.iconst 2, 1) := dk_5 (dk_at dksX5_worked_0 14 rfl rfl)
theorem dX5_worked_15 : decode cX5_worked 15 = .ok (.iadd, 1) := dk_96 (dk_at dksX5_worked_0 15 rfl rfl)
theorem dX5_worked_16 : decode cX5_worked 16 = .ok (.iaload, 1) := dk_46 (dk_at dksX5_worked_0 16 rfl rfl)
theorem dX5_worked_17 : decode cX5_worked 17 = .ok (.if_icmp .ge 146, 3) := dk_162 0 146 (dk_at dksX5_worked_0 17 rfl rfl)
theorem dX5_worked_20 : decode cX5_worked 20 = .ok (.aload_n 0, 1) := dk_42 (dk_at dksX5_worked_0 20 rfl rfl)
theorem dX5_worked_21 : decode cX5_worked 21 = .ok (.getfield 7, 3) := dk_180 0 7 (dk_at dksX5_worked_0 21 rfl rfl)
theorem dX5_worked_24 : decode cX5_worked 24 = .ok (.aload_n 0, 1) := dk_42 (dk_at dksX5_worked_1 0 rfl rfl)
theorem dX5_worked_25 : decode cX5_worked 25 = .ok (.iload_n 1, 1) := dk_27 (dk_at dksX5_worked_1 1 rfl rfl)
theorem dX5_worked_26 : decode cX5_worked 26 = .ok (.invokevirtual 277, 3) := dk_182 1 21 (dk_at dksX5_worked_1 2 rfl rfl)
theorem dX5_worked_29 : decode cX5_worked 29 = .ok (.iconst 4, 1) := dk_7 (dk_at dksX5_worked_1 5 rfl rfl)
theorem dX5_worked_30 : decode cX5_worked 30 = .ok (.iadd, 1) := dk_96 (dk_at dksX5_worked_1 6 rfl rfl)
theorem dX5_worked_31 : decode cX5_worked 31 = .ok (.iconst 2, 1) := dk_5 (dk_at dksX5_worked_1 7 rfl rfl)
theorem dX5_worked_32 : decode cX5_worked 32 = .ok (.iload_n 3, 1) := dk_29 (dk_at dksX5_worked_1 8 rfl rfl)
theorem dX5_worked_33 : decode cX5_worked 33 = .ok (.imul, 1) := dk_104 (dk_at dksX5_worked_1 9 rfl rfl)
theorem dX5_worked_34 : decode cX5_worked 34 = .ok (.iadd, 1) := dk_96 (dk_at dksX5_worked_1 10 rfl rfl)
theorem dX5_worked_35 : decode cX5_worked 35 = .ok (.iaload, 1) := dk_46 (dk_at dksX5_worked_1 11 rfl rfl)
theorem dX5_worked_36 : decode cX5_worked 36 = .ok (.istore 4, 2) := dk_54 4 (dk_at dksX5_worked_1 12 rfl rfl)
theorem dX5_worked_38 : decode cX5_worked 38 = .ok (.aload_n 0, 1) := dk_42 (dk_at dksX5_worked_1 14 rfl rfl)
theorem dX5_worked_39 : decode cX5_worked 39 = .ok (.getfield 7, 3) := dk_180 0 7 (dk_at dksX5_worked_1 15 rfl rfl)
theorem dX5_worked_42 : decode cX5_worked 42 = .ok (.aload_n 0, 1) := dk_42 (dk_at dksX5_worked_1 18 rfl rfl)
theorem dX5_worked_43 : decode cX5_worked 43 = .ok (.iload_n 1, 1) := dk_27 (dk_at dksX5_worked_1 19 rfl rfl)
theorem dX5_worked_44 : decode cX5_worked 44 = .ok (.invokevirtual 277, 3) := dk_182 1 21 (dk_at dksX5_worked_1 20 rfl rfl)
theorem dX5_worked_47 : decode cX5_worked 47 = .ok (.iconst 4, 1) := dk_7 (dk_at dksX5_worked_1 23 rfl rfl)
theorem dX5_worked_48 : decode cX5_worked 48 = .ok (.iadd, 1) := dk_96 (dk_at dksX5_worked_2 0 rfl rfl)
theorem dX5_worked_49 : decode cX5_worked 49 = .ok (.iconst 2, 1) := dk_5 (dk_at dksX5_worked_2 1 rfl rfl)
theorem dX5_worked_50 : decode cX5_worked 50 = .ok (.iload_n 3, 1) := dk_29 (dk_at dksX5_worked_2 2 rfl rfl)
theorem dX5_worked_51 : decode cX5_worked 51 = .ok (.imul, 1) := dk_104 (dk_at dksX5_worked_2 3 rfl rfl)
theorem dX5_worked_52 : decode cX5_worked 52 = .ok (.iadd, 1) := dk_96 (dk_at dksX5_worked_2 4 rfl rfl)
theorem dX5_worked_53 : decode cX5_worked 53 = .ok (.iconst 1, 1) := dk_4 (dk_at dksX5_worked_2 5 rfl rfl)
theorem dX5_worked_54 : decode cX5_worked 54 = .ok (.iadd, 1) := dk_96 (dk_at dksX5_worked_2 6 rfl rfl)
theorem dX5_worked_55 : decode cX5_worked 55 = .ok (.iaload, 1) := dk_46 (dk_at dksX5_worked_2 7 rfl rfl)
theorem dX5_worked_56 : decode cX5_worked 56 = .ok (.istore 5, 2) := dk_54 5 (dk_at dksX5_worked_2 8 rfl rfl)
theorem dX5_worked_58 : decode cX5_worked 58 = .ok (.iload 4, 2) := dk_21 4 (dk_at dksX5_worked_2 10 rfl rfl)
theorem dX5_worked_60 : decode cX5_worked 60 = .ok (.iconst 2, 1) := dk_5 (dk_at dksX5_worked_2 12 rfl rfl)
theorem dX5_worked_61 : decode cX5_worked 61 = .ok (.if_icmp .eq 32, 3) := dk_159 0 32 (dk_at dksX5_worked_2 13 rfl rfl)
theorem dX5_worked_64 : decode cX5_worked 64 = .ok (.aload_n 0, 1) := dk_42 (dk_at dksX5_worked_2 16 rfl rfl)
theorem dX5_worked_65 : decode cX5_worked 65 = .ok (.getfield 55, 3) := dk_180 0 55 (dk_at dksX5_worked_2 17 rfl rfl)
theorem dX5_worked_68 : decode cX5_worked 68 = .ok (.iload_n 2, 1) := dk_28 (dk_at dksX5_worked_2 20 rfl rfl)
theorem dX5_worked_69 : decode cX5_worked 69 = .ok (.iload 4, 2) := dk_21 4 (dk_at dksX5_worked_2 21 rfl rfl)
theorem dX5_worked_71 : decode cX5_worked 71 = .ok (.ifCond .ne 8, 3) := dk_154 0 8 (dk_at dksX5_worked_3 0 rfl rfl)
theorem dX5_worked_74 : decode cX5_worked 74 = .ok (.iload 5, 2) := dk_21 5 (dk_at dksX5_worked_3 3 rfl rfl)
theorem dX5_worked_76 : decode cX5_worked 76 = .ok (.goto 10, 3) := dk_167 0 10 (dk_at dksX5_worked_3 5 rfl rfl)
theorem dX5_worked_79 : decode cX5_worked 79 = .ok (.aload_n 0, 1) := dk_42 (dk_at dksX5_worked_3 8 rfl rfl)
theorem dX5_worked_80 : decode cX5_worked 80 = .ok (.getfield 52, 3) := dk_180 0 52 (dk_at dksX5_worked_3 9 rfl rfl)
theorem dX5_worked_83 : decode cX5_worked 83 = .ok (.iload 5, 2) := dk_21 5 (dk_at dksX5_worked_3 12 rfl rfl)
theorem dX5_worked_85 : decode cX5_worked 85 = .ok (.iaload, 1) := dk_46 (dk_at dksX5_worked_3 14 rfl rfl)
theorem dX5_worked_86 : decode cX5_worked 86 = .ok (.iastore, 1) := dk_79 (dk_at dksX5_worked_3 15 rfl rfl)
theorem dX5_worked_87 : decode cX5_worked 87 = .ok (.iinc 2 1, 3) := dk_132 2 1 (dk_at dksX5_worked_3 16 rfl rfl)
theorem dX5_worked_90 : decode cX5_worked 90 = .ok (.goto 67, 3) := dk_167 0 67 (dk_at dksX5_worked_3 19 rfl rfl)
theorem dX5_worked_93 : decode cX5_worked 93 = .ok (.iload 5, 2) := dk_21 5 (dk_at dksX5_worked_3 22 rfl rfl)
theorem dX5_worked_95 : decode cX5_worked 95 = .ok (.bipush 33, 2) := dk_16 33 (dk_at dksX5_worked_4 0 rfl rfl)
theorem dX5_worked_97 : decode cX5_worked 97 = .ok (.if_icmp .ne 30, 3) := dk_160 0 30 (dk_at dksX5_worked_4 2 rfl rfl)
theorem dX5_worked_100 : decode cX5_worked 100 = .ok (.aload_n 0, 1) := dk_42 (dk_at dksX5_worked_4 5 rfl rfl)
theorem dX5_worked_101 : decode cX5_worked 101 = .ok (.getfield 55, 3) := dk_180 0 55 (dk_at dksX5_worked_4 6 rfl rfl)
theorem dX5_worked_104 : decode cX5_worked 104 = .ok (.iload_n 2, 1) := dk_28 (dk_at dksX5_worked_4 9 rfl rfl)
theorem dX5_worked_105 : decode cX5_worked 105 = .ok (.iconst 1, 1) := dk_4 (dk_at dksX5_worked_4 10 rfl rfl)
theorem dX5_worked_106 : decode cX5_worked 106 = .ok (.isub, 1) := dk_100 (dk_at dksX5_worked_4 11 rfl rfl)
theorem dX5_worked_107 : decode cX5_worked 107 = .ok (.aload_n 0, 1) := dk_42 (dk_at dksX5_worked_4 12 rfl rfl)
theorem dX5_worked_108 : decode cX5_worked 108 = .ok (.getfield 55, 3) := dk_180 0 55 (dk_at dksX5_worked_4 13 rfl rfl)
theorem dX5_worked_111 : decode cX5_worked 111 = .ok (.iload_n 2, 1) := dk_28 (dk_at dksX5_worked_4 16 rfl rfl)
theorem dX5_worked_112 : decode cX5_worked 112 = .ok (.iconst 1, 1) := dk_4 (dk_at dksX5_worked_4 17 rfl rfl)
theorem dX5_worked_113 : decode cX5_worked 113 = .ok (.isub, 1) := dk_100 (dk_at dksX5_worked_4 18 rfl rfl)
theorem dX5_worked_114 : decode cX5_worked 114 = .ok (.iaload, 1) := dk_46 (dk_at dksX5_worked_4 19 rfl rfl)
theorem dX5_worked_115 : decode cX5_worked 115 = .ok (.ifCond .ne 7, 3) := dk_154 0 7 (dk_at dksX5_worked_4 20 rfl rfl)
theorem dX5_worked_118 : decode cX5_worked 118 = .ok (.iconst 1, 1) := dk_4 (dk_at dksX5_worked_4 23 rfl rfl)
theorem dX5_worked_119 : decode cX5_worked 119 = .ok (.goto 4, 3) := dk_167 0 4 (dk_at dksX5_worked_5 0 rfl rfl)
theorem dX5_worked_122 : decode cX5_worked 122 = .ok (.iconst 0, 1) := dk_3 (dk_at dksX5_worked_5 3 rfl rfl)
theorem dX5_worked_123 : decode cX5_worked 123 = .ok (.iastore, 1) := dk_79 (dk_at dksX5_worked_5 4 rfl rfl)
theorem dX5_worked_124 : decode cX5_worked 124 = .ok (.goto 33, 3) := dk_167 0 33 (dk_at dksX5_worked_5 5 rfl rfl)
theorem dX5_worked_127 : decode cX5_worked 127 = .ok (.iinc 2 (-1), 3) := dk_132 2 255 (dk_at dksX5_worked_5 8 rfl rfl)
theorem dX5_worked_130 : decode cX5_worked 130 = .ok (.aload_n 0, 1) := dk_42 (dk_at dksX5_worked_5 11 rfl rfl)
theorem dX5_worked_131 : decode cX5_worked 131 = .ok (.getfield 55, 3) := dk_180 0 55 (dk_at dksX5_worked_5 12 rfl rfl)
theorem dX5_worked_134 : decode cX5_worked 134 = .ok (.iload_n 2, 1) := dk_28 (dk_at dksX5_worked_5 15 rfl rfl)
theorem dX5_worked_135 : decode cX5_worked 135 = .ok (.iconst 1, 1) := dk_4 (dk_at dksX5_worked_5 16 rfl rfl)
theorem dX5_worked_136 : decode cX5_worked 136 = .ok (.isub, 1) := dk_100 (dk_at dksX5_worked_5 17 rfl rfl)
theorem dX5_worked_137 : decode cX5_worked 137 = .ok (.iload 5, 2) := dk_21 5 (dk_at dksX5_worked_5 18 rfl rfl)
theorem dX5_worked_139 : decode cX5_worked 139 = .ok (.aload_n 0, 1) := dk_42 (dk_at dksX5_worked_5 20 rfl rfl)
theorem dX5_worked_140 : decode cX5_worked 140 = .ok (.getfield 55, 3) := dk_180 0 55 (dk_at dksX5_worked_5 21 rfl rfl)
theorem dX5_worked_143 : decode cX5_worked 143 = .ok (.iload_n 2, 1) := dk_28 (dk_at dksX5_worked_6 0 rfl rfl)
theorem dX5_worked_144 : decode cX5_worked 144 = .ok (.iconst 1, 1) := dk_4 (dk_at dksX5_worked_6 1 rfl rfl)
theorem dX5_worked_145 : decode cX5_worked 145 = .ok (.isub, 1) := dk_100 (dk_at dksX5_worked_6 2 rfl rfl)
theorem dX5_worked_146 : decode cX5_worked 146 = .ok (.iaload, 1) := dk_46 (dk_at dksX5_worked_6 3 rfl rfl)
theorem dX5_worked_147 : decode cX5_worked 147 = .ok (.aload_n 0, 1) := dk_42 (dk_at dksX5_worked_6 4 rfl rfl)
theorem dX5_worked_148 : decode cX5_worked 148 = .ok (.getfield 55, 3) := dk_180 0 55 (dk_at dksX5_worked_6 5 rfl rfl)
theorem dX5_worked_151 : decode cX5_worked 151 = .ok (.iload_n 2, 1) := dk_28 (dk_at dksX5_worked_6 8 rfl rfl)
theorem dX5_worked_152 : decode cX5_worked 152 = .ok (.iaload, 1) := dk_46 (dk_at dksX5_worked_6 9 rfl rfl)
theorem dX5_worked_153 : decode cX5_worked 153 = .ok (.invokestatic 292, 3) := dk_184 1 36 (dk_at dksX5_worked_6 10 rfl rfl)
theorem dX5_worked_156 : decode cX5_worked 156 = .ok (.iastore, 1) := dk_79 (dk_at dksX5_worked_6 13 rfl rfl)
theorem dX5_worked_157 : decode cX5_worked 157 = .ok (.iinc 3 1, 3) := dk_132 3 1 (dk_at dksX5_worked_6 14 rfl rfl)
theorem dX5_worked_160 : decode cX5_worked 160 = .ok (.goto (-156), 3) := dk_167 255 100 (dk_at dksX5_worked_6 17 rfl rfl)
theorem dX5_worked_163 : decode cX5_worked 163 = .ok (.aload_n 0, 1) := dk_42 (dk_at dksX5_worked_6 20 rfl rfl)
theorem dX5_worked_164 : decode cX5_worked 164 = .ok (.getfield 55, 3) := dk_180 0 55 (dk_at dksX5_worked_6 21 rfl rfl)
theorem dX5_worked_167 : decode cX5_worked 167 = .ok (.iconst 0, 1) := dk_3 (dk_at dksX5_worked_7 0 rfl rfl)
theorem dX5_worked_168 : decode cX5_worked 168 = .ok (.iaload, 1) := dk_46 (dk_at dksX5_worked_7 1 rfl rfl)
theorem dX5_worked_169 : decode cX5_worked 169 = .ok (.ireturn, 1) := dk_172 (dk_at dksX5_worked_7 2 rfl rfl)
abbrev cX5_joined : ByteArray := prog_18_method_81_code
def yX5_joined : MethodName := ⟨RX5, "joined", "(III)I"⟩
def dkwX5_joined_6 : List UInt8 := [167, 0, 4, 3, 172]
abbrev dktX5_joined_6 : List UInt8 := dkwX5_joined_6 ++ []
def dkwX5_joined_5 : List UInt8 := [153, 0, 11, 28, 153, 0, 7, 4, 167, 0, 4, 3, 172, 27, 154, 0, 7, 28, 153, 0, 7, 4]
abbrev dktX5_joined_5 : List UInt8 := dkwX5_joined_5 ++ dktX5_joined_6
def dkwX5_joined_4 : List UInt8 := [28, 164, 0, 7, 4, 167, 0, 4, 3, 172, 27, 28, 160, 0, 7, 4, 167, 0, 4, 3, 172, 27]
abbrev dktX5_joined_4 : List UInt8 := dkwX5_joined_4 ++ dktX5_joined_5
def dkwX5_joined_3 : List UInt8 := [160, 0, 8, 27, 116, 167, 0, 6, 27, 28, 108, 172, 27, 28, 162, 0, 7, 4, 167, 0, 4, 3, 172, 27]
abbrev dktX5_joined_3 : List UInt8 := dkwX5_joined_3 ++ dktX5_joined_4
def dkwX5_joined_2 : List UInt8 := [27, 28, 96, 172, 27, 28, 100, 172, 27, 28, 104, 172, 28, 154, 0, 7, 3, 167, 0, 16, 28, 2]
abbrev dktX5_joined_2 : List UInt8 := dkwX5_joined_2 ++ dktX5_joined_3
def dkwX5_joined_1 : List UInt8 := [170, 0, 0, 0, 0, 0, 196, 0, 0, 0, 38, 0, 0, 0, 62, 0, 0, 0, 182, 0, 0, 0, 196, 0, 0, 0, 196, 0, 0, 0, 196, 0, 0, 0, 123, 0, 0, 0, 115, 0, 0, 0, 196, 0, 0, 0, 119, 0, 0, 0, 196, 0, 0, 0, 127, 0, 0, 0, 196, 0, 0, 0, 196, 0, 0, 0, 196, 0, 0, 0, 196, 0, 0, 0, 196, 0, 0, 0, 196, 0, 0, 0, 196, 0, 0, 0, 196, 0, 0, 0, 196, 0, 0, 0, 196, 0, 0, 0, 196, 0, 0, 0, 196, 0, 0, 0, 149, 0, 0, 0, 171, 0, 0, 0, 160]
abbrev dktX5_joined_1 : List UInt8 := dkwX5_joined_1 ++ dktX5_joined_2
def dkwX5_joined_0 : List UInt8 := [26]
abbrev dktX5_joined_0 : List UInt8 := dkwX5_joined_0 ++ dktX5_joined_1
theorem dksX5_joined_0 : cX5_joined.data.toList.drop 0 = dktX5_joined_0 := by decide +kernel
theorem dksX5_joined_1 : cX5_joined.data.toList.drop 1 = dktX5_joined_1 := dk_seg dksX5_joined_0 1 rfl rfl
theorem dksX5_joined_2 : cX5_joined.data.toList.drop 116 = dktX5_joined_2 := dk_seg dksX5_joined_1 115 rfl rfl
theorem dksX5_joined_3 : cX5_joined.data.toList.drop 138 = dktX5_joined_3 := dk_seg dksX5_joined_2 22 rfl rfl
theorem dksX5_joined_4 : cX5_joined.data.toList.drop 162 = dktX5_joined_4 := dk_seg dksX5_joined_3 24 rfl rfl
theorem dksX5_joined_5 : cX5_joined.data.toList.drop 184 = dktX5_joined_5 := dk_seg dksX5_joined_4 22 rfl rfl
theorem dksX5_joined_6 : cX5_joined.data.toList.drop 206 = dktX5_joined_6 := dk_seg dksX5_joined_5 22 rfl rfl
theorem dX5_joined_0 : decode cX5_joined 0 = .ok (.iload_n 0, 1) := dk_26 (dk_at dksX5_joined_0 0 rfl rfl)
theorem dX5_joined_1 : decode cX5_joined 1 = .ok (.tableswitch 196 38 62 #[182, 196, 196, 196, 123, 115, 196, 119, 196, 127, 196, 196, 196, 196, 196, 196, 196, 196, 196, 196, 196, 196, 149, 171, 160], 115) := by decide +kernel
theorem dX5_joined_116 : decode cX5_joined 116 = .ok (.iload_n 1, 1) := dk_27 (dk_at dksX5_joined_2 0 rfl rfl)
theorem dX5_joined_117 : decode cX5_joined 117 = .ok (.iload_n 2, 1) := dk_28 (dk_at dksX5_joined_2 1 rfl rfl)
theorem dX5_joined_118 : decode cX5_joined 118 = .ok (.iadd, 1) := dk_96 (dk_at dksX5_joined_2 2 rfl rfl)
theorem dX5_joined_119 : decode cX5_joined 119 = .ok (.ireturn, 1) := dk_172 (dk_at dksX5_joined_2 3 rfl rfl)
theorem dX5_joined_120 : decode cX5_joined 120 = .ok (.iload_n 1, 1) := dk_27 (dk_at dksX5_joined_2 4 rfl rfl)
theorem dX5_joined_121 : decode cX5_joined 121 = .ok (.iload_n 2, 1) := dk_28 (dk_at dksX5_joined_2 5 rfl rfl)
theorem dX5_joined_122 : decode cX5_joined 122 = .ok (.isub, 1) := dk_100 (dk_at dksX5_joined_2 6 rfl rfl)
theorem dX5_joined_123 : decode cX5_joined 123 = .ok (.ireturn, 1) := dk_172 (dk_at dksX5_joined_2 7 rfl rfl)
theorem dX5_joined_124 : decode cX5_joined 124 = .ok (.iload_n 1, 1) := dk_27 (dk_at dksX5_joined_2 8 rfl rfl)
theorem dX5_joined_125 : decode cX5_joined 125 = .ok (.iload_n 2, 1) := dk_28 (dk_at dksX5_joined_2 9 rfl rfl)
theorem dX5_joined_126 : decode cX5_joined 126 = .ok (.imul, 1) := dk_104 (dk_at dksX5_joined_2 10 rfl rfl)
theorem dX5_joined_127 : decode cX5_joined 127 = .ok (.ireturn, 1) := dk_172 (dk_at dksX5_joined_2 11 rfl rfl)
theorem dX5_joined_128 : decode cX5_joined 128 = .ok (.iload_n 2, 1) := dk_28 (dk_at dksX5_joined_2 12 rfl rfl)
theorem dX5_joined_129 : decode cX5_joined 129 = .ok (.ifCond .ne 7, 3) := dk_154 0 7 (dk_at dksX5_joined_2 13 rfl rfl)
theorem dX5_joined_132 : decode cX5_joined 132 = .ok (.iconst 0, 1) := dk_3 (dk_at dksX5_joined_2 16 rfl rfl)
theorem dX5_joined_133 : decode cX5_joined 133 = .ok (.goto 16, 3) := dk_167 0 16 (dk_at dksX5_joined_2 17 rfl rfl)
theorem dX5_joined_136 : decode cX5_joined 136 = .ok (.iload_n 2, 1) := dk_28 (dk_at dksX5_joined_2 20 rfl rfl)
theorem dX5_joined_137 : decode cX5_joined 137 = .ok (.iconst (-1), 1) := dk_2 (dk_at dksX5_joined_2 21 rfl rfl)
theorem dX5_joined_138 : decode cX5_joined 138 = .ok (.if_icmp .ne 8, 3) := dk_160 0 8 (dk_at dksX5_joined_3 0 rfl rfl)
theorem dX5_joined_141 : decode cX5_joined 141 = .ok (.iload_n 1, 1) := dk_27 (dk_at dksX5_joined_3 3 rfl rfl)
theorem dX5_joined_142 : decode cX5_joined 142 = .ok (.ineg, 1) := dk_116 (dk_at dksX5_joined_3 4 rfl rfl)
theorem dX5_joined_143 : decode cX5_joined 143 = .ok (.goto 6, 3) := dk_167 0 6 (dk_at dksX5_joined_3 5 rfl rfl)
theorem dX5_joined_146 : decode cX5_joined 146 = .ok (.iload_n 1, 1) := dk_27 (dk_at dksX5_joined_3 8 rfl rfl)
theorem dX5_joined_147 : decode cX5_joined 147 = .ok (.iload_n 2, 1) := dk_28 (dk_at dksX5_joined_3 9 rfl rfl)
theorem dX5_joined_148 : decode cX5_joined 148 = .ok (.idiv, 1) := dk_108 (dk_at dksX5_joined_3 10 rfl rfl)
theorem dX5_joined_149 : decode cX5_joined 149 = .ok (.ireturn, 1) := dk_172 (dk_at dksX5_joined_3 11 rfl rfl)
theorem dX5_joined_150 : decode cX5_joined 150 = .ok (.iload_n 1, 1) := dk_27 (dk_at dksX5_joined_3 12 rfl rfl)
theorem dX5_joined_151 : decode cX5_joined 151 = .ok (.iload_n 2, 1) := dk_28 (dk_at dksX5_joined_3 13 rfl rfl)
theorem dX5_joined_152 : decode cX5_joined 152 = .ok (.if_icmp .ge 7, 3) := dk_162 0 7 (dk_at dksX5_joined_3 14 rfl rfl)
theorem dX5_joined_155 : decode cX5_joined 155 = .ok (.iconst 1, 1) := dk_4 (dk_at dksX5_joined_3 17 rfl rfl)
theorem dX5_joined_156 : decode cX5_joined 156 = .ok (.goto 4, 3) := dk_167 0 4 (dk_at dksX5_joined_3 18 rfl rfl)
theorem dX5_joined_159 : decode cX5_joined 159 = .ok (.iconst 0, 1) := dk_3 (dk_at dksX5_joined_3 21 rfl rfl)
theorem dX5_joined_160 : decode cX5_joined 160 = .ok (.ireturn, 1) := dk_172 (dk_at dksX5_joined_3 22 rfl rfl)
theorem dX5_joined_161 : decode cX5_joined 161 = .ok (.iload_n 1, 1) := dk_27 (dk_at dksX5_joined_3 23 rfl rfl)
theorem dX5_joined_162 : decode cX5_joined 162 = .ok (.iload_n 2, 1) := dk_28 (dk_at dksX5_joined_4 0 rfl rfl)
theorem dX5_joined_163 : decode cX5_joined 163 = .ok (.if_icmp .le 7, 3) := dk_164 0 7 (dk_at dksX5_joined_4 1 rfl rfl)
theorem dX5_joined_166 : decode cX5_joined 166 = .ok (.iconst 1, 1) := dk_4 (dk_at dksX5_joined_4 4 rfl rfl)
theorem dX5_joined_167 : decode cX5_joined 167 = .ok (.goto 4, 3) := dk_167 0 4 (dk_at dksX5_joined_4 5 rfl rfl)
theorem dX5_joined_170 : decode cX5_joined 170 = .ok (.iconst 0, 1) := dk_3 (dk_at dksX5_joined_4 8 rfl rfl)
theorem dX5_joined_171 : decode cX5_joined 171 = .ok (.ireturn, 1) := dk_172 (dk_at dksX5_joined_4 9 rfl rfl)
theorem dX5_joined_172 : decode cX5_joined 172 = .ok (.iload_n 1, 1) := dk_27 (dk_at dksX5_joined_4 10 rfl rfl)
theorem dX5_joined_173 : decode cX5_joined 173 = .ok (.iload_n 2, 1) := dk_28 (dk_at dksX5_joined_4 11 rfl rfl)
theorem dX5_joined_174 : decode cX5_joined 174 = .ok (.if_icmp .ne 7, 3) := dk_160 0 7 (dk_at dksX5_joined_4 12 rfl rfl)
theorem dX5_joined_177 : decode cX5_joined 177 = .ok (.iconst 1, 1) := dk_4 (dk_at dksX5_joined_4 15 rfl rfl)
theorem dX5_joined_178 : decode cX5_joined 178 = .ok (.goto 4, 3) := dk_167 0 4 (dk_at dksX5_joined_4 16 rfl rfl)
theorem dX5_joined_181 : decode cX5_joined 181 = .ok (.iconst 0, 1) := dk_3 (dk_at dksX5_joined_4 19 rfl rfl)
theorem dX5_joined_182 : decode cX5_joined 182 = .ok (.ireturn, 1) := dk_172 (dk_at dksX5_joined_4 20 rfl rfl)
theorem dX5_joined_183 : decode cX5_joined 183 = .ok (.iload_n 1, 1) := dk_27 (dk_at dksX5_joined_4 21 rfl rfl)
theorem dX5_joined_184 : decode cX5_joined 184 = .ok (.ifCond .eq 11, 3) := dk_153 0 11 (dk_at dksX5_joined_5 0 rfl rfl)
theorem dX5_joined_187 : decode cX5_joined 187 = .ok (.iload_n 2, 1) := dk_28 (dk_at dksX5_joined_5 3 rfl rfl)
theorem dX5_joined_188 : decode cX5_joined 188 = .ok (.ifCond .eq 7, 3) := dk_153 0 7 (dk_at dksX5_joined_5 4 rfl rfl)
theorem dX5_joined_191 : decode cX5_joined 191 = .ok (.iconst 1, 1) := dk_4 (dk_at dksX5_joined_5 7 rfl rfl)
theorem dX5_joined_192 : decode cX5_joined 192 = .ok (.goto 4, 3) := dk_167 0 4 (dk_at dksX5_joined_5 8 rfl rfl)
theorem dX5_joined_195 : decode cX5_joined 195 = .ok (.iconst 0, 1) := dk_3 (dk_at dksX5_joined_5 11 rfl rfl)
theorem dX5_joined_196 : decode cX5_joined 196 = .ok (.ireturn, 1) := dk_172 (dk_at dksX5_joined_5 12 rfl rfl)
theorem dX5_joined_197 : decode cX5_joined 197 = .ok (.iload_n 1, 1) := dk_27 (dk_at dksX5_joined_5 13 rfl rfl)
theorem dX5_joined_198 : decode cX5_joined 198 = .ok (.ifCond .ne 7, 3) := dk_154 0 7 (dk_at dksX5_joined_5 14 rfl rfl)
theorem dX5_joined_201 : decode cX5_joined 201 = .ok (.iload_n 2, 1) := dk_28 (dk_at dksX5_joined_5 17 rfl rfl)
theorem dX5_joined_202 : decode cX5_joined 202 = .ok (.ifCond .eq 7, 3) := dk_153 0 7 (dk_at dksX5_joined_5 18 rfl rfl)
theorem dX5_joined_205 : decode cX5_joined 205 = .ok (.iconst 1, 1) := dk_4 (dk_at dksX5_joined_5 21 rfl rfl)
theorem dX5_joined_206 : decode cX5_joined 206 = .ok (.goto 4, 3) := dk_167 0 4 (dk_at dksX5_joined_6 0 rfl rfl)
theorem dX5_joined_209 : decode cX5_joined 209 = .ok (.iconst 0, 1) := dk_3 (dk_at dksX5_joined_6 3 rfl rfl)
theorem dX5_joined_210 : decode cX5_joined 210 = .ok (.ireturn, 1) := dk_172 (dk_at dksX5_joined_6 4 rfl rfl)
abbrev cX5_worth : ByteArray := prog_18_method_20_code
def yX5_worth : MethodName := ⟨RX5, "worth", "(I)I"⟩
def dkwX5_worth_2 : List UInt8 := [28, 7, 96, 172, 5, 28, 7, 96, 104, 172, 16, 60, 28, 100, 172, 16, 55, 28, 100, 172, 5, 172, 28, 172]
abbrev dktX5_worth_2 : List UInt8 := dkwX5_worth_2 ++ []
def dkwX5_worth_1 : List UInt8 := [170, 0, 0, 0, 0, 0, 57, 0, 0, 0, 1, 0, 0, 0, 5, 0, 0, 0, 35, 0, 0, 0, 45, 0, 0, 0, 39, 0, 0, 0, 50, 0, 0, 0, 55]
abbrev dktX5_worth_1 : List UInt8 := dkwX5_worth_1 ++ dktX5_worth_2
def dkwX5_worth_0 : List UInt8 := [42, 27, 4, 182, 0, 88, 61, 42, 27, 3, 182, 0, 88]
abbrev dktX5_worth_0 : List UInt8 := dkwX5_worth_0 ++ dktX5_worth_1
theorem dksX5_worth_0 : cX5_worth.data.toList.drop 0 = dktX5_worth_0 := by decide +kernel
theorem dksX5_worth_1 : cX5_worth.data.toList.drop 13 = dktX5_worth_1 := dk_seg dksX5_worth_0 13 rfl rfl
theorem dksX5_worth_2 : cX5_worth.data.toList.drop 48 = dktX5_worth_2 := dk_seg dksX5_worth_1 35 rfl rfl
theorem dX5_worth_0 : decode cX5_worth 0 = .ok (.aload_n 0, 1) := dk_42 (dk_at dksX5_worth_0 0 rfl rfl)
theorem dX5_worth_1 : decode cX5_worth 1 = .ok (.iload_n 1, 1) := dk_27 (dk_at dksX5_worth_0 1 rfl rfl)
theorem dX5_worth_2 : decode cX5_worth 2 = .ok (.iconst 1, 1) := dk_4 (dk_at dksX5_worth_0 2 rfl rfl)
theorem dX5_worth_3 : decode cX5_worth 3 = .ok (.invokevirtual 88, 3) := dk_182 0 88 (dk_at dksX5_worth_0 3 rfl rfl)
theorem dX5_worth_6 : decode cX5_worth 6 = .ok (.istore_n 2, 1) := dk_61 (dk_at dksX5_worth_0 6 rfl rfl)
theorem dX5_worth_7 : decode cX5_worth 7 = .ok (.aload_n 0, 1) := dk_42 (dk_at dksX5_worth_0 7 rfl rfl)
theorem dX5_worth_8 : decode cX5_worth 8 = .ok (.iload_n 1, 1) := dk_27 (dk_at dksX5_worth_0 8 rfl rfl)
theorem dX5_worth_9 : decode cX5_worth 9 = .ok (.iconst 0, 1) := dk_3 (dk_at dksX5_worth_0 9 rfl rfl)
theorem dX5_worth_10 : decode cX5_worth 10 = .ok (.invokevirtual 88, 3) := dk_182 0 88 (dk_at dksX5_worth_0 10 rfl rfl)
theorem dX5_worth_13 : decode cX5_worth 13 = .ok (.tableswitch 57 1 5 #[35, 45, 39, 50, 55], 35) := by decide +kernel
theorem dX5_worth_48 : decode cX5_worth 48 = .ok (.iload_n 2, 1) := dk_28 (dk_at dksX5_worth_2 0 rfl rfl)
theorem dX5_worth_49 : decode cX5_worth 49 = .ok (.iconst 4, 1) := dk_7 (dk_at dksX5_worth_2 1 rfl rfl)
theorem dX5_worth_50 : decode cX5_worth 50 = .ok (.iadd, 1) := dk_96 (dk_at dksX5_worth_2 2 rfl rfl)
theorem dX5_worth_51 : decode cX5_worth 51 = .ok (.ireturn, 1) := dk_172 (dk_at dksX5_worth_2 3 rfl rfl)
theorem dX5_worth_52 : decode cX5_worth 52 = .ok (.iconst 2, 1) := dk_5 (dk_at dksX5_worth_2 4 rfl rfl)
theorem dX5_worth_53 : decode cX5_worth 53 = .ok (.iload_n 2, 1) := dk_28 (dk_at dksX5_worth_2 5 rfl rfl)
theorem dX5_worth_54 : decode cX5_worth 54 = .ok (.iconst 4, 1) := dk_7 (dk_at dksX5_worth_2 6 rfl rfl)
theorem dX5_worth_55 : decode cX5_worth 55 = .ok (.iadd, 1) := dk_96 (dk_at dksX5_worth_2 7 rfl rfl)
theorem dX5_worth_56 : decode cX5_worth 56 = .ok (.imul, 1) := dk_104 (dk_at dksX5_worth_2 8 rfl rfl)
theorem dX5_worth_57 : decode cX5_worth 57 = .ok (.ireturn, 1) := dk_172 (dk_at dksX5_worth_2 9 rfl rfl)
theorem dX5_worth_58 : decode cX5_worth 58 = .ok (.bipush 60, 2) := dk_16 60 (dk_at dksX5_worth_2 10 rfl rfl)
theorem dX5_worth_60 : decode cX5_worth 60 = .ok (.iload_n 2, 1) := dk_28 (dk_at dksX5_worth_2 12 rfl rfl)
theorem dX5_worth_61 : decode cX5_worth 61 = .ok (.isub, 1) := dk_100 (dk_at dksX5_worth_2 13 rfl rfl)
theorem dX5_worth_62 : decode cX5_worth 62 = .ok (.ireturn, 1) := dk_172 (dk_at dksX5_worth_2 14 rfl rfl)
theorem dX5_worth_63 : decode cX5_worth 63 = .ok (.bipush 55, 2) := dk_16 55 (dk_at dksX5_worth_2 15 rfl rfl)
theorem dX5_worth_65 : decode cX5_worth 65 = .ok (.iload_n 2, 1) := dk_28 (dk_at dksX5_worth_2 17 rfl rfl)
theorem dX5_worth_66 : decode cX5_worth 66 = .ok (.isub, 1) := dk_100 (dk_at dksX5_worth_2 18 rfl rfl)
theorem dX5_worth_67 : decode cX5_worth 67 = .ok (.ireturn, 1) := dk_172 (dk_at dksX5_worth_2 19 rfl rfl)
theorem dX5_worth_68 : decode cX5_worth 68 = .ok (.iconst 2, 1) := dk_5 (dk_at dksX5_worth_2 20 rfl rfl)
theorem dX5_worth_69 : decode cX5_worth 69 = .ok (.ireturn, 1) := dk_172 (dk_at dksX5_worth_2 21 rfl rfl)
theorem dX5_worth_70 : decode cX5_worth 70 = .ok (.iload_n 2, 1) := dk_28 (dk_at dksX5_worth_2 22 rfl rfl)
theorem dX5_worth_71 : decode cX5_worth 71 = .ok (.ireturn, 1) := dk_172 (dk_at dksX5_worth_2 23 rfl rfl)
abbrev cX5_as : ByteArray := prog_18_method_24_code
def yX5_as : MethodName := ⟨RX5, "as", "(II)I"⟩
def dkwX5_as_1 : List UInt8 := [27, 3, 182, 0, 88, 28, 184, 0, 121, 153, 0, 12, 42, 27, 5, 182, 0, 88, 167, 0, 5, 18, 125, 172]
abbrev dktX5_as_1 : List UInt8 := dkwX5_as_1 ++ []
def dkwX5_as_0 : List UInt8 := [42, 27, 182, 0, 107, 153, 0, 15, 28, 133, 9, 20, 0, 77, 184, 0, 68, 154, 0, 6, 18, 83, 172, 42]
abbrev dktX5_as_0 : List UInt8 := dkwX5_as_0 ++ dktX5_as_1
theorem dksX5_as_0 : cX5_as.data.toList.drop 0 = dktX5_as_0 := by decide +kernel
theorem dksX5_as_1 : cX5_as.data.toList.drop 24 = dktX5_as_1 := dk_seg dksX5_as_0 24 rfl rfl
theorem dX5_as_0 : decode cX5_as 0 = .ok (.aload_n 0, 1) := dk_42 (dk_at dksX5_as_0 0 rfl rfl)
theorem dX5_as_1 : decode cX5_as 1 = .ok (.iload_n 1, 1) := dk_27 (dk_at dksX5_as_0 1 rfl rfl)
theorem dX5_as_2 : decode cX5_as 2 = .ok (.invokevirtual 107, 3) := dk_182 0 107 (dk_at dksX5_as_0 2 rfl rfl)
theorem dX5_as_5 : decode cX5_as 5 = .ok (.ifCond .eq 15, 3) := dk_153 0 15 (dk_at dksX5_as_0 5 rfl rfl)
theorem dX5_as_8 : decode cX5_as 8 = .ok (.iload_n 2, 1) := dk_28 (dk_at dksX5_as_0 8 rfl rfl)
theorem dX5_as_9 : decode cX5_as 9 = .ok (.i2l, 1) := dk_133 (dk_at dksX5_as_0 9 rfl rfl)
theorem dX5_as_10 : decode cX5_as 10 = .ok (.lconst 0, 1) := dk_9 (dk_at dksX5_as_0 10 rfl rfl)
theorem dX5_as_11 : decode cX5_as 11 = .ok (.ldc2_w 77, 3) := dk_20 0 77 (dk_at dksX5_as_0 11 rfl rfl)
theorem dX5_as_14 : decode cX5_as 14 = .ok (.invokestatic 68, 3) := dk_184 0 68 (dk_at dksX5_as_0 14 rfl rfl)
theorem dX5_as_17 : decode cX5_as 17 = .ok (.ifCond .ne 6, 3) := dk_154 0 6 (dk_at dksX5_as_0 17 rfl rfl)
theorem dX5_as_20 : decode cX5_as 20 = .ok (.ldc 83, 2) := dk_18 83 (dk_at dksX5_as_0 20 rfl rfl)
theorem dX5_as_22 : decode cX5_as 22 = .ok (.ireturn, 1) := dk_172 (dk_at dksX5_as_0 22 rfl rfl)
theorem dX5_as_23 : decode cX5_as 23 = .ok (.aload_n 0, 1) := dk_42 (dk_at dksX5_as_0 23 rfl rfl)
theorem dX5_as_24 : decode cX5_as 24 = .ok (.iload_n 1, 1) := dk_27 (dk_at dksX5_as_1 0 rfl rfl)
theorem dX5_as_25 : decode cX5_as 25 = .ok (.iconst 0, 1) := dk_3 (dk_at dksX5_as_1 1 rfl rfl)
theorem dX5_as_26 : decode cX5_as 26 = .ok (.invokevirtual 88, 3) := dk_182 0 88 (dk_at dksX5_as_1 2 rfl rfl)
theorem dX5_as_29 : decode cX5_as 29 = .ok (.iload_n 2, 1) := dk_28 (dk_at dksX5_as_1 5 rfl rfl)
theorem dX5_as_30 : decode cX5_as 30 = .ok (.invokestatic 121, 3) := dk_184 0 121 (dk_at dksX5_as_1 6 rfl rfl)
theorem dX5_as_33 : decode cX5_as 33 = .ok (.ifCond .eq 12, 3) := dk_153 0 12 (dk_at dksX5_as_1 9 rfl rfl)
theorem dX5_as_36 : decode cX5_as 36 = .ok (.aload_n 0, 1) := dk_42 (dk_at dksX5_as_1 12 rfl rfl)
theorem dX5_as_37 : decode cX5_as 37 = .ok (.iload_n 1, 1) := dk_27 (dk_at dksX5_as_1 13 rfl rfl)
theorem dX5_as_38 : decode cX5_as 38 = .ok (.iconst 2, 1) := dk_5 (dk_at dksX5_as_1 14 rfl rfl)
theorem dX5_as_39 : decode cX5_as 39 = .ok (.invokevirtual 88, 3) := dk_182 0 88 (dk_at dksX5_as_1 15 rfl rfl)
theorem dX5_as_42 : decode cX5_as 42 = .ok (.goto 5, 3) := dk_167 0 5 (dk_at dksX5_as_1 18 rfl rfl)
theorem dX5_as_45 : decode cX5_as 45 = .ok (.ldc 125, 2) := dk_18 125 (dk_at dksX5_as_1 21 rfl rfl)
theorem dX5_as_47 : decode cX5_as 47 = .ok (.ireturn, 1) := dk_172 (dk_at dksX5_as_1 23 rfl rfl)
abbrev cX5_isOf : ByteArray := prog_18_method_13_code
def yX5_isOf : MethodName := ⟨RX5, "isOf", "(II)Z"⟩
def dkwX5_isOf_1 : List UInt8 := [26, 7, 160, 0, 7, 4, 167, 0, 4, 3, 172]
abbrev dktX5_isOf_1 : List UInt8 := dkwX5_isOf_1 ++ []
def dkwX5_isOf_0 : List UInt8 := [26, 27, 159, 0, 27, 27, 153, 0, 23, 27, 4, 160, 0, 8, 26, 6, 159, 0, 13, 27, 5, 160, 0, 12]
abbrev dktX5_isOf_0 : List UInt8 := dkwX5_isOf_0 ++ dktX5_isOf_1
theorem dksX5_isOf_0 : cX5_isOf.data.toList.drop 0 = dktX5_isOf_0 := by decide +kernel
theorem dksX5_isOf_1 : cX5_isOf.data.toList.drop 24 = dktX5_isOf_1 := dk_seg dksX5_isOf_0 24 rfl rfl
theorem dX5_isOf_0 : decode cX5_isOf 0 = .ok (.iload_n 0, 1) := dk_26 (dk_at dksX5_isOf_0 0 rfl rfl)
theorem dX5_isOf_1 : decode cX5_isOf 1 = .ok (.iload_n 1, 1) := dk_27 (dk_at dksX5_isOf_0 1 rfl rfl)
theorem dX5_isOf_2 : decode cX5_isOf 2 = .ok (.if_icmp .eq 27, 3) := dk_159 0 27 (dk_at dksX5_isOf_0 2 rfl rfl)
theorem dX5_isOf_5 : decode cX5_isOf 5 = .ok (.iload_n 1, 1) := dk_27 (dk_at dksX5_isOf_0 5 rfl rfl)
theorem dX5_isOf_6 : decode cX5_isOf 6 = .ok (.ifCond .eq 23, 3) := dk_153 0 23 (dk_at dksX5_isOf_0 6 rfl rfl)
theorem dX5_isOf_9 : decode cX5_isOf 9 = .ok (.iload_n 1, 1) := dk_27 (dk_at dksX5_isOf_0 9 rfl rfl)
theorem dX5_isOf_10 : decode cX5_isOf 10 = .ok (.iconst 1, 1) := dk_4 (dk_at dksX5_isOf_0 10 rfl rfl)
theorem dX5_isOf_11 : decode cX5_isOf 11 = .ok (.if_icmp .ne 8, 3) := dk_160 0 8 (dk_at dksX5_isOf_0 11 rfl rfl)
theorem dX5_isOf_14 : decode cX5_isOf 14 = .ok (.iload_n 0, 1) := dk_26 (dk_at dksX5_isOf_0 14 rfl rfl)
theorem dX5_isOf_15 : decode cX5_isOf 15 = .ok (.iconst 3, 1) := dk_6 (dk_at dksX5_isOf_0 15 rfl rfl)
theorem dX5_isOf_16 : decode cX5_isOf 16 = .ok (.if_icmp .eq 13, 3) := dk_159 0 13 (dk_at dksX5_isOf_0 16 rfl rfl)
theorem dX5_isOf_19 : decode cX5_isOf 19 = .ok (.iload_n 1, 1) := dk_27 (dk_at dksX5_isOf_0 19 rfl rfl)
theorem dX5_isOf_20 : decode cX5_isOf 20 = .ok (.iconst 2, 1) := dk_5 (dk_at dksX5_isOf_0 20 rfl rfl)
theorem dX5_isOf_21 : decode cX5_isOf 21 = .ok (.if_icmp .ne 12, 3) := dk_160 0 12 (dk_at dksX5_isOf_0 21 rfl rfl)
theorem dX5_isOf_24 : decode cX5_isOf 24 = .ok (.iload_n 0, 1) := dk_26 (dk_at dksX5_isOf_1 0 rfl rfl)
theorem dX5_isOf_25 : decode cX5_isOf 25 = .ok (.iconst 4, 1) := dk_7 (dk_at dksX5_isOf_1 1 rfl rfl)
theorem dX5_isOf_26 : decode cX5_isOf 26 = .ok (.if_icmp .ne 7, 3) := dk_160 0 7 (dk_at dksX5_isOf_1 2 rfl rfl)
theorem dX5_isOf_29 : decode cX5_isOf 29 = .ok (.iconst 1, 1) := dk_4 (dk_at dksX5_isOf_1 5 rfl rfl)
theorem dX5_isOf_30 : decode cX5_isOf 30 = .ok (.goto 4, 3) := dk_167 0 4 (dk_at dksX5_isOf_1 6 rfl rfl)
theorem dX5_isOf_33 : decode cX5_isOf 33 = .ok (.iconst 0, 1) := dk_3 (dk_at dksX5_isOf_1 9 rfl rfl)
theorem dX5_isOf_34 : decode cX5_isOf 34 = .ok (.ireturn, 1) := dk_172 (dk_at dksX5_isOf_1 10 rfl rfl)
abbrev cX5_turns : ByteArray := prog_18_method_25_code
def yX5_turns : MethodName := ⟨RX5, "turns", "(II)I"⟩
def dkwX5_turns_1 : List UInt8 := [27, 104, 96, 28, 182, 0, 126, 167, 0, 5, 18, 83, 172]
abbrev dktX5_turns_1 : List UInt8 := dkwX5_turns_1 ++ []
def dkwX5_turns_0 : List UInt8 := [42, 27, 182, 0, 107, 153, 0, 29, 28, 133, 9, 20, 0, 77, 184, 0, 68, 153, 0, 17, 42, 16, 10, 6]
abbrev dktX5_turns_0 : List UInt8 := dkwX5_turns_0 ++ dktX5_turns_1
theorem dksX5_turns_0 : cX5_turns.data.toList.drop 0 = dktX5_turns_0 := by decide +kernel
theorem dksX5_turns_1 : cX5_turns.data.toList.drop 24 = dktX5_turns_1 := dk_seg dksX5_turns_0 24 rfl rfl
theorem dX5_turns_0 : decode cX5_turns 0 = .ok (.aload_n 0, 1) := dk_42 (dk_at dksX5_turns_0 0 rfl rfl)
theorem dX5_turns_1 : decode cX5_turns 1 = .ok (.iload_n 1, 1) := dk_27 (dk_at dksX5_turns_0 1 rfl rfl)
theorem dX5_turns_2 : decode cX5_turns 2 = .ok (.invokevirtual 107, 3) := dk_182 0 107 (dk_at dksX5_turns_0 2 rfl rfl)
theorem dX5_turns_5 : decode cX5_turns 5 = .ok (.ifCond .eq 29, 3) := dk_153 0 29 (dk_at dksX5_turns_0 5 rfl rfl)
theorem dX5_turns_8 : decode cX5_turns 8 = .ok (.iload_n 2, 1) := dk_28 (dk_at dksX5_turns_0 8 rfl rfl)
theorem dX5_turns_9 : decode cX5_turns 9 = .ok (.i2l, 1) := dk_133 (dk_at dksX5_turns_0 9 rfl rfl)
theorem dX5_turns_10 : decode cX5_turns 10 = .ok (.lconst 0, 1) := dk_9 (dk_at dksX5_turns_0 10 rfl rfl)
theorem dX5_turns_11 : decode cX5_turns 11 = .ok (.ldc2_w 77, 3) := dk_20 0 77 (dk_at dksX5_turns_0 11 rfl rfl)
theorem dX5_turns_14 : decode cX5_turns 14 = .ok (.invokestatic 68, 3) := dk_184 0 68 (dk_at dksX5_turns_0 14 rfl rfl)
theorem dX5_turns_17 : decode cX5_turns 17 = .ok (.ifCond .eq 17, 3) := dk_153 0 17 (dk_at dksX5_turns_0 17 rfl rfl)
theorem dX5_turns_20 : decode cX5_turns 20 = .ok (.aload_n 0, 1) := dk_42 (dk_at dksX5_turns_0 20 rfl rfl)
theorem dX5_turns_21 : decode cX5_turns 21 = .ok (.bipush 10, 2) := dk_16 10 (dk_at dksX5_turns_0 21 rfl rfl)
theorem dX5_turns_23 : decode cX5_turns 23 = .ok (.iconst 3, 1) := dk_6 (dk_at dksX5_turns_0 23 rfl rfl)
theorem dX5_turns_24 : decode cX5_turns 24 = .ok (.iload_n 1, 1) := dk_27 (dk_at dksX5_turns_1 0 rfl rfl)
theorem dX5_turns_25 : decode cX5_turns 25 = .ok (.imul, 1) := dk_104 (dk_at dksX5_turns_1 1 rfl rfl)
theorem dX5_turns_26 : decode cX5_turns 26 = .ok (.iadd, 1) := dk_96 (dk_at dksX5_turns_1 2 rfl rfl)
theorem dX5_turns_27 : decode cX5_turns 27 = .ok (.iload_n 2, 1) := dk_28 (dk_at dksX5_turns_1 3 rfl rfl)
theorem dX5_turns_28 : decode cX5_turns 28 = .ok (.invokevirtual 126, 3) := dk_182 0 126 (dk_at dksX5_turns_1 4 rfl rfl)
theorem dX5_turns_31 : decode cX5_turns 31 = .ok (.goto 5, 3) := dk_167 0 5 (dk_at dksX5_turns_1 7 rfl rfl)
theorem dX5_turns_34 : decode cX5_turns 34 = .ok (.ldc 83, 2) := dk_18 83 (dk_at dksX5_turns_1 10 rfl rfl)
theorem dX5_turns_36 : decode cX5_turns 36 = .ok (.ireturn, 1) := dk_172 (dk_at dksX5_turns_1 12 rfl rfl)
abbrev cX5_becomes : ByteArray := prog_18_method_6_code
def yX5_becomes : MethodName := ⟨RX5, "becomes", "(II)I"⟩
def dkwX5_becomes_0 : List UInt8 := [42, 180, 0, 7, 27, 46, 62, 42, 180, 0, 7, 27, 28, 79, 29, 172]
abbrev dktX5_becomes_0 : List UInt8 := dkwX5_becomes_0 ++ []
theorem dksX5_becomes_0 : cX5_becomes.data.toList.drop 0 = dktX5_becomes_0 := by decide +kernel
theorem dX5_becomes_0 : decode cX5_becomes 0 = .ok (.aload_n 0, 1) := dk_42 (dk_at dksX5_becomes_0 0 rfl rfl)
theorem dX5_becomes_1 : decode cX5_becomes 1 = .ok (.getfield 7, 3) := dk_180 0 7 (dk_at dksX5_becomes_0 1 rfl rfl)
theorem dX5_becomes_4 : decode cX5_becomes 4 = .ok (.iload_n 1, 1) := dk_27 (dk_at dksX5_becomes_0 4 rfl rfl)
theorem dX5_becomes_5 : decode cX5_becomes 5 = .ok (.iaload, 1) := dk_46 (dk_at dksX5_becomes_0 5 rfl rfl)
theorem dX5_becomes_6 : decode cX5_becomes 6 = .ok (.istore_n 3, 1) := dk_62 (dk_at dksX5_becomes_0 6 rfl rfl)
theorem dX5_becomes_7 : decode cX5_becomes 7 = .ok (.aload_n 0, 1) := dk_42 (dk_at dksX5_becomes_0 7 rfl rfl)
theorem dX5_becomes_8 : decode cX5_becomes 8 = .ok (.getfield 7, 3) := dk_180 0 7 (dk_at dksX5_becomes_0 8 rfl rfl)
theorem dX5_becomes_11 : decode cX5_becomes 11 = .ok (.iload_n 1, 1) := dk_27 (dk_at dksX5_becomes_0 11 rfl rfl)
theorem dX5_becomes_12 : decode cX5_becomes 12 = .ok (.iload_n 2, 1) := dk_28 (dk_at dksX5_becomes_0 12 rfl rfl)
theorem dX5_becomes_13 : decode cX5_becomes 13 = .ok (.iastore, 1) := dk_79 (dk_at dksX5_becomes_0 13 rfl rfl)
theorem dX5_becomes_14 : decode cX5_becomes 14 = .ok (.iload_n 3, 1) := dk_29 (dk_at dksX5_becomes_0 14 rfl rfl)
theorem dX5_becomes_15 : decode cX5_becomes 15 = .ok (.ireturn, 1) := dk_172 (dk_at dksX5_becomes_0 15 rfl rfl)
abbrev cX5_set : ByteArray := prog_18_method_26_code
def yX5_set : MethodName := ⟨RX5, "set", "(III)I"⟩
def dkwX5_set_2 : List UInt8 := [16, 10, 6, 27, 104, 96, 28, 96, 29, 182, 0, 126, 172]
abbrev dktX5_set_2 : List UInt8 := dkwX5_set_2 ++ []
def dkwX5_set_1 : List UInt8 := [4, 160, 0, 9, 20, 0, 79, 167, 0, 6, 20, 0, 81, 184, 0, 68, 154, 0, 6, 18, 83, 172, 42]
abbrev dktX5_set_1 : List UInt8 := dkwX5_set_1 ++ dktX5_set_2
def dkwX5_set_0 : List UInt8 := [42, 27, 182, 0, 107, 153, 0, 38, 28, 133, 10, 20, 0, 129, 184, 0, 68, 153, 0, 26, 29, 133, 9, 28]
abbrev dktX5_set_0 : List UInt8 := dkwX5_set_0 ++ dktX5_set_1
theorem dksX5_set_0 : cX5_set.data.toList.drop 0 = dktX5_set_0 := by decide +kernel
theorem dksX5_set_1 : cX5_set.data.toList.drop 24 = dktX5_set_1 := dk_seg dksX5_set_0 24 rfl rfl
theorem dksX5_set_2 : cX5_set.data.toList.drop 47 = dktX5_set_2 := dk_seg dksX5_set_1 23 rfl rfl
theorem dX5_set_0 : decode cX5_set 0 = .ok (.aload_n 0, 1) := dk_42 (dk_at dksX5_set_0 0 rfl rfl)
theorem dX5_set_1 : decode cX5_set 1 = .ok (.iload_n 1, 1) := dk_27 (dk_at dksX5_set_0 1 rfl rfl)
theorem dX5_set_2 : decode cX5_set 2 = .ok (.invokevirtual 107, 3) := dk_182 0 107 (dk_at dksX5_set_0 2 rfl rfl)
theorem dX5_set_5 : decode cX5_set 5 = .ok (.ifCond .eq 38, 3) := dk_153 0 38 (dk_at dksX5_set_0 5 rfl rfl)
theorem dX5_set_8 : decode cX5_set 8 = .ok (.iload_n 2, 1) := dk_28 (dk_at dksX5_set_0 8 rfl rfl)
theorem dX5_set_9 : decode cX5_set 9 = .ok (.i2l, 1) := dk_133 (dk_at dksX5_set_0 9 rfl rfl)
theorem dX5_set_10 : decode cX5_set 10 = .ok (.lconst 1, 1) := dk_10 (dk_at dksX5_set_0 10 rfl rfl)
theorem dX5_set_11 : decode cX5_set 11 = .ok (.ldc2_w 129, 3) := dk_20 0 129 (dk_at dksX5_set_0 11 rfl rfl)
theorem dX5_set_14 : decode cX5_set 14 = .ok (.invokestatic 68, 3) := dk_184 0 68 (dk_at dksX5_set_0 14 rfl rfl)
theorem dX5_set_17 : decode cX5_set 17 = .ok (.ifCond .eq 26, 3) := dk_153 0 26 (dk_at dksX5_set_0 17 rfl rfl)
theorem dX5_set_20 : decode cX5_set 20 = .ok (.iload_n 3, 1) := dk_29 (dk_at dksX5_set_0 20 rfl rfl)
theorem dX5_set_21 : decode cX5_set 21 = .ok (.i2l, 1) := dk_133 (dk_at dksX5_set_0 21 rfl rfl)
theorem dX5_set_22 : decode cX5_set 22 = .ok (.lconst 0, 1) := dk_9 (dk_at dksX5_set_0 22 rfl rfl)
theorem dX5_set_23 : decode cX5_set 23 = .ok (.iload_n 2, 1) := dk_28 (dk_at dksX5_set_0 23 rfl rfl)
theorem dX5_set_24 : decode cX5_set 24 = .ok (.iconst 1, 1) := dk_4 (dk_at dksX5_set_1 0 rfl rfl)
theorem dX5_set_25 : decode cX5_set 25 = .ok (.if_icmp .ne 9, 3) := dk_160 0 9 (dk_at dksX5_set_1 1 rfl rfl)
theorem dX5_set_28 : decode cX5_set 28 = .ok (.ldc2_w 79, 3) := dk_20 0 79 (dk_at dksX5_set_1 4 rfl rfl)
theorem dX5_set_31 : decode cX5_set 31 = .ok (.goto 6, 3) := dk_167 0 6 (dk_at dksX5_set_1 7 rfl rfl)
theorem dX5_set_34 : decode cX5_set 34 = .ok (.ldc2_w 81, 3) := dk_20 0 81 (dk_at dksX5_set_1 10 rfl rfl)
theorem dX5_set_37 : decode cX5_set 37 = .ok (.invokestatic 68, 3) := dk_184 0 68 (dk_at dksX5_set_1 13 rfl rfl)
theorem dX5_set_40 : decode cX5_set 40 = .ok (.ifCond .ne 6, 3) := dk_154 0 6 (dk_at dksX5_set_1 16 rfl rfl)
theorem dX5_set_43 : decode cX5_set 43 = .ok (.ldc 83, 2) := dk_18 83 (dk_at dksX5_set_1 19 rfl rfl)
theorem dX5_set_45 : decode cX5_set 45 = .ok (.ireturn, 1) := dk_172 (dk_at dksX5_set_1 21 rfl rfl)
theorem dX5_set_46 : decode cX5_set 46 = .ok (.aload_n 0, 1) := dk_42 (dk_at dksX5_set_1 22 rfl rfl)
theorem dX5_set_47 : decode cX5_set 47 = .ok (.bipush 10, 2) := dk_16 10 (dk_at dksX5_set_2 0 rfl rfl)
theorem dX5_set_49 : decode cX5_set 49 = .ok (.iconst 3, 1) := dk_6 (dk_at dksX5_set_2 2 rfl rfl)
theorem dX5_set_50 : decode cX5_set 50 = .ok (.iload_n 1, 1) := dk_27 (dk_at dksX5_set_2 3 rfl rfl)
theorem dX5_set_51 : decode cX5_set 51 = .ok (.imul, 1) := dk_104 (dk_at dksX5_set_2 4 rfl rfl)
theorem dX5_set_52 : decode cX5_set 52 = .ok (.iadd, 1) := dk_96 (dk_at dksX5_set_2 5 rfl rfl)
theorem dX5_set_53 : decode cX5_set 53 = .ok (.iload_n 2, 1) := dk_28 (dk_at dksX5_set_2 6 rfl rfl)
theorem dX5_set_54 : decode cX5_set 54 = .ok (.iadd, 1) := dk_96 (dk_at dksX5_set_2 7 rfl rfl)
theorem dX5_set_55 : decode cX5_set 55 = .ok (.iload_n 3, 1) := dk_29 (dk_at dksX5_set_2 8 rfl rfl)
theorem dX5_set_56 : decode cX5_set 56 = .ok (.invokevirtual 126, 3) := dk_182 0 126 (dk_at dksX5_set_2 9 rfl rfl)
theorem dX5_set_59 : decode cX5_set 59 = .ok (.ireturn, 1) := dk_172 (dk_at dksX5_set_2 12 rfl rfl)
abbrev cX5_strokes : ByteArray := prog_18_method_27_code
def yX5_strokes : MethodName := ⟨RX5, "strokes", "(II)I"⟩
def dkwX5_strokes_1 : List UInt8 := [18, 83, 172]
abbrev dktX5_strokes_1 : List UInt8 := dkwX5_strokes_1 ++ []
def dkwX5_strokes_0 : List UInt8 := [42, 27, 182, 0, 107, 153, 0, 19, 28, 184, 0, 131, 153, 0, 12, 42, 27, 28, 182, 0, 115, 167, 0, 5]
abbrev dktX5_strokes_0 : List UInt8 := dkwX5_strokes_0 ++ dktX5_strokes_1
theorem dksX5_strokes_0 : cX5_strokes.data.toList.drop 0 = dktX5_strokes_0 := by decide +kernel
theorem dksX5_strokes_1 : cX5_strokes.data.toList.drop 24 = dktX5_strokes_1 := dk_seg dksX5_strokes_0 24 rfl rfl
theorem dX5_strokes_0 : decode cX5_strokes 0 = .ok (.aload_n 0, 1) := dk_42 (dk_at dksX5_strokes_0 0 rfl rfl)
theorem dX5_strokes_1 : decode cX5_strokes 1 = .ok (.iload_n 1, 1) := dk_27 (dk_at dksX5_strokes_0 1 rfl rfl)
theorem dX5_strokes_2 : decode cX5_strokes 2 = .ok (.invokevirtual 107, 3) := dk_182 0 107 (dk_at dksX5_strokes_0 2 rfl rfl)
theorem dX5_strokes_5 : decode cX5_strokes 5 = .ok (.ifCond .eq 19, 3) := dk_153 0 19 (dk_at dksX5_strokes_0 5 rfl rfl)
theorem dX5_strokes_8 : decode cX5_strokes 8 = .ok (.iload_n 2, 1) := dk_28 (dk_at dksX5_strokes_0 8 rfl rfl)
theorem dX5_strokes_9 : decode cX5_strokes 9 = .ok (.invokestatic 131, 3) := dk_184 0 131 (dk_at dksX5_strokes_0 9 rfl rfl)
theorem dX5_strokes_12 : decode cX5_strokes 12 = .ok (.ifCond .eq 12, 3) := dk_153 0 12 (dk_at dksX5_strokes_0 12 rfl rfl)
theorem dX5_strokes_15 : decode cX5_strokes 15 = .ok (.aload_n 0, 1) := dk_42 (dk_at dksX5_strokes_0 15 rfl rfl)
theorem dX5_strokes_16 : decode cX5_strokes 16 = .ok (.iload_n 1, 1) := dk_27 (dk_at dksX5_strokes_0 16 rfl rfl)
theorem dX5_strokes_17 : decode cX5_strokes 17 = .ok (.iload_n 2, 1) := dk_28 (dk_at dksX5_strokes_0 17 rfl rfl)
theorem dX5_strokes_18 : decode cX5_strokes 18 = .ok (.invokevirtual 115, 3) := dk_182 0 115 (dk_at dksX5_strokes_0 18 rfl rfl)
theorem dX5_strokes_21 : decode cX5_strokes 21 = .ok (.goto 5, 3) := dk_167 0 5 (dk_at dksX5_strokes_0 21 rfl rfl)
theorem dX5_strokes_24 : decode cX5_strokes 24 = .ok (.ldc 83, 2) := dk_18 83 (dk_at dksX5_strokes_1 0 rfl rfl)
theorem dX5_strokes_26 : decode cX5_strokes 26 = .ok (.ireturn, 1) := dk_172 (dk_at dksX5_strokes_1 2 rfl rfl)
abbrev cX5_isTime : ByteArray := prog_18_method_22_code
def yX5_isTime : MethodName := ⟨RX5, "isTime", "(I)Z"⟩
def dkwX5_isTime_0 : List UInt8 := [26, 133, 9, 20, 0, 105, 184, 0, 68, 172]
abbrev dktX5_isTime_0 : List UInt8 := dkwX5_isTime_0 ++ []
theorem dksX5_isTime_0 : cX5_isTime.data.toList.drop 0 = dktX5_isTime_0 := by decide +kernel
theorem dX5_isTime_0 : decode cX5_isTime 0 = .ok (.iload_n 0, 1) := dk_26 (dk_at dksX5_isTime_0 0 rfl rfl)
theorem dX5_isTime_1 : decode cX5_isTime 1 = .ok (.i2l, 1) := dk_133 (dk_at dksX5_isTime_0 1 rfl rfl)
theorem dX5_isTime_2 : decode cX5_isTime 2 = .ok (.lconst 0, 1) := dk_9 (dk_at dksX5_isTime_0 2 rfl rfl)
theorem dX5_isTime_3 : decode cX5_isTime 3 = .ok (.ldc2_w 105, 3) := dk_20 0 105 (dk_at dksX5_isTime_0 3 rfl rfl)
theorem dX5_isTime_6 : decode cX5_isTime 6 = .ok (.invokestatic 68, 3) := dk_184 0 68 (dk_at dksX5_isTime_0 6 rfl rfl)
theorem dX5_isTime_9 : decode cX5_isTime 9 = .ok (.ireturn, 1) := dk_172 (dk_at dksX5_isTime_0 9 rfl rfl)
abbrev cX5_total : ByteArray := prog_18_method_29_code
def yX5_total : MethodName := ⟨RX5, "total", "(I)I"⟩
def dkwX5_total_0 : List UInt8 := [27, 184, 0, 131, 153, 0, 11, 42, 27, 182, 0, 134, 167, 0, 5, 18, 83, 172]
abbrev dktX5_total_0 : List UInt8 := dkwX5_total_0 ++ []
theorem dksX5_total_0 : cX5_total.data.toList.drop 0 = dktX5_total_0 := by decide +kernel
theorem dX5_total_0 : decode cX5_total 0 = .ok (.iload_n 1, 1) := dk_27 (dk_at dksX5_total_0 0 rfl rfl)
theorem dX5_total_1 : decode cX5_total 1 = .ok (.invokestatic 131, 3) := dk_184 0 131 (dk_at dksX5_total_0 1 rfl rfl)
theorem dX5_total_4 : decode cX5_total 4 = .ok (.ifCond .eq 11, 3) := dk_153 0 11 (dk_at dksX5_total_0 4 rfl rfl)
theorem dX5_total_7 : decode cX5_total 7 = .ok (.aload_n 0, 1) := dk_42 (dk_at dksX5_total_0 7 rfl rfl)
theorem dX5_total_8 : decode cX5_total 8 = .ok (.iload_n 1, 1) := dk_27 (dk_at dksX5_total_0 8 rfl rfl)
theorem dX5_total_9 : decode cX5_total 9 = .ok (.invokevirtual 134, 3) := dk_182 0 134 (dk_at dksX5_total_0 9 rfl rfl)
theorem dX5_total_12 : decode cX5_total 12 = .ok (.goto 5, 3) := dk_167 0 5 (dk_at dksX5_total_0 12 rfl rfl)
theorem dX5_total_15 : decode cX5_total 15 = .ok (.ldc 83, 2) := dk_18 83 (dk_at dksX5_total_0 15 rfl rfl)
theorem dX5_total_17 : decode cX5_total 17 = .ok (.ireturn, 1) := dk_172 (dk_at dksX5_total_0 17 rfl rfl)
abbrev cX5_totalAt : ByteArray := prog_18_method_28_code
def yX5_totalAt : MethodName := ⟨RX5, "totalAt", "(I)I"⟩
def dkwX5_totalAt_1 : List UInt8 := [132, 3, 1, 167, 255, 234, 28, 172]
abbrev dktX5_totalAt_1 : List UInt8 := dkwX5_totalAt_1 ++ []
def dkwX5_totalAt_0 : List UInt8 := [3, 61, 3, 62, 29, 42, 180, 0, 7, 3, 46, 162, 0, 18, 28, 42, 29, 27, 182, 0, 115, 96, 61]
abbrev dktX5_totalAt_0 : List UInt8 := dkwX5_totalAt_0 ++ dktX5_totalAt_1
theorem dksX5_totalAt_0 : cX5_totalAt.data.toList.drop 0 = dktX5_totalAt_0 := by decide +kernel
theorem dksX5_totalAt_1 : cX5_totalAt.data.toList.drop 23 = dktX5_totalAt_1 := dk_seg dksX5_totalAt_0 23 rfl rfl
theorem dX5_totalAt_0 : decode cX5_totalAt 0 = .ok (.iconst 0, 1) := dk_3 (dk_at dksX5_totalAt_0 0 rfl rfl)
theorem dX5_totalAt_1 : decode cX5_totalAt 1 = .ok (.istore_n 2, 1) := dk_61 (dk_at dksX5_totalAt_0 1 rfl rfl)
theorem dX5_totalAt_2 : decode cX5_totalAt 2 = .ok (.iconst 0, 1) := dk_3 (dk_at dksX5_totalAt_0 2 rfl rfl)
theorem dX5_totalAt_3 : decode cX5_totalAt 3 = .ok (.istore_n 3, 1) := dk_62 (dk_at dksX5_totalAt_0 3 rfl rfl)
theorem dX5_totalAt_4 : decode cX5_totalAt 4 = .ok (.iload_n 3, 1) := dk_29 (dk_at dksX5_totalAt_0 4 rfl rfl)
theorem dX5_totalAt_5 : decode cX5_totalAt 5 = .ok (.aload_n 0, 1) := dk_42 (dk_at dksX5_totalAt_0 5 rfl rfl)
theorem dX5_totalAt_6 : decode cX5_totalAt 6 = .ok (.getfield 7, 3) := dk_180 0 7 (dk_at dksX5_totalAt_0 6 rfl rfl)
theorem dX5_totalAt_9 : decode cX5_totalAt 9 = .ok (.iconst 0, 1) := dk_3 (dk_at dksX5_totalAt_0 9 rfl rfl)
theorem dX5_totalAt_10 : decode cX5_totalAt 10 = .ok (.iaload, 1) := dk_46 (dk_at dksX5_totalAt_0 10 rfl rfl)
theorem dX5_totalAt_11 : decode cX5_totalAt 11 = .ok (.if_icmp .ge 18, 3) := dk_162 0 18 (dk_at dksX5_totalAt_0 11 rfl rfl)
theorem dX5_totalAt_14 : decode cX5_totalAt 14 = .ok (.iload_n 2, 1) := dk_28 (dk_at dksX5_totalAt_0 14 rfl rfl)
theorem dX5_totalAt_15 : decode cX5_totalAt 15 = .ok (.aload_n 0, 1) := dk_42 (dk_at dksX5_totalAt_0 15 rfl rfl)
theorem dX5_totalAt_16 : decode cX5_totalAt 16 = .ok (.iload_n 3, 1) := dk_29 (dk_at dksX5_totalAt_0 16 rfl rfl)
theorem dX5_totalAt_17 : decode cX5_totalAt 17 = .ok (.iload_n 1, 1) := dk_27 (dk_at dksX5_totalAt_0 17 rfl rfl)
theorem dX5_totalAt_18 : decode cX5_totalAt 18 = .ok (.invokevirtual 115, 3) := dk_182 0 115 (dk_at dksX5_totalAt_0 18 rfl rfl)
theorem dX5_totalAt_21 : decode cX5_totalAt 21 = .ok (.iadd, 1) := dk_96 (dk_at dksX5_totalAt_0 21 rfl rfl)
theorem dX5_totalAt_22 : decode cX5_totalAt 22 = .ok (.istore_n 2, 1) := dk_61 (dk_at dksX5_totalAt_0 22 rfl rfl)
theorem dX5_totalAt_23 : decode cX5_totalAt 23 = .ok (.iinc 3 1, 3) := dk_132 3 1 (dk_at dksX5_totalAt_1 0 rfl rfl)
theorem dX5_totalAt_26 : decode cX5_totalAt 26 = .ok (.goto (-22), 3) := dk_167 255 234 (dk_at dksX5_totalAt_1 3 rfl rfl)
theorem dX5_totalAt_29 : decode cX5_totalAt 29 = .ok (.iload_n 2, 1) := dk_28 (dk_at dksX5_totalAt_1 6 rfl rfl)
theorem dX5_totalAt_30 : decode cX5_totalAt 30 = .ok (.ireturn, 1) := dk_172 (dk_at dksX5_totalAt_1 7 rfl rfl)
abbrev cX5_ear : ByteArray := prog_18_method_30_code
def yX5_ear : MethodName := ⟨RX5, "ear", "(II)I"⟩
def dkwX5_ear_1 : List UInt8 := [16, 6, 27, 96, 28, 182, 0, 126, 167, 0, 5, 18, 83, 172]
abbrev dktX5_ear_1 : List UInt8 := dkwX5_ear_1 ++ []
def dkwX5_ear_0 : List UInt8 := [27, 133, 9, 10, 184, 0, 68, 153, 0, 27, 28, 133, 9, 20, 0, 137, 184, 0, 68, 153, 0, 15, 42]
abbrev dktX5_ear_0 : List UInt8 := dkwX5_ear_0 ++ dktX5_ear_1
theorem dksX5_ear_0 : cX5_ear.data.toList.drop 0 = dktX5_ear_0 := by decide +kernel
theorem dksX5_ear_1 : cX5_ear.data.toList.drop 23 = dktX5_ear_1 := dk_seg dksX5_ear_0 23 rfl rfl
theorem dX5_ear_0 : decode cX5_ear 0 = .ok (.iload_n 1, 1) := dk_27 (dk_at dksX5_ear_0 0 rfl rfl)
theorem dX5_ear_1 : decode cX5_ear 1 = .ok (.i2l, 1) := dk_133 (dk_at dksX5_ear_0 1 rfl rfl)
theorem dX5_ear_2 : decode cX5_ear 2 = .ok (.lconst 0, 1) := dk_9 (dk_at dksX5_ear_0 2 rfl rfl)
theorem dX5_ear_3 : decode cX5_ear 3 = .ok (.lconst 1, 1) := dk_10 (dk_at dksX5_ear_0 3 rfl rfl)
theorem dX5_ear_4 : decode cX5_ear 4 = .ok (.invokestatic 68, 3) := dk_184 0 68 (dk_at dksX5_ear_0 4 rfl rfl)
theorem dX5_ear_7 : decode cX5_ear 7 = .ok (.ifCond .eq 27, 3) := dk_153 0 27 (dk_at dksX5_ear_0 7 rfl rfl)
theorem dX5_ear_10 : decode cX5_ear 10 = .ok (.iload_n 2, 1) := dk_28 (dk_at dksX5_ear_0 10 rfl rfl)
theorem dX5_ear_11 : decode cX5_ear 11 = .ok (.i2l, 1) := dk_133 (dk_at dksX5_ear_0 11 rfl rfl)
theorem dX5_ear_12 : decode cX5_ear 12 = .ok (.lconst 0, 1) := dk_9 (dk_at dksX5_ear_0 12 rfl rfl)
theorem dX5_ear_13 : decode cX5_ear 13 = .ok (.ldc2_w 137, 3) := dk_20 0 137 (dk_at dksX5_ear_0 13 rfl rfl)
theorem dX5_ear_16 : decode cX5_ear 16 = .ok (.invokestatic 68, 3) := dk_184 0 68 (dk_at dksX5_ear_0 16 rfl rfl)
theorem dX5_ear_19 : decode cX5_ear 19 = .ok (.ifCond .eq 15, 3) := dk_153 0 15 (dk_at dksX5_ear_0 19 rfl rfl)
theorem dX5_ear_22 : decode cX5_ear 22 = .ok (.aload_n 0, 1) := dk_42 (dk_at dksX5_ear_0 22 rfl rfl)
theorem dX5_ear_23 : decode cX5_ear 23 = .ok (.bipush 6, 2) := dk_16 6 (dk_at dksX5_ear_1 0 rfl rfl)
theorem dX5_ear_25 : decode cX5_ear 25 = .ok (.iload_n 1, 1) := dk_27 (dk_at dksX5_ear_1 2 rfl rfl)
theorem dX5_ear_26 : decode cX5_ear 26 = .ok (.iadd, 1) := dk_96 (dk_at dksX5_ear_1 3 rfl rfl)
theorem dX5_ear_27 : decode cX5_ear 27 = .ok (.iload_n 2, 1) := dk_28 (dk_at dksX5_ear_1 4 rfl rfl)
theorem dX5_ear_28 : decode cX5_ear 28 = .ok (.invokevirtual 126, 3) := dk_182 0 126 (dk_at dksX5_ear_1 5 rfl rfl)
theorem dX5_ear_31 : decode cX5_ear 31 = .ok (.goto 5, 3) := dk_167 0 5 (dk_at dksX5_ear_1 8 rfl rfl)
theorem dX5_ear_34 : decode cX5_ear 34 = .ok (.ldc 83, 2) := dk_18 83 (dk_at dksX5_ear_1 11 rfl rfl)
theorem dX5_ear_36 : decode cX5_ear 36 = .ok (.ireturn, 1) := dk_172 (dk_at dksX5_ear_1 13 rfl rfl)
abbrev cX5_deal : ByteArray := prog_18_method_31_code
def yX5_deal : MethodName := ⟨RX5, "deal", "(I)I"⟩
def dkwX5_deal_3 : List UInt8 := [172]
abbrev dktX5_deal_3 : List UInt8 := dkwX5_deal_3 ++ []
def dkwX5_deal_2 : List UInt8 := [112, 54, 4, 42, 29, 21, 4, 42, 182, 0, 141, 16, 10, 112, 182, 0, 85, 132, 2, 1, 167, 255, 206, 28]
abbrev dktX5_deal_2 : List UInt8 := dkwX5_deal_2 ++ dktX5_deal_3
def dkwX5_deal_1 : List UInt8 := [180, 0, 7, 3, 46, 16, 6, 162, 0, 40, 42, 182, 0, 141, 16, 6, 112, 62, 42, 182, 0, 141, 16, 10]
abbrev dktX5_deal_1 : List UInt8 := dkwX5_deal_1 ++ dktX5_deal_2
def dkwX5_deal_0 : List UInt8 := [27, 133, 10, 20, 0, 139, 184, 0, 68, 154, 0, 6, 18, 83, 172, 3, 61, 28, 27, 162, 0, 51, 42]
abbrev dktX5_deal_0 : List UInt8 := dkwX5_deal_0 ++ dktX5_deal_1
theorem dksX5_deal_0 : cX5_deal.data.toList.drop 0 = dktX5_deal_0 := by decide +kernel
theorem dksX5_deal_1 : cX5_deal.data.toList.drop 23 = dktX5_deal_1 := dk_seg dksX5_deal_0 23 rfl rfl
theorem dksX5_deal_2 : cX5_deal.data.toList.drop 47 = dktX5_deal_2 := dk_seg dksX5_deal_1 24 rfl rfl
theorem dksX5_deal_3 : cX5_deal.data.toList.drop 71 = dktX5_deal_3 := dk_seg dksX5_deal_2 24 rfl rfl
theorem dX5_deal_0 : decode cX5_deal 0 = .ok (.iload_n 1, 1) := dk_27 (dk_at dksX5_deal_0 0 rfl rfl)
theorem dX5_deal_1 : decode cX5_deal 1 = .ok (.i2l, 1) := dk_133 (dk_at dksX5_deal_0 1 rfl rfl)
theorem dX5_deal_2 : decode cX5_deal 2 = .ok (.lconst 1, 1) := dk_10 (dk_at dksX5_deal_0 2 rfl rfl)
theorem dX5_deal_3 : decode cX5_deal 3 = .ok (.ldc2_w 139, 3) := dk_20 0 139 (dk_at dksX5_deal_0 3 rfl rfl)
theorem dX5_deal_6 : decode cX5_deal 6 = .ok (.invokestatic 68, 3) := dk_184 0 68 (dk_at dksX5_deal_0 6 rfl rfl)
theorem dX5_deal_9 : decode cX5_deal 9 = .ok (.ifCond .ne 6, 3) := dk_154 0 6 (dk_at dksX5_deal_0 9 rfl rfl)
theorem dX5_deal_12 : decode cX5_deal 12 = .ok (.ldc 83, 2) := dk_18 83 (dk_at dksX5_deal_0 12 rfl rfl)
theorem dX5_deal_14 : decode cX5_deal 14 = .ok (.ireturn, 1) := dk_172 (dk_at dksX5_deal_0 14 rfl rfl)
theorem dX5_deal_15 : decode cX5_deal 15 = .ok (.iconst 0, 1) := dk_3 (dk_at dksX5_deal_0 15 rfl rfl)
theorem dX5_deal_16 : decode cX5_deal 16 = .ok (.istore_n 2, 1) := dk_61 (dk_at dksX5_deal_0 16 rfl rfl)
theorem dX5_deal_17 : decode cX5_deal 17 = .ok (.iload_n 2, 1) := dk_28 (dk_at dksX5_deal_0 17 rfl rfl)
theorem dX5_deal_18 : decode cX5_deal 18 = .ok (.iload_n 1, 1) := dk_27 (dk_at dksX5_deal_0 18 rfl rfl)
theorem dX5_deal_19 : decode cX5_deal 19 = .ok (.if_icmp .ge 51, 3) := dk_162 0 51 (dk_at dksX5_deal_0 19 rfl rfl)
theorem dX5_deal_22 : decode cX5_deal 22 = .ok (.aload_n 0, 1) := dk_42 (dk_at dksX5_deal_0 22 rfl rfl)
theorem dX5_deal_23 : decode cX5_deal 23 = .ok (.getfield 7, 3) := dk_180 0 7 (dk_at dksX5_deal_1 0 rfl rfl)
theorem dX5_deal_26 : decode cX5_deal 26 = .ok (.iconst 0, 1) := dk_3 (dk_at dksX5_deal_1 3 rfl rfl)
theorem dX5_deal_27 : decode cX5_deal 27 = .ok (.iaload, 1) := dk_46 (dk_at dksX5_deal_1 4 rfl rfl)
theorem dX5_deal_28 : decode cX5_deal 28 = .ok (.bipush 6, 2) := dk_16 6 (dk_at dksX5_deal_1 5 rfl rfl)
theorem dX5_deal_30 : decode cX5_deal 30 = .ok (.if_icmp .ge 40, 3) := dk_162 0 40 (dk_at dksX5_deal_1 7 rfl rfl)
theorem dX5_deal_33 : decode cX5_deal 33 = .ok (.aload_n 0, 1) := dk_42 (dk_at dksX5_deal_1 10 rfl rfl)
theorem dX5_deal_34 : decode cX5_deal 34 = .ok (.invokevirtual 141, 3) := dk_182 0 141 (dk_at dksX5_deal_1 11 rfl rfl)
theorem dX5_deal_37 : decode cX5_deal 37 = .ok (.bipush 6, 2) := dk_16 6 (dk_at dksX5_deal_1 14 rfl rfl)
theorem dX5_deal_39 : decode cX5_deal 39 = .ok (.irem, 1) := dk_112 (dk_at dksX5_deal_1 16 rfl rfl)
theorem dX5_deal_40 : decode cX5_deal 40 = .ok (.istore_n 3, 1) := dk_62 (dk_at dksX5_deal_1 17 rfl rfl)
theorem dX5_deal_41 : decode cX5_deal 41 = .ok (.aload_n 0, 1) := dk_42 (dk_at dksX5_deal_1 18 rfl rfl)
theorem dX5_deal_42 : decode cX5_deal 42 = .ok (.invokevirtual 141, 3) := dk_182 0 141 (dk_at dksX5_deal_1 19 rfl rfl)
theorem dX5_deal_45 : decode cX5_deal 45 = .ok (.bipush 10, 2) := dk_16 10 (dk_at dksX5_deal_1 22 rfl rfl)
theorem dX5_deal_47 : decode cX5_deal 47 = .ok (.irem, 1) := dk_112 (dk_at dksX5_deal_2 0 rfl rfl)
theorem dX5_deal_48 : decode cX5_deal 48 = .ok (.istore 4, 2) := dk_54 4 (dk_at dksX5_deal_2 1 rfl rfl)
theorem dX5_deal_50 : decode cX5_deal 50 = .ok (.aload_n 0, 1) := dk_42 (dk_at dksX5_deal_2 3 rfl rfl)
theorem dX5_deal_51 : decode cX5_deal 51 = .ok (.iload_n 3, 1) := dk_29 (dk_at dksX5_deal_2 4 rfl rfl)
theorem dX5_deal_52 : decode cX5_deal 52 = .ok (.iload 4, 2) := dk_21 4 (dk_at dksX5_deal_2 5 rfl rfl)
theorem dX5_deal_54 : decode cX5_deal 54 = .ok (.aload_n 0, 1) := dk_42 (dk_at dksX5_deal_2 7 rfl rfl)
theorem dX5_deal_55 : decode cX5_deal 55 = .ok (.invokevirtual 141, 3) := dk_182 0 141 (dk_at dksX5_deal_2 8 rfl rfl)
theorem dX5_deal_58 : decode cX5_deal 58 = .ok (.bipush 10, 2) := dk_16 10 (dk_at dksX5_deal_2 11 rfl rfl)
theorem dX5_deal_60 : decode cX5_deal 60 = .ok (.irem, 1) := dk_112 (dk_at dksX5_deal_2 13 rfl rfl)
theorem dX5_deal_61 : decode cX5_deal 61 = .ok (.invokevirtual 85, 3) := dk_182 0 85 (dk_at dksX5_deal_2 14 rfl rfl)
theorem dX5_deal_64 : decode cX5_deal 64 = .ok (.iinc 2 1, 3) := dk_132 2 1 (dk_at dksX5_deal_2 17 rfl rfl)
theorem dX5_deal_67 : decode cX5_deal 67 = .ok (.goto (-50), 3) := dk_167 255 206 (dk_at dksX5_deal_2 20 rfl rfl)
theorem dX5_deal_70 : decode cX5_deal 70 = .ok (.iload_n 2, 1) := dk_28 (dk_at dksX5_deal_2 23 rfl rfl)
theorem dX5_deal_71 : decode cX5_deal 71 = .ok (.ireturn, 1) := dk_172 (dk_at dksX5_deal_3 0 rfl rfl)
abbrev cX5_drawn : ByteArray := prog_18_method_12_code
def yX5_drawn : MethodName := ⟨RX5, "drawn", "()I"⟩
def dkwX5_drawn_1 : List UInt8 := [180, 0, 7, 16, 9, 46, 16, 8, 124, 172]
abbrev dktX5_drawn_1 : List UInt8 := dkwX5_drawn_1 ++ []
def dkwX5_drawn_0 : List UInt8 := [42, 180, 0, 7, 16, 9, 42, 180, 0, 7, 16, 9, 46, 18, 72, 104, 17, 48, 57, 96, 79, 42]
abbrev dktX5_drawn_0 : List UInt8 := dkwX5_drawn_0 ++ dktX5_drawn_1
theorem dksX5_drawn_0 : cX5_drawn.data.toList.drop 0 = dktX5_drawn_0 := by decide +kernel
theorem dksX5_drawn_1 : cX5_drawn.data.toList.drop 22 = dktX5_drawn_1 := dk_seg dksX5_drawn_0 22 rfl rfl
theorem dX5_drawn_0 : decode cX5_drawn 0 = .ok (.aload_n 0, 1) := dk_42 (dk_at dksX5_drawn_0 0 rfl rfl)
theorem dX5_drawn_1 : decode cX5_drawn 1 = .ok (.getfield 7, 3) := dk_180 0 7 (dk_at dksX5_drawn_0 1 rfl rfl)
theorem dX5_drawn_4 : decode cX5_drawn 4 = .ok (.bipush 9, 2) := dk_16 9 (dk_at dksX5_drawn_0 4 rfl rfl)
theorem dX5_drawn_6 : decode cX5_drawn 6 = .ok (.aload_n 0, 1) := dk_42 (dk_at dksX5_drawn_0 6 rfl rfl)
theorem dX5_drawn_7 : decode cX5_drawn 7 = .ok (.getfield 7, 3) := dk_180 0 7 (dk_at dksX5_drawn_0 7 rfl rfl)
theorem dX5_drawn_10 : decode cX5_drawn 10 = .ok (.bipush 9, 2) := dk_16 9 (dk_at dksX5_drawn_0 10 rfl rfl)
theorem dX5_drawn_12 : decode cX5_drawn 12 = .ok (.iaload, 1) := dk_46 (dk_at dksX5_drawn_0 12 rfl rfl)
theorem dX5_drawn_13 : decode cX5_drawn 13 = .ok (.ldc 72, 2) := dk_18 72 (dk_at dksX5_drawn_0 13 rfl rfl)
theorem dX5_drawn_15 : decode cX5_drawn 15 = .ok (.imul, 1) := dk_104 (dk_at dksX5_drawn_0 15 rfl rfl)
theorem dX5_drawn_16 : decode cX5_drawn 16 = .ok (.sipush 12345, 3) := dk_17 48 57 (dk_at dksX5_drawn_0 16 rfl rfl)
theorem dX5_drawn_19 : decode cX5_drawn 19 = .ok (.iadd, 1) := dk_96 (dk_at dksX5_drawn_0 19 rfl rfl)
theorem dX5_drawn_20 : decode cX5_drawn 20 = .ok (.iastore, 1) := dk_79 (dk_at dksX5_drawn_0 20 rfl rfl)
theorem dX5_drawn_21 : decode cX5_drawn 21 = .ok (.aload_n 0, 1) := dk_42 (dk_at dksX5_drawn_0 21 rfl rfl)
theorem dX5_drawn_22 : decode cX5_drawn 22 = .ok (.getfield 7, 3) := dk_180 0 7 (dk_at dksX5_drawn_1 0 rfl rfl)
theorem dX5_drawn_25 : decode cX5_drawn 25 = .ok (.bipush 9, 2) := dk_16 9 (dk_at dksX5_drawn_1 3 rfl rfl)
theorem dX5_drawn_27 : decode cX5_drawn 27 = .ok (.iaload, 1) := dk_46 (dk_at dksX5_drawn_1 5 rfl rfl)
theorem dX5_drawn_28 : decode cX5_drawn 28 = .ok (.bipush 8, 2) := dk_16 8 (dk_at dksX5_drawn_1 6 rfl rfl)
theorem dX5_drawn_30 : decode cX5_drawn 30 = .ok (.iushr, 1) := dk_124 (dk_at dksX5_drawn_1 8 rfl rfl)
theorem dX5_drawn_31 : decode cX5_drawn 31 = .ok (.ireturn, 1) := dk_172 (dk_at dksX5_drawn_1 9 rfl rfl)
abbrev cX5_seed : ByteArray := prog_18_method_32_code
def yX5_seed : MethodName := ⟨RX5, "seed", "(I)I"⟩
def dkwX5_seed_0 : List UInt8 := [42, 16, 9, 27, 182, 0, 126, 172]
abbrev dktX5_seed_0 : List UInt8 := dkwX5_seed_0 ++ []
theorem dksX5_seed_0 : cX5_seed.data.toList.drop 0 = dktX5_seed_0 := by decide +kernel
theorem dX5_seed_0 : decode cX5_seed 0 = .ok (.aload_n 0, 1) := dk_42 (dk_at dksX5_seed_0 0 rfl rfl)
theorem dX5_seed_1 : decode cX5_seed 1 = .ok (.bipush 9, 2) := dk_16 9 (dk_at dksX5_seed_0 1 rfl rfl)
theorem dX5_seed_3 : decode cX5_seed 3 = .ok (.iload_n 1, 1) := dk_27 (dk_at dksX5_seed_0 3 rfl rfl)
theorem dX5_seed_4 : decode cX5_seed 4 = .ok (.invokevirtual 126, 3) := dk_182 0 126 (dk_at dksX5_seed_0 4 rfl rfl)
theorem dX5_seed_7 : decode cX5_seed 7 = .ok (.ireturn, 1) := dk_172 (dk_at dksX5_seed_0 7 rfl rfl)
abbrev cX5_minutes : ByteArray := prog_18_method_35_code
def yX5_minutes : MethodName := ⟨RX5, "minutes", "(I)I"⟩
def dkwX5_minutes_2 : List UInt8 := [182, 0, 147, 42, 180, 0, 7, 6, 46, 28, 100, 172]
abbrev dktX5_minutes_2 : List UInt8 := dkwX5_minutes_2 ++ []
def dkwX5_minutes_1 : List UInt8 := [17, 39, 15, 42, 180, 0, 7, 5, 46, 100, 62, 42, 27, 29, 162, 0, 7, 27, 167, 0, 4, 29]
abbrev dktX5_minutes_1 : List UInt8 := dkwX5_minutes_1 ++ dktX5_minutes_2
def dkwX5_minutes_0 : List UInt8 := [27, 133, 10, 20, 0, 137, 184, 0, 68, 154, 0, 6, 18, 83, 172, 42, 180, 0, 7, 6, 46, 61]
abbrev dktX5_minutes_0 : List UInt8 := dkwX5_minutes_0 ++ dktX5_minutes_1
theorem dksX5_minutes_0 : cX5_minutes.data.toList.drop 0 = dktX5_minutes_0 := by decide +kernel
theorem dksX5_minutes_1 : cX5_minutes.data.toList.drop 22 = dktX5_minutes_1 := dk_seg dksX5_minutes_0 22 rfl rfl
theorem dksX5_minutes_2 : cX5_minutes.data.toList.drop 44 = dktX5_minutes_2 := dk_seg dksX5_minutes_1 22 rfl rfl
theorem dX5_minutes_0 : decode cX5_minutes 0 = .ok (.iload_n 1, 1) := dk_27 (dk_at dksX5_minutes_0 0 rfl rfl)
theorem dX5_minutes_1 : decode cX5_minutes 1 = .ok (.i2l, 1) := dk_133 (dk_at dksX5_minutes_0 1 rfl rfl)
theorem dX5_minutes_2 : decode cX5_minutes 2 = .ok (.lconst 1, 1) := dk_10 (dk_at dksX5_minutes_0 2 rfl rfl)
theorem dX5_minutes_3 : decode cX5_minutes 3 = .ok (.ldc2_w 137, 3) := dk_20 0 137 (dk_at dksX5_minutes_0 3 rfl rfl)
theorem dX5_minutes_6 : decode cX5_minutes 6 = .ok (.invokestatic 68, 3) := dk_184 0 68 (dk_at dksX5_minutes_0 6 rfl rfl)
theorem dX5_minutes_9 : decode cX5_minutes 9 = .ok (.ifCond .ne 6, 3) := dk_154 0 6 (dk_at dksX5_minutes_0 9 rfl rfl)
theorem dX5_minutes_12 : decode cX5_minutes 12 = .ok (.ldc 83, 2) := dk_18 83 (dk_at dksX5_minutes_0 12 rfl rfl)
theorem dX5_minutes_14 : decode cX5_minutes 14 = .ok (.ireturn, 1) := dk_172 (dk_at dksX5_minutes_0 14 rfl rfl)
theorem dX5_minutes_15 : decode cX5_minutes 15 = .ok (.aload_n 0, 1) := dk_42 (dk_at dksX5_minutes_0 15 rfl rfl)
theorem dX5_minutes_16 : decode cX5_minutes 16 = .ok (.getfield 7, 3) := dk_180 0 7 (dk_at dksX5_minutes_0 16 rfl rfl)
theorem dX5_minutes_19 : decode cX5_minutes 19 = .ok (.iconst 3, 1) := dk_6 (dk_at dksX5_minutes_0 19 rfl rfl)
theorem dX5_minutes_20 : decode cX5_minutes 20 = .ok (.iaload, 1) := dk_46 (dk_at dksX5_minutes_0 20 rfl rfl)
theorem dX5_minutes_21 : decode cX5_minutes 21 = .ok (.istore_n 2, 1) := dk_61 (dk_at dksX5_minutes_0 21 rfl rfl)
theorem dX5_minutes_22 : decode cX5_minutes 22 = .ok (.sipush 9999, 3) := dk_17 39 15 (dk_at dksX5_minutes_1 0 rfl rfl)
theorem dX5_minutes_25 : decode cX5_minutes 25 = .ok (.aload_n 0, 1) := dk_42 (dk_at dksX5_minutes_1 3 rfl rfl)
theorem dX5_minutes_26 : decode cX5_minutes 26 = .ok (.getfield 7, 3) := dk_180 0 7 (dk_at dksX5_minutes_1 4 rfl rfl)
theorem dX5_minutes_29 : decode cX5_minutes 29 = .ok (.iconst 2, 1) := dk_5 (dk_at dksX5_minutes_1 7 rfl rfl)
theorem dX5_minutes_30 : decode cX5_minutes 30 = .ok (.iaload, 1) := dk_46 (dk_at dksX5_minutes_1 8 rfl rfl)
theorem dX5_minutes_31 : decode cX5_minutes 31 = .ok (.isub, 1) := dk_100 (dk_at dksX5_minutes_1 9 rfl rfl)
theorem dX5_minutes_32 : decode cX5_minutes 32 = .ok (.istore_n 3, 1) := dk_62 (dk_at dksX5_minutes_1 10 rfl rfl)
theorem dX5_minutes_33 : decode cX5_minutes 33 = .ok (.aload_n 0, 1) := dk_42 (dk_at dksX5_minutes_1 11 rfl rfl)
theorem dX5_minutes_34 : decode cX5_minutes 34 = .ok (.iload_n 1, 1) := dk_27 (dk_at dksX5_minutes_1 12 rfl rfl)
theorem dX5_minutes_35 : decode cX5_minutes 35 = .ok (.iload_n 3, 1) := dk_29 (dk_at dksX5_minutes_1 13 rfl rfl)
theorem dX5_minutes_36 : decode cX5_minutes 36 = .ok (.if_icmp .ge 7, 3) := dk_162 0 7 (dk_at dksX5_minutes_1 14 rfl rfl)
theorem dX5_minutes_39 : decode cX5_minutes 39 = .ok (.iload_n 1, 1) := dk_27 (dk_at dksX5_minutes_1 17 rfl rfl)
theorem dX5_minutes_40 : decode cX5_minutes 40 = .ok (.goto 4, 3) := dk_167 0 4 (dk_at dksX5_minutes_1 18 rfl rfl)
theorem dX5_minutes_43 : decode cX5_minutes 43 = .ok (.iload_n 3, 1) := dk_29 (dk_at dksX5_minutes_1 21 rfl rfl)
theorem dX5_minutes_44 : decode cX5_minutes 44 = .ok (.invokevirtual 147, 3) := dk_182 0 147 (dk_at dksX5_minutes_2 0 rfl rfl)
theorem dX5_minutes_47 : decode cX5_minutes 47 = .ok (.aload_n 0, 1) := dk_42 (dk_at dksX5_minutes_2 3 rfl rfl)
theorem dX5_minutes_48 : decode cX5_minutes 48 = .ok (.getfield 7, 3) := dk_180 0 7 (dk_at dksX5_minutes_2 4 rfl rfl)
theorem dX5_minutes_51 : decode cX5_minutes 51 = .ok (.iconst 3, 1) := dk_6 (dk_at dksX5_minutes_2 7 rfl rfl)
theorem dX5_minutes_52 : decode cX5_minutes 52 = .ok (.iaload, 1) := dk_46 (dk_at dksX5_minutes_2 8 rfl rfl)
theorem dX5_minutes_53 : decode cX5_minutes 53 = .ok (.iload_n 2, 1) := dk_28 (dk_at dksX5_minutes_2 9 rfl rfl)
theorem dX5_minutes_54 : decode cX5_minutes 54 = .ok (.isub, 1) := dk_100 (dk_at dksX5_minutes_2 10 rfl rfl)
theorem dX5_minutes_55 : decode cX5_minutes 55 = .ok (.ireturn, 1) := dk_172 (dk_at dksX5_minutes_2 11 rfl rfl)
abbrev cX5_goesOnMany : ByteArray := prog_18_method_34_code
def yX5_goesOnMany : MethodName := ⟨RX5, "goesOnMany", "(I)V"⟩
def dkwX5_goesOnMany_0 : List UInt8 := [3, 61, 28, 27, 162, 0, 13, 42, 182, 0, 144, 132, 2, 1, 167, 255, 244, 177]
abbrev dktX5_goesOnMany_0 : List UInt8 := dkwX5_goesOnMany_0 ++ []
theorem dksX5_goesOnMany_0 : cX5_goesOnMany.data.toList.drop 0 = dktX5_goesOnMany_0 := by decide +kernel
theorem dX5_goesOnMany_0 : decode cX5_goesOnMany 0 = .ok (.iconst 0, 1) := dk_3 (dk_at dksX5_goesOnMany_0 0 rfl rfl)
theorem dX5_goesOnMany_1 : decode cX5_goesOnMany 1 = .ok (.istore_n 2, 1) := dk_61 (dk_at dksX5_goesOnMany_0 1 rfl rfl)
theorem dX5_goesOnMany_2 : decode cX5_goesOnMany 2 = .ok (.iload_n 2, 1) := dk_28 (dk_at dksX5_goesOnMany_0 2 rfl rfl)
theorem dX5_goesOnMany_3 : decode cX5_goesOnMany 3 = .ok (.iload_n 1, 1) := dk_27 (dk_at dksX5_goesOnMany_0 3 rfl rfl)
theorem dX5_goesOnMany_4 : decode cX5_goesOnMany 4 = .ok (.if_icmp .ge 13, 3) := dk_162 0 13 (dk_at dksX5_goesOnMany_0 4 rfl rfl)
theorem dX5_goesOnMany_7 : decode cX5_goesOnMany 7 = .ok (.aload_n 0, 1) := dk_42 (dk_at dksX5_goesOnMany_0 7 rfl rfl)
theorem dX5_goesOnMany_8 : decode cX5_goesOnMany 8 = .ok (.invokevirtual 144, 3) := dk_182 0 144 (dk_at dksX5_goesOnMany_0 8 rfl rfl)
theorem dX5_goesOnMany_11 : decode cX5_goesOnMany 11 = .ok (.iinc 2 1, 3) := dk_132 2 1 (dk_at dksX5_goesOnMany_0 11 rfl rfl)
theorem dX5_goesOnMany_14 : decode cX5_goesOnMany 14 = .ok (.goto (-12), 3) := dk_167 255 244 (dk_at dksX5_goesOnMany_0 14 rfl rfl)
theorem dX5_goesOnMany_17 : decode cX5_goesOnMany 17 = .ok (.return_, 1) := dk_177 (dk_at dksX5_goesOnMany_0 17 rfl rfl)
abbrev cX5_goesOn : ByteArray := prog_18_method_33_code
def yX5_goesOn : MethodName := ⟨RX5, "goesOn", "()V"⟩
def dkwX5_goesOn_8 : List UInt8 := [46, 4, 96, 79, 177]
abbrev dktX5_goesOn_8 : List UInt8 := dkwX5_goesOn_8 ++ []
def dkwX5_goesOn_7 : List UInt8 := [180, 0, 7, 16, 8, 46, 16, 12, 162, 0, 7, 4, 167, 0, 4, 3, 96, 79, 42, 180, 0, 7, 5, 92]
abbrev dktX5_goesOn_7 : List UInt8 := dkwX5_goesOn_7 ++ dktX5_goesOn_8
def dkwX5_goesOn_6 : List UInt8 := [132, 2, 255, 167, 255, 229, 42, 180, 0, 7, 16, 28, 27, 79, 42, 180, 0, 7, 16, 8, 92, 46, 42]
abbrev dktX5_goesOn_6 : List UInt8 := dkwX5_goesOn_6 ++ dktX5_goesOn_7
def dkwX5_goesOn_5 : List UInt8 := [158, 0, 29, 42, 180, 0, 7, 16, 28, 28, 96, 42, 180, 0, 7, 16, 28, 28, 96, 4, 100, 46, 79]
abbrev dktX5_goesOn_5 : List UInt8 := dkwX5_goesOn_5 ++ dktX5_goesOn_6
def dkwX5_goesOn_4 : List UInt8 := [16, 7, 46, 162, 0, 16, 132, 1, 1, 42, 180, 0, 7, 8, 92, 46, 4, 96, 79, 16, 11, 61, 28]
abbrev dktX5_goesOn_4 : List UInt8 := dkwX5_goesOn_4 ++ dktX5_goesOn_5
def dkwX5_goesOn_3 : List UInt8 := [167, 255, 196, 42, 180, 0, 7, 6, 92, 46, 27, 96, 79, 42, 182, 0, 141, 16, 100, 112, 42, 180, 0, 7]
abbrev dktX5_goesOn_3 : List UInt8 := dkwX5_goesOn_3 ++ dktX5_goesOn_4
def dkwX5_goesOn_2 : List UInt8 := [3, 96, 60, 42, 180, 0, 7, 7, 92, 46, 29, 153, 0, 7, 3, 167, 0, 4, 4, 96, 79, 132, 2, 255]
abbrev dktX5_goesOn_2 : List UInt8 := dkwX5_goesOn_2 ++ dktX5_goesOn_3
def dkwX5_goesOn_1 : List UInt8 := [180, 0, 7, 16, 6, 46, 162, 0, 7, 4, 167, 0, 4, 3, 62, 27, 29, 153, 0, 7, 4, 167, 0, 4]
abbrev dktX5_goesOn_1 : List UInt8 := dkwX5_goesOn_1 ++ dktX5_goesOn_2
def dkwX5_goesOn_0 : List UInt8 := [3, 60, 42, 42, 182, 0, 111, 182, 0, 134, 61, 28, 158, 0, 62, 42, 182, 0, 141, 16, 100, 112, 42]
abbrev dktX5_goesOn_0 : List UInt8 := dkwX5_goesOn_0 ++ dktX5_goesOn_1
theorem dksX5_goesOn_0 : cX5_goesOn.data.toList.drop 0 = dktX5_goesOn_0 := by decide +kernel
theorem dksX5_goesOn_1 : cX5_goesOn.data.toList.drop 23 = dktX5_goesOn_1 := dk_seg dksX5_goesOn_0 23 rfl rfl
theorem dksX5_goesOn_2 : cX5_goesOn.data.toList.drop 47 = dktX5_goesOn_2 := dk_seg dksX5_goesOn_1 24 rfl rfl
theorem dksX5_goesOn_3 : cX5_goesOn.data.toList.drop 71 = dktX5_goesOn_3 := dk_seg dksX5_goesOn_2 24 rfl rfl
theorem dksX5_goesOn_4 : cX5_goesOn.data.toList.drop 95 = dktX5_goesOn_4 := dk_seg dksX5_goesOn_3 24 rfl rfl
theorem dksX5_goesOn_5 : cX5_goesOn.data.toList.drop 118 = dktX5_goesOn_5 := dk_seg dksX5_goesOn_4 23 rfl rfl
theorem dksX5_goesOn_6 : cX5_goesOn.data.toList.drop 141 = dktX5_goesOn_6 := dk_seg dksX5_goesOn_5 23 rfl rfl
theorem dksX5_goesOn_7 : cX5_goesOn.data.toList.drop 164 = dktX5_goesOn_7 := dk_seg dksX5_goesOn_6 23 rfl rfl
theorem dksX5_goesOn_8 : cX5_goesOn.data.toList.drop 188 = dktX5_goesOn_8 := dk_seg dksX5_goesOn_7 24 rfl rfl
theorem dX5_goesOn_0 : decode cX5_goesOn 0 = .ok (.iconst 0, 1) := dk_3 (dk_at dksX5_goesOn_0 0 rfl rfl)
theorem dX5_goesOn_1 : decode cX5_goesOn 1 = .ok (.istore_n 1, 1) := dk_60 (dk_at dksX5_goesOn_0 1 rfl rfl)
theorem dX5_goesOn_2 : decode cX5_goesOn 2 = .ok (.aload_n 0, 1) := dk_42 (dk_at dksX5_goesOn_0 2 rfl rfl)
theorem dX5_goesOn_3 : decode cX5_goesOn 3 = .ok (.aload_n 0, 1) := dk_42 (dk_at dksX5_goesOn_0 3 rfl rfl)
theorem dX5_goesOn_4 : decode cX5_goesOn 4 = .ok (.invokevirtual 111, 3) := dk_182 0 111 (dk_at dksX5_goesOn_0 4 rfl rfl)
theorem dX5_goesOn_7 : decode cX5_goesOn 7 = .ok (.invokevirtual 134, 3) := dk_182 0 134 (dk_at dksX5_goesOn_0 7 rfl rfl)
theorem dX5_goesOn_10 : decode cX5_goesOn 10 = .ok (.istore_n 2, 1) := dk_61 (dk_at dksX5_goesOn_0 10 rfl rfl)
theorem dX5_goesOn_11 : decode cX5_goesOn 11 = .ok (.iload_n 2, 1) := dk_28 (dk_at dksX5_goesOn_0 11 rfl rfl)
theorem dX5_goesOn_12 : decode cX5_goesOn 12 = .ok (.ifCond .le 62, 3) := dk_158 0 62 (dk_at dksX5_goesOn_0 12 rfl rfl)
theorem dX5_goesOn_15 : decode cX5_goesOn 15 = .ok (.aload_n 0, 1) := dk_42 (dk_at dksX5_goesOn_0 15 rfl rfl)
theorem dX5_goesOn_16 : decode cX5_goesOn 16 = .ok (.invokevirtual 141, 3) := dk_182 0 141 (dk_at dksX5_goesOn_0 16 rfl rfl)
theorem dX5_goesOn_19 : decode cX5_goesOn 19 = .ok (.bipush 100, 2) := dk_16 100 (dk_at dksX5_goesOn_0 19 rfl rfl)
theorem dX5_goesOn_21 : decode cX5_goesOn 21 = .ok (.irem, 1) := dk_112 (dk_at dksX5_goesOn_0 21 rfl rfl)
theorem dX5_goesOn_22 : decode cX5_goesOn 22 = .ok (.aload_n 0, 1) := dk_42 (dk_at dksX5_goesOn_0 22 rfl rfl)
theorem dX5_goesOn_23 : decode cX5_goesOn 23 = .ok (.getfield 7, 3) := dk_180 0 7 (dk_at dksX5_goesOn_1 0 rfl rfl)
theorem dX5_goesOn_26 : decode cX5_goesOn 26 = .ok (.bipush 6, 2) := dk_16 6 (dk_at dksX5_goesOn_1 3 rfl rfl)
theorem dX5_goesOn_28 : decode cX5_goesOn 28 = .ok (.iaload, 1) := dk_46 (dk_at dksX5_goesOn_1 5 rfl rfl)
theorem dX5_goesOn_29 : decode cX5_goesOn 29 = .ok (.if_icmp .ge 7, 3) := dk_162 0 7 (dk_at dksX5_goesOn_1 6 rfl rfl)
theorem dX5_goesOn_32 : decode cX5_goesOn 32 = .ok (.iconst 1, 1) := dk_4 (dk_at dksX5_goesOn_1 9 rfl rfl)
theorem dX5_goesOn_33 : decode cX5_goesOn 33 = .ok (.goto 4, 3) := dk_167 0 4 (dk_at dksX5_goesOn_1 10 rfl rfl)
theorem dX5_goesOn_36 : decode cX5_goesOn 36 = .ok (.iconst 0, 1) := dk_3 (dk_at dksX5_goesOn_1 13 rfl rfl)
theorem dX5_goesOn_37 : decode cX5_goesOn 37 = .ok (.istore_n 3, 1) := dk_62 (dk_at dksX5_goesOn_1 14 rfl rfl)
theorem dX5_goesOn_38 : decode cX5_goesOn 38 = .ok (.iload_n 1, 1) := dk_27 (dk_at dksX5_goesOn_1 15 rfl rfl)
theorem dX5_goesOn_39 : decode cX5_goesOn 39 = .ok (.iload_n 3, 1) := dk_29 (dk_at dksX5_goesOn_1 16 rfl rfl)
theorem dX5_goesOn_40 : decode cX5_goesOn 40 = .ok (.ifCond .eq 7, 3) := dk_153 0 7 (dk_at dksX5_goesOn_1 17 rfl rfl)
theorem dX5_goesOn_43 : decode cX5_goesOn 43 = .ok (.iconst 1, 1) := dk_4 (dk_at dksX5_goesOn_1 20 rfl rfl)
theorem dX5_goesOn_44 : decode cX5_goesOn 44 = .ok (.goto 4, 3) := dk_167 0 4 (dk_at dksX5_goesOn_1 21 rfl rfl)
theorem dX5_goesOn_47 : decode cX5_goesOn 47 = .ok (.iconst 0, 1) := dk_3 (dk_at dksX5_goesOn_2 0 rfl rfl)
theorem dX5_goesOn_48 : decode cX5_goesOn 48 = .ok (.iadd, 1) := dk_96 (dk_at dksX5_goesOn_2 1 rfl rfl)
theorem dX5_goesOn_49 : decode cX5_goesOn 49 = .ok (.istore_n 1, 1) := dk_60 (dk_at dksX5_goesOn_2 2 rfl rfl)
theorem dX5_goesOn_50 : decode cX5_goesOn 50 = .ok (.aload_n 0, 1) := dk_42 (dk_at dksX5_goesOn_2 3 rfl rfl)
theorem dX5_goesOn_51 : decode cX5_goesOn 51 = .ok (.getfield 7, 3) := dk_180 0 7 (dk_at dksX5_goesOn_2 4 rfl rfl)
theorem dX5_goesOn_54 : decode cX5_goesOn 54 = .ok (.iconst 4, 1) := dk_7 (dk_at dksX5_goesOn_2 7 rfl rfl)
theorem dX5_goesOn_55 : decode cX5_goesOn 55 = .ok (.dup2, 1) := dk_92 (dk_at dksX5_goesOn_2 8 rfl rfl)
theorem dX5_goesOn_56 : decode cX5_goesOn 56 = .ok (.iaload, 1) := dk_46 (dk_at dksX5_goesOn_2 9 rfl rfl)
theorem dX5_goesOn_57 : decode cX5_goesOn 57 = .ok (.iload_n 3, 1) := dk_29 (dk_at dksX5_goesOn_2 10 rfl rfl)
theorem dX5_goesOn_58 : decode cX5_goesOn 58 = .ok (.ifCond .eq 7, 3) := dk_153 0 7 (dk_at dksX5_goesOn_2 11 rfl rfl)
theorem dX5_goesOn_61 : decode cX5_goesOn 61 = .ok (.iconst 0, 1) := dk_3 (dk_at dksX5_goesOn_2 14 rfl rfl)
theorem dX5_goesOn_62 : decode cX5_goesOn 62 = .ok (.goto 4, 3) := dk_167 0 4 (dk_at dksX5_goesOn_2 15 rfl rfl)
theorem dX5_goesOn_65 : decode cX5_goesOn 65 = .ok (.iconst 1, 1) := dk_4 (dk_at dksX5_goesOn_2 18 rfl rfl)
theorem dX5_goesOn_66 : decode cX5_goesOn 66 = .ok (.iadd, 1) := dk_96 (dk_at dksX5_goesOn_2 19 rfl rfl)
theorem dX5_goesOn_67 : decode cX5_goesOn 67 = .ok (.iastore, 1) := dk_79 (dk_at dksX5_goesOn_2 20 rfl rfl)
theorem dX5_goesOn_68 : decode cX5_goesOn 68 = .ok (.iinc 2 (-1), 3) := dk_132 2 255 (dk_at dksX5_goesOn_2 21 rfl rfl)
theorem dX5_goesOn_71 : decode cX5_goesOn 71 = .ok (.goto (-60), 3) := dk_167 255 196 (dk_at dksX5_goesOn_3 0 rfl rfl)
theorem dX5_goesOn_74 : decode cX5_goesOn 74 = .ok (.aload_n 0, 1) := dk_42 (dk_at dksX5_goesOn_3 3 rfl rfl)
theorem dX5_goesOn_75 : decode cX5_goesOn 75 = .ok (.getfield 7, 3) := dk_180 0 7 (dk_at dksX5_goesOn_3 4 rfl rfl)
theorem dX5_goesOn_78 : decode cX5_goesOn 78 = .ok (.iconst 3, 1) := dk_6 (dk_at dksX5_goesOn_3 7 rfl rfl)
theorem dX5_goesOn_79 : decode cX5_goesOn 79 = .ok (.dup2, 1) := dk_92 (dk_at dksX5_goesOn_3 8 rfl rfl)
theorem dX5_goesOn_80 : decode cX5_goesOn 80 = .ok (.iaload, 1) := dk_46 (dk_at dksX5_goesOn_3 9 rfl rfl)
theorem dX5_goesOn_81 : decode cX5_goesOn 81 = .ok (.iload_n 1, 1) := dk_27 (dk_at dksX5_goesOn_3 10 rfl rfl)
theorem dX5_goesOn_82 : decode cX5_goesOn 82 = .ok (.iadd, 1) := dk_96 (dk_at dksX5_goesOn_3 11 rfl rfl)
theorem dX5_goesOn_83 : decode cX5_goesOn 83 = .ok (.iastore, 1) := dk_79 (dk_at dksX5_goesOn_3 12 rfl rfl)
theorem dX5_goesOn_84 : decode cX5_goesOn 84 = .ok (.aload_n 0, 1) := dk_42 (dk_at dksX5_goesOn_3 13 rfl rfl)
theorem dX5_goesOn_85 : decode cX5_goesOn 85 = .ok (.invokevirtual 141, 3) := dk_182 0 141 (dk_at dksX5_goesOn_3 14 rfl rfl)
theorem dX5_goesOn_88 : decode cX5_goesOn 88 = .ok (.bipush 100, 2) := dk_16 100 (dk_at dksX5_goesOn_3 17 rfl rfl)
theorem dX5_goesOn_90 : decode cX5_goesOn 90 = .ok (.irem, 1) := dk_112 (dk_at dksX5_goesOn_3 19 rfl rfl)
theorem dX5_goesOn_91 : decode cX5_goesOn 91 = .ok (.aload_n 0, 1) := dk_42 (dk_at dksX5_goesOn_3 20 rfl rfl)
theorem dX5_goesOn_92 : decode cX5_goesOn 92 = .ok (.getfield 7, 3) := dk_180 0 7 (dk_at dksX5_goesOn_3 21 rfl rfl)
theorem dX5_goesOn_95 : decode cX5_goesOn 95 = .ok (.bipush 7, 2) := dk_16 7 (dk_at dksX5_goesOn_4 0 rfl rfl)
theorem dX5_goesOn_97 : decode cX5_goesOn 97 = .ok (.iaload, 1) := dk_46 (dk_at dksX5_goesOn_4 2 rfl rfl)
theorem dX5_goesOn_98 : decode cX5_goesOn 98 = .ok (.if_icmp .ge 16, 3) := dk_162 0 16 (dk_at dksX5_goesOn_4 3 rfl rfl)
theorem dX5_goesOn_101 : decode cX5_goesOn 101 = .ok (.iinc 1 1, 3) := dk_132 1 1 (dk_at dksX5_goesOn_4 6 rfl rfl)
theorem dX5_goesOn_104 : decode cX5_goesOn 104 = .ok (.aload_n 0, 1) := dk_42 (dk_at dksX5_goesOn_4 9 rfl rfl)
theorem dX5_goesOn_105 : decode cX5_goesOn 105 = .ok (.getfield 7, 3) := dk_180 0 7 (dk_at dksX5_goesOn_4 10 rfl rfl)
theorem dX5_goesOn_108 : decode cX5_goesOn 108 = .ok (.iconst 5, 1) := dk_8 (dk_at dksX5_goesOn_4 13 rfl rfl)
theorem dX5_goesOn_109 : decode cX5_goesOn 109 = .ok (.dup2, 1) := dk_92 (dk_at dksX5_goesOn_4 14 rfl rfl)
theorem dX5_goesOn_110 : decode cX5_goesOn 110 = .ok (.iaload, 1) := dk_46 (dk_at dksX5_goesOn_4 15 rfl rfl)
theorem dX5_goesOn_111 : decode cX5_goesOn 111 = .ok (.iconst 1, 1) := dk_4 (dk_at dksX5_goesOn_4 16 rfl rfl)
theorem dX5_goesOn_112 : decode cX5_goesOn 112 = .ok (.iadd, 1) := dk_96 (dk_at dksX5_goesOn_4 17 rfl rfl)
theorem dX5_goesOn_113 : decode cX5_goesOn 113 = .ok (.iastore, 1) := dk_79 (dk_at dksX5_goesOn_4 18 rfl rfl)
theorem dX5_goesOn_114 : decode cX5_goesOn 114 = .ok (.bipush 11, 2) := dk_16 11 (dk_at dksX5_goesOn_4 19 rfl rfl)
theorem dX5_goesOn_116 : decode cX5_goesOn 116 = .ok (.istore_n 2, 1) := dk_61 (dk_at dksX5_goesOn_4 21 rfl rfl)
theorem dX5_goesOn_117 : decode cX5_goesOn 117 = .ok (.iload_n 2, 1) := dk_28 (dk_at dksX5_goesOn_4 22 rfl rfl)
theorem dX5_goesOn_118 : decode cX5_goesOn 118 = .ok (.ifCond .le 29, 3) := dk_158 0 29 (dk_at dksX5_goesOn_5 0 rfl rfl)
theorem dX5_goesOn_121 : decode cX5_goesOn 121 = .ok (.aload_n 0, 1) := dk_42 (dk_at dksX5_goesOn_5 3 rfl rfl)
theorem dX5_goesOn_122 : decode cX5_goesOn 122 = .ok (.getfield 7, 3) := dk_180 0 7 (dk_at dksX5_goesOn_5 4 rfl rfl)
theorem dX5_goesOn_125 : decode cX5_goesOn 125 = .ok (.bipush 28, 2) := dk_16 28 (dk_at dksX5_goesOn_5 7 rfl rfl)
theorem dX5_goesOn_127 : decode cX5_goesOn 127 = .ok (.iload_n 2, 1) := dk_28 (dk_at dksX5_goesOn_5 9 rfl rfl)
theorem dX5_goesOn_128 : decode cX5_goesOn 128 = .ok (.iadd, 1) := dk_96 (dk_at dksX5_goesOn_5 10 rfl rfl)
theorem dX5_goesOn_129 : decode cX5_goesOn 129 = .ok (.aload_n 0, 1) := dk_42 (dk_at dksX5_goesOn_5 11 rfl rfl)
theorem dX5_goesOn_130 : decode cX5_goesOn 130 = .ok (.getfield 7, 3) := dk_180 0 7 (dk_at dksX5_goesOn_5 12 rfl rfl)
theorem dX5_goesOn_133 : decode cX5_goesOn 133 = .ok (.bipush 28, 2) := dk_16 28 (dk_at dksX5_goesOn_5 15 rfl rfl)
theorem dX5_goesOn_135 : decode cX5_goesOn 135 = .ok (.iload_n 2, 1) := dk_28 (dk_at dksX5_goesOn_5 17 rfl rfl)
theorem dX5_goesOn_136 : decode cX5_goesOn 136 = .ok (.iadd, 1) := dk_96 (dk_at dksX5_goesOn_5 18 rfl rfl)
theorem dX5_goesOn_137 : decode cX5_goesOn 137 = .ok (.iconst 1, 1) := dk_4 (dk_at dksX5_goesOn_5 19 rfl rfl)
theorem dX5_goesOn_138 : decode cX5_goesOn 138 = .ok (.isub, 1) := dk_100 (dk_at dksX5_goesOn_5 20 rfl rfl)
theorem dX5_goesOn_139 : decode cX5_goesOn 139 = .ok (.iaload, 1) := dk_46 (dk_at dksX5_goesOn_5 21 rfl rfl)
theorem dX5_goesOn_140 : decode cX5_goesOn 140 = .ok (.iastore, 1) := dk_79 (dk_at dksX5_goesOn_5 22 rfl rfl)
theorem dX5_goesOn_141 : decode cX5_goesOn 141 = .ok (.iinc 2 (-1), 3) := dk_132 2 255 (dk_at dksX5_goesOn_6 0 rfl rfl)
theorem dX5_goesOn_144 : decode cX5_goesOn 144 = .ok (.goto (-27), 3) := dk_167 255 229 (dk_at dksX5_goesOn_6 3 rfl rfl)
theorem dX5_goesOn_147 : decode cX5_goesOn 147 = .ok (.aload_n 0, 1) := dk_42 (dk_at dksX5_goesOn_6 6 rfl rfl)
theorem dX5_goesOn_148 : decode cX5_goesOn 148 = .ok (.getfield 7, 3) := dk_180 0 7 (dk_at dksX5_goesOn_6 7 rfl rfl)
theorem dX5_goesOn_151 : decode cX5_goesOn 151 = .ok (.bipush 28, 2) := dk_16 28 (dk_at dksX5_goesOn_6 10 rfl rfl)
theorem dX5_goesOn_153 : decode cX5_goesOn 153 = .ok (.iload_n 1, 1) := dk_27 (dk_at dksX5_goesOn_6 12 rfl rfl)
theorem dX5_goesOn_154 : decode cX5_goesOn 154 = .ok (.iastore, 1) := dk_79 (dk_at dksX5_goesOn_6 13 rfl rfl)
theorem dX5_goesOn_155 : decode cX5_goesOn 155 = .ok (.aload_n 0, 1) := dk_42 (dk_at dksX5_goesOn_6 14 rfl rfl)
theorem dX5_goesOn_156 : decode cX5_goesOn 156 = .ok (.getfield 7, 3) := dk_180 0 7 (dk_at dksX5_goesOn_6 15 rfl rfl)
theorem dX5_goesOn_159 : decode cX5_goesOn 159 = .ok (.bipush 8, 2) := dk_16 8 (dk_at dksX5_goesOn_6 18 rfl rfl)
theorem dX5_goesOn_161 : decode cX5_goesOn 161 = .ok (.dup2, 1) := dk_92 (dk_at dksX5_goesOn_6 20 rfl rfl)
theorem dX5_goesOn_162 : decode cX5_goesOn 162 = .ok (.iaload, 1) := dk_46 (dk_at dksX5_goesOn_6 21 rfl rfl)
theorem dX5_goesOn_163 : decode cX5_goesOn 163 = .ok (.aload_n 0, 1) := dk_42 (dk_at dksX5_goesOn_6 22 rfl rfl)
theorem dX5_goesOn_164 : decode cX5_goesOn 164 = .ok (.getfield 7, 3) := dk_180 0 7 (dk_at dksX5_goesOn_7 0 rfl rfl)
theorem dX5_goesOn_167 : decode cX5_goesOn 167 = .ok (.bipush 8, 2) := dk_16 8 (dk_at dksX5_goesOn_7 3 rfl rfl)
theorem dX5_goesOn_169 : decode cX5_goesOn 169 = .ok (.iaload, 1) := dk_46 (dk_at dksX5_goesOn_7 5 rfl rfl)
theorem dX5_goesOn_170 : decode cX5_goesOn 170 = .ok (.bipush 12, 2) := dk_16 12 (dk_at dksX5_goesOn_7 6 rfl rfl)
theorem dX5_goesOn_172 : decode cX5_goesOn 172 = .ok (.if_icmp .ge 7, 3) := dk_162 0 7 (dk_at dksX5_goesOn_7 8 rfl rfl)
theorem dX5_goesOn_175 : decode cX5_goesOn 175 = .ok (.iconst 1, 1) := dk_4 (dk_at dksX5_goesOn_7 11 rfl rfl)
theorem dX5_goesOn_176 : decode cX5_goesOn 176 = .ok (.goto 4, 3) := dk_167 0 4 (dk_at dksX5_goesOn_7 12 rfl rfl)
theorem dX5_goesOn_179 : decode cX5_goesOn 179 = .ok (.iconst 0, 1) := dk_3 (dk_at dksX5_goesOn_7 15 rfl rfl)
theorem dX5_goesOn_180 : decode cX5_goesOn 180 = .ok (.iadd, 1) := dk_96 (dk_at dksX5_goesOn_7 16 rfl rfl)
theorem dX5_goesOn_181 : decode cX5_goesOn 181 = .ok (.iastore, 1) := dk_79 (dk_at dksX5_goesOn_7 17 rfl rfl)
theorem dX5_goesOn_182 : decode cX5_goesOn 182 = .ok (.aload_n 0, 1) := dk_42 (dk_at dksX5_goesOn_7 18 rfl rfl)
theorem dX5_goesOn_183 : decode cX5_goesOn 183 = .ok (.getfield 7, 3) := dk_180 0 7 (dk_at dksX5_goesOn_7 19 rfl rfl)
theorem dX5_goesOn_186 : decode cX5_goesOn 186 = .ok (.iconst 2, 1) := dk_5 (dk_at dksX5_goesOn_7 22 rfl rfl)
theorem dX5_goesOn_187 : decode cX5_goesOn 187 = .ok (.dup2, 1) := dk_92 (dk_at dksX5_goesOn_7 23 rfl rfl)
theorem dX5_goesOn_188 : decode cX5_goesOn 188 = .ok (.iaload, 1) := dk_46 (dk_at dksX5_goesOn_8 0 rfl rfl)
theorem dX5_goesOn_189 : decode cX5_goesOn 189 = .ok (.iconst 1, 1) := dk_4 (dk_at dksX5_goesOn_8 1 rfl rfl)
theorem dX5_goesOn_190 : decode cX5_goesOn 190 = .ok (.iadd, 1) := dk_96 (dk_at dksX5_goesOn_8 2 rfl rfl)
theorem dX5_goesOn_191 : decode cX5_goesOn 191 = .ok (.iastore, 1) := dk_79 (dk_at dksX5_goesOn_8 3 rfl rfl)
theorem dX5_goesOn_192 : decode cX5_goesOn 192 = .ok (.return_, 1) := dk_177 (dk_at dksX5_goesOn_8 4 rfl rfl)
abbrev cX5_bed : ByteArray := prog_18_method_36_code
def yX5_bed : MethodName := ⟨RX5, "bed", "(I)I"⟩
def dkwX5_bed_1 : List UInt8 := [180, 0, 7, 6, 27, 96, 46, 167, 0, 10, 42, 180, 0, 7, 16, 8, 46, 172]
abbrev dktX5_bed_1 : List UInt8 := dkwX5_bed_1 ++ []
def dkwX5_bed_0 : List UInt8 := [27, 133, 9, 20, 0, 151, 184, 0, 68, 154, 0, 8, 18, 83, 167, 0, 26, 27, 6, 162, 0, 14, 42]
abbrev dktX5_bed_0 : List UInt8 := dkwX5_bed_0 ++ dktX5_bed_1
theorem dksX5_bed_0 : cX5_bed.data.toList.drop 0 = dktX5_bed_0 := by decide +kernel
theorem dksX5_bed_1 : cX5_bed.data.toList.drop 23 = dktX5_bed_1 := dk_seg dksX5_bed_0 23 rfl rfl
theorem dX5_bed_0 : decode cX5_bed 0 = .ok (.iload_n 1, 1) := dk_27 (dk_at dksX5_bed_0 0 rfl rfl)
theorem dX5_bed_1 : decode cX5_bed 1 = .ok (.i2l, 1) := dk_133 (dk_at dksX5_bed_0 1 rfl rfl)
theorem dX5_bed_2 : decode cX5_bed 2 = .ok (.lconst 0, 1) := dk_9 (dk_at dksX5_bed_0 2 rfl rfl)
theorem dX5_bed_3 : decode cX5_bed 3 = .ok (.ldc2_w 151, 3) := dk_20 0 151 (dk_at dksX5_bed_0 3 rfl rfl)
theorem dX5_bed_6 : decode cX5_bed 6 = .ok (.invokestatic 68, 3) := dk_184 0 68 (dk_at dksX5_bed_0 6 rfl rfl)
theorem dX5_bed_9 : decode cX5_bed 9 = .ok (.ifCond .ne 8, 3) := dk_154 0 8 (dk_at dksX5_bed_0 9 rfl rfl)
theorem dX5_bed_12 : decode cX5_bed 12 = .ok (.ldc 83, 2) := dk_18 83 (dk_at dksX5_bed_0 12 rfl rfl)
theorem dX5_bed_14 : decode cX5_bed 14 = .ok (.goto 26, 3) := dk_167 0 26 (dk_at dksX5_bed_0 14 rfl rfl)
theorem dX5_bed_17 : decode cX5_bed 17 = .ok (.iload_n 1, 1) := dk_27 (dk_at dksX5_bed_0 17 rfl rfl)
theorem dX5_bed_18 : decode cX5_bed 18 = .ok (.iconst 3, 1) := dk_6 (dk_at dksX5_bed_0 18 rfl rfl)
theorem dX5_bed_19 : decode cX5_bed 19 = .ok (.if_icmp .ge 14, 3) := dk_162 0 14 (dk_at dksX5_bed_0 19 rfl rfl)
theorem dX5_bed_22 : decode cX5_bed 22 = .ok (.aload_n 0, 1) := dk_42 (dk_at dksX5_bed_0 22 rfl rfl)
theorem dX5_bed_23 : decode cX5_bed 23 = .ok (.getfield 7, 3) := dk_180 0 7 (dk_at dksX5_bed_1 0 rfl rfl)
theorem dX5_bed_26 : decode cX5_bed 26 = .ok (.iconst 3, 1) := dk_6 (dk_at dksX5_bed_1 3 rfl rfl)
theorem dX5_bed_27 : decode cX5_bed 27 = .ok (.iload_n 1, 1) := dk_27 (dk_at dksX5_bed_1 4 rfl rfl)
theorem dX5_bed_28 : decode cX5_bed 28 = .ok (.iadd, 1) := dk_96 (dk_at dksX5_bed_1 5 rfl rfl)
theorem dX5_bed_29 : decode cX5_bed 29 = .ok (.iaload, 1) := dk_46 (dk_at dksX5_bed_1 6 rfl rfl)
theorem dX5_bed_30 : decode cX5_bed 30 = .ok (.goto 10, 3) := dk_167 0 10 (dk_at dksX5_bed_1 7 rfl rfl)
theorem dX5_bed_33 : decode cX5_bed 33 = .ok (.aload_n 0, 1) := dk_42 (dk_at dksX5_bed_1 10 rfl rfl)
theorem dX5_bed_34 : decode cX5_bed 34 = .ok (.getfield 7, 3) := dk_180 0 7 (dk_at dksX5_bed_1 11 rfl rfl)
theorem dX5_bed_37 : decode cX5_bed 37 = .ok (.bipush 8, 2) := dk_16 8 (dk_at dksX5_bed_1 14 rfl rfl)
theorem dX5_bed_39 : decode cX5_bed 39 = .ok (.iaload, 1) := dk_46 (dk_at dksX5_bed_1 16 rfl rfl)
theorem dX5_bed_40 : decode cX5_bed 40 = .ok (.ireturn, 1) := dk_172 (dk_at dksX5_bed_1 17 rfl rfl)
abbrev cX5_note : ByteArray := prog_18_method_37_code
def yX5_note : MethodName := ⟨RX5, "note", "(I)I"⟩
def dkwX5_note_1 : List UInt8 := [162, 0, 15, 42, 180, 0, 7, 16, 28, 27, 96, 46, 167, 0, 5, 18, 67, 172]
abbrev dktX5_note_1 : List UInt8 := dkwX5_note_1 ++ []
def dkwX5_note_0 : List UInt8 := [27, 133, 9, 20, 0, 153, 184, 0, 68, 154, 0, 6, 18, 83, 172, 27, 42, 180, 0, 7, 16, 8, 46]
abbrev dktX5_note_0 : List UInt8 := dkwX5_note_0 ++ dktX5_note_1
theorem dksX5_note_0 : cX5_note.data.toList.drop 0 = dktX5_note_0 := by decide +kernel
theorem dksX5_note_1 : cX5_note.data.toList.drop 23 = dktX5_note_1 := dk_seg dksX5_note_0 23 rfl rfl
theorem dX5_note_0 : decode cX5_note 0 = .ok (.iload_n 1, 1) := dk_27 (dk_at dksX5_note_0 0 rfl rfl)
theorem dX5_note_1 : decode cX5_note 1 = .ok (.i2l, 1) := dk_133 (dk_at dksX5_note_0 1 rfl rfl)
theorem dX5_note_2 : decode cX5_note 2 = .ok (.lconst 0, 1) := dk_9 (dk_at dksX5_note_0 2 rfl rfl)
theorem dX5_note_3 : decode cX5_note 3 = .ok (.ldc2_w 153, 3) := dk_20 0 153 (dk_at dksX5_note_0 3 rfl rfl)
theorem dX5_note_6 : decode cX5_note 6 = .ok (.invokestatic 68, 3) := dk_184 0 68 (dk_at dksX5_note_0 6 rfl rfl)
theorem dX5_note_9 : decode cX5_note 9 = .ok (.ifCond .ne 6, 3) := dk_154 0 6 (dk_at dksX5_note_0 9 rfl rfl)
theorem dX5_note_12 : decode cX5_note 12 = .ok (.ldc 83, 2) := dk_18 83 (dk_at dksX5_note_0 12 rfl rfl)
theorem dX5_note_14 : decode cX5_note 14 = .ok (.ireturn, 1) := dk_172 (dk_at dksX5_note_0 14 rfl rfl)
theorem dX5_note_15 : decode cX5_note 15 = .ok (.iload_n 1, 1) := dk_27 (dk_at dksX5_note_0 15 rfl rfl)
theorem dX5_note_16 : decode cX5_note 16 = .ok (.aload_n 0, 1) := dk_42 (dk_at dksX5_note_0 16 rfl rfl)
theorem dX5_note_17 : decode cX5_note 17 = .ok (.getfield 7, 3) := dk_180 0 7 (dk_at dksX5_note_0 17 rfl rfl)
theorem dX5_note_20 : decode cX5_note 20 = .ok (.bipush 8, 2) := dk_16 8 (dk_at dksX5_note_0 20 rfl rfl)
theorem dX5_note_22 : decode cX5_note 22 = .ok (.iaload, 1) := dk_46 (dk_at dksX5_note_0 22 rfl rfl)
theorem dX5_note_23 : decode cX5_note 23 = .ok (.if_icmp .ge 15, 3) := dk_162 0 15 (dk_at dksX5_note_1 0 rfl rfl)
theorem dX5_note_26 : decode cX5_note 26 = .ok (.aload_n 0, 1) := dk_42 (dk_at dksX5_note_1 3 rfl rfl)
theorem dX5_note_27 : decode cX5_note 27 = .ok (.getfield 7, 3) := dk_180 0 7 (dk_at dksX5_note_1 4 rfl rfl)
theorem dX5_note_30 : decode cX5_note 30 = .ok (.bipush 28, 2) := dk_16 28 (dk_at dksX5_note_1 7 rfl rfl)
theorem dX5_note_32 : decode cX5_note 32 = .ok (.iload_n 1, 1) := dk_27 (dk_at dksX5_note_1 9 rfl rfl)
theorem dX5_note_33 : decode cX5_note 33 = .ok (.iadd, 1) := dk_96 (dk_at dksX5_note_1 10 rfl rfl)
theorem dX5_note_34 : decode cX5_note 34 = .ok (.iaload, 1) := dk_46 (dk_at dksX5_note_1 11 rfl rfl)
theorem dX5_note_35 : decode cX5_note 35 = .ok (.goto 5, 3) := dk_167 0 5 (dk_at dksX5_note_1 12 rfl rfl)
theorem dX5_note_38 : decode cX5_note 38 = .ok (.ldc 67, 2) := dk_18 67 (dk_at dksX5_note_1 15 rfl rfl)
theorem dX5_note_40 : decode cX5_note 40 = .ok (.ireturn, 1) := dk_172 (dk_at dksX5_note_1 17 rfl rfl)
abbrev cX5_fits : ByteArray := prog_18_method_44_code
def yX5_fits : MethodName := ⟨RX5, "fits", "(I)I"⟩
def dkwX5_fits_1 : List UInt8 := [167, 0, 4, 3, 172]
abbrev dktX5_fits_1 : List UInt8 := dkwX5_fits_1 ++ []
def dkwX5_fits_0 : List UInt8 := [27, 184, 0, 131, 154, 0, 6, 18, 83, 172, 42, 182, 0, 161, 42, 27, 182, 0, 155, 153, 0, 7, 4]
abbrev dktX5_fits_0 : List UInt8 := dkwX5_fits_0 ++ dktX5_fits_1
theorem dksX5_fits_0 : cX5_fits.data.toList.drop 0 = dktX5_fits_0 := by decide +kernel
theorem dksX5_fits_1 : cX5_fits.data.toList.drop 23 = dktX5_fits_1 := dk_seg dksX5_fits_0 23 rfl rfl
theorem dX5_fits_0 : decode cX5_fits 0 = .ok (.iload_n 1, 1) := dk_27 (dk_at dksX5_fits_0 0 rfl rfl)
theorem dX5_fits_1 : decode cX5_fits 1 = .ok (.invokestatic 131, 3) := dk_184 0 131 (dk_at dksX5_fits_0 1 rfl rfl)
theorem dX5_fits_4 : decode cX5_fits 4 = .ok (.ifCond .ne 6, 3) := dk_154 0 6 (dk_at dksX5_fits_0 4 rfl rfl)
theorem dX5_fits_7 : decode cX5_fits 7 = .ok (.ldc 83, 2) := dk_18 83 (dk_at dksX5_fits_0 7 rfl rfl)
theorem dX5_fits_9 : decode cX5_fits 9 = .ok (.ireturn, 1) := dk_172 (dk_at dksX5_fits_0 9 rfl rfl)
theorem dX5_fits_10 : decode cX5_fits 10 = .ok (.aload_n 0, 1) := dk_42 (dk_at dksX5_fits_0 10 rfl rfl)
theorem dX5_fits_11 : decode cX5_fits 11 = .ok (.invokevirtual 161, 3) := dk_182 0 161 (dk_at dksX5_fits_0 11 rfl rfl)
theorem dX5_fits_14 : decode cX5_fits 14 = .ok (.aload_n 0, 1) := dk_42 (dk_at dksX5_fits_0 14 rfl rfl)
theorem dX5_fits_15 : decode cX5_fits 15 = .ok (.iload_n 1, 1) := dk_27 (dk_at dksX5_fits_0 15 rfl rfl)
theorem dX5_fits_16 : decode cX5_fits 16 = .ok (.invokevirtual 155, 3) := dk_182 0 155 (dk_at dksX5_fits_0 16 rfl rfl)
theorem dX5_fits_19 : decode cX5_fits 19 = .ok (.ifCond .eq 7, 3) := dk_153 0 7 (dk_at dksX5_fits_0 19 rfl rfl)
theorem dX5_fits_22 : decode cX5_fits 22 = .ok (.iconst 1, 1) := dk_4 (dk_at dksX5_fits_0 22 rfl rfl)
theorem dX5_fits_23 : decode cX5_fits 23 = .ok (.goto 4, 3) := dk_167 0 4 (dk_at dksX5_fits_1 0 rfl rfl)
theorem dX5_fits_26 : decode cX5_fits 26 = .ok (.iconst 0, 1) := dk_3 (dk_at dksX5_fits_1 3 rfl rfl)
theorem dX5_fits_27 : decode cX5_fits 27 = .ok (.ireturn, 1) := dk_172 (dk_at dksX5_fits_1 4 rfl rfl)
abbrev cX5_findAll : ByteArray := prog_18_method_38_code
def yX5_findAll : MethodName := ⟨RX5, "findAll", "()V"⟩
def dkwX5_findAll_1 : List UInt8 := [167, 255, 235, 177]
abbrev dktX5_findAll_1 : List UInt8 := dkwX5_findAll_1 ++ []
def dkwX5_findAll_0 : List UInt8 := [3, 60, 27, 17, 2, 208, 162, 0, 20, 42, 180, 0, 43, 27, 42, 27, 182, 0, 134, 79, 132, 1, 1]
abbrev dktX5_findAll_0 : List UInt8 := dkwX5_findAll_0 ++ dktX5_findAll_1
theorem dksX5_findAll_0 : cX5_findAll.data.toList.drop 0 = dktX5_findAll_0 := by decide +kernel
theorem dksX5_findAll_1 : cX5_findAll.data.toList.drop 23 = dktX5_findAll_1 := dk_seg dksX5_findAll_0 23 rfl rfl
theorem dX5_findAll_0 : decode cX5_findAll 0 = .ok (.iconst 0, 1) := dk_3 (dk_at dksX5_findAll_0 0 rfl rfl)
theorem dX5_findAll_1 : decode cX5_findAll 1 = .ok (.istore_n 1, 1) := dk_60 (dk_at dksX5_findAll_0 1 rfl rfl)
theorem dX5_findAll_2 : decode cX5_findAll 2 = .ok (.iload_n 1, 1) := dk_27 (dk_at dksX5_findAll_0 2 rfl rfl)
theorem dX5_findAll_3 : decode cX5_findAll 3 = .ok (.sipush 720, 3) := dk_17 2 208 (dk_at dksX5_findAll_0 3 rfl rfl)
theorem dX5_findAll_6 : decode cX5_findAll 6 = .ok (.if_icmp .ge 20, 3) := dk_162 0 20 (dk_at dksX5_findAll_0 6 rfl rfl)
theorem dX5_findAll_9 : decode cX5_findAll 9 = .ok (.aload_n 0, 1) := dk_42 (dk_at dksX5_findAll_0 9 rfl rfl)
theorem dX5_findAll_10 : decode cX5_findAll 10 = .ok (.getfield 43, 3) := dk_180 0 43 (dk_at dksX5_findAll_0 10 rfl rfl)
theorem dX5_findAll_13 : decode cX5_findAll 13 = .ok (.iload_n 1, 1) := dk_27 (dk_at dksX5_findAll_0 13 rfl rfl)
theorem dX5_findAll_14 : decode cX5_findAll 14 = .ok (.aload_n 0, 1) := dk_42 (dk_at dksX5_findAll_0 14 rfl rfl)
theorem dX5_findAll_15 : decode cX5_findAll 15 = .ok (.iload_n 1, 1) := dk_27 (dk_at dksX5_findAll_0 15 rfl rfl)
theorem dX5_findAll_16 : decode cX5_findAll 16 = .ok (.invokevirtual 134, 3) := dk_182 0 134 (dk_at dksX5_findAll_0 16 rfl rfl)
theorem dX5_findAll_19 : decode cX5_findAll 19 = .ok (.iastore, 1) := dk_79 (dk_at dksX5_findAll_0 19 rfl rfl)
theorem dX5_findAll_20 : decode cX5_findAll 20 = .ok (.iinc 1 1, 3) := dk_132 1 1 (dk_at dksX5_findAll_0 20 rfl rfl)
theorem dX5_findAll_23 : decode cX5_findAll 23 = .ok (.goto (-21), 3) := dk_167 255 235 (dk_at dksX5_findAll_1 0 rfl rfl)
theorem dX5_findAll_26 : decode cX5_findAll 26 = .ok (.return_, 1) := dk_177 (dk_at dksX5_findAll_1 3 rfl rfl)
abbrev cX5_doesFit : ByteArray := prog_18_method_40_code
def yX5_doesFit : MethodName := ⟨RX5, "doesFit", "(I)Z"⟩
def dkwX5_doesFit_4 : List UInt8 := [46, 21, 5, 161, 0, 7, 4, 167, 0, 4, 3, 62, 132, 4, 1, 167, 255, 168, 29, 172]
abbrev dktX5_doesFit_4 : List UInt8 := dkwX5_doesFit_4 ++ []
def dkwX5_doesFit_3 : List UInt8 := [161, 0, 34, 42, 180, 0, 7, 16, 6, 46, 16, 100, 161, 0, 18, 42, 180, 0, 7, 16, 28, 21, 4, 96]
abbrev dktX5_doesFit_3 : List UInt8 := dkwX5_doesFit_3 ++ dktX5_doesFit_4
def dkwX5_doesFit_2 : List UInt8 := [100, 17, 2, 208, 112, 46, 54, 5, 21, 5, 28, 96, 42, 180, 0, 7, 16, 28, 21, 4, 96, 46]
abbrev dktX5_doesFit_2 : List UInt8 := dkwX5_doesFit_2 ++ dktX5_doesFit_3
def dkwX5_doesFit_1 : List UInt8 := [180, 0, 7, 16, 8, 46, 162, 0, 82, 29, 153, 0, 78, 42, 180, 0, 43, 27, 17, 2, 208, 96, 21, 4]
abbrev dktX5_doesFit_1 : List UInt8 := dkwX5_doesFit_1 ++ dktX5_doesFit_2
def dkwX5_doesFit_0 : List UInt8 := [42, 180, 0, 7, 16, 7, 46, 158, 0, 7, 4, 167, 0, 4, 3, 61, 4, 62, 3, 54, 4, 21, 4, 42]
abbrev dktX5_doesFit_0 : List UInt8 := dkwX5_doesFit_0 ++ dktX5_doesFit_1
theorem dksX5_doesFit_0 : cX5_doesFit.data.toList.drop 0 = dktX5_doesFit_0 := by decide +kernel
theorem dksX5_doesFit_1 : cX5_doesFit.data.toList.drop 24 = dktX5_doesFit_1 := dk_seg dksX5_doesFit_0 24 rfl rfl
theorem dksX5_doesFit_2 : cX5_doesFit.data.toList.drop 48 = dktX5_doesFit_2 := dk_seg dksX5_doesFit_1 24 rfl rfl
theorem dksX5_doesFit_3 : cX5_doesFit.data.toList.drop 70 = dktX5_doesFit_3 := dk_seg dksX5_doesFit_2 22 rfl rfl
theorem dksX5_doesFit_4 : cX5_doesFit.data.toList.drop 94 = dktX5_doesFit_4 := dk_seg dksX5_doesFit_3 24 rfl rfl
theorem dX5_doesFit_0 : decode cX5_doesFit 0 = .ok (.aload_n 0, 1) := dk_42 (dk_at dksX5_doesFit_0 0 rfl rfl)
theorem dX5_doesFit_1 : decode cX5_doesFit 1 = .ok (.getfield 7, 3) := dk_180 0 7 (dk_at dksX5_doesFit_0 1 rfl rfl)
theorem dX5_doesFit_4 : decode cX5_doesFit 4 = .ok (.bipush 7, 2) := dk_16 7 (dk_at dksX5_doesFit_0 4 rfl rfl)
theorem dX5_doesFit_6 : decode cX5_doesFit 6 = .ok (.iaload, 1) := dk_46 (dk_at dksX5_doesFit_0 6 rfl rfl)
theorem dX5_doesFit_7 : decode cX5_doesFit 7 = .ok (.ifCond .le 7, 3) := dk_158 0 7 (dk_at dksX5_doesFit_0 7 rfl rfl)
theorem dX5_doesFit_10 : decode cX5_doesFit 10 = .ok (.iconst 1, 1) := dk_4 (dk_at dksX5_doesFit_0 10 rfl rfl)
theorem dX5_doesFit_11 : decode cX5_doesFit 11 = .ok (.goto 4, 3) := dk_167 0 4 (dk_at dksX5_doesFit_0 11 rfl rfl)
theorem dX5_doesFit_14 : decode cX5_doesFit 14 = .ok (.iconst 0, 1) := dk_3 (dk_at dksX5_doesFit_0 14 rfl rfl)
theorem dX5_doesFit_15 : decode cX5_doesFit 15 = .ok (.istore_n 2, 1) := dk_61 (dk_at dksX5_doesFit_0 15 rfl rfl)
theorem dX5_doesFit_16 : decode cX5_doesFit 16 = .ok (.iconst 1, 1) := dk_4 (dk_at dksX5_doesFit_0 16 rfl rfl)
theorem dX5_doesFit_17 : decode cX5_doesFit 17 = .ok (.istore_n 3, 1) := dk_62 (dk_at dksX5_doesFit_0 17 rfl rfl)
theorem dX5_doesFit_18 : decode cX5_doesFit 18 = .ok (.iconst 0, 1) := dk_3 (dk_at dksX5_doesFit_0 18 rfl rfl)
theorem dX5_doesFit_19 : decode cX5_doesFit 19 = .ok (.istore 4, 2) := dk_54 4 (dk_at dksX5_doesFit_0 19 rfl rfl)
theorem dX5_doesFit_21 : decode cX5_doesFit 21 = .ok (.iload 4, 2) := dk_21 4 (dk_at dksX5_doesFit_0 21 rfl rfl)
theorem dX5_doesFit_23 : decode cX5_doesFit 23 = .ok (.aload_n 0, 1) := dk_42 (dk_at dksX5_doesFit_0 23 rfl rfl)
theorem dX5_doesFit_24 : decode cX5_doesFit 24 = .ok (.getfield 7, 3) := dk_180 0 7 (dk_at dksX5_doesFit_1 0 rfl rfl)
theorem dX5_doesFit_27 : decode cX5_doesFit 27 = .ok (.bipush 8, 2) := dk_16 8 (dk_at dksX5_doesFit_1 3 rfl rfl)
theorem dX5_doesFit_29 : decode cX5_doesFit 29 = .ok (.iaload, 1) := dk_46 (dk_at dksX5_doesFit_1 5 rfl rfl)
theorem dX5_doesFit_30 : decode cX5_doesFit 30 = .ok (.if_icmp .ge 82, 3) := dk_162 0 82 (dk_at dksX5_doesFit_1 6 rfl rfl)
theorem dX5_doesFit_33 : decode cX5_doesFit 33 = .ok (.iload_n 3, 1) := dk_29 (dk_at dksX5_doesFit_1 9 rfl rfl)
theorem dX5_doesFit_34 : decode cX5_doesFit 34 = .ok (.ifCond .eq 78, 3) := dk_153 0 78 (dk_at dksX5_doesFit_1 10 rfl rfl)
theorem dX5_doesFit_37 : decode cX5_doesFit 37 = .ok (.aload_n 0, 1) := dk_42 (dk_at dksX5_doesFit_1 13 rfl rfl)
theorem dX5_doesFit_38 : decode cX5_doesFit 38 = .ok (.getfield 43, 3) := dk_180 0 43 (dk_at dksX5_doesFit_1 14 rfl rfl)
theorem dX5_doesFit_41 : decode cX5_doesFit 41 = .ok (.iload_n 1, 1) := dk_27 (dk_at dksX5_doesFit_1 17 rfl rfl)
theorem dX5_doesFit_42 : decode cX5_doesFit 42 = .ok (.sipush 720, 3) := dk_17 2 208 (dk_at dksX5_doesFit_1 18 rfl rfl)
theorem dX5_doesFit_45 : decode cX5_doesFit 45 = .ok (.iadd, 1) := dk_96 (dk_at dksX5_doesFit_1 21 rfl rfl)
theorem dX5_doesFit_46 : decode cX5_doesFit 46 = .ok (.iload 4, 2) := dk_21 4 (dk_at dksX5_doesFit_1 22 rfl rfl)
theorem dX5_doesFit_48 : decode cX5_doesFit 48 = .ok (.isub, 1) := dk_100 (dk_at dksX5_doesFit_2 0 rfl rfl)
theorem dX5_doesFit_49 : decode cX5_doesFit 49 = .ok (.sipush 720, 3) := dk_17 2 208 (dk_at dksX5_doesFit_2 1 rfl rfl)
theorem dX5_doesFit_52 : decode cX5_doesFit 52 = .ok (.irem, 1) := dk_112 (dk_at dksX5_doesFit_2 4 rfl rfl)
theorem dX5_doesFit_53 : decode cX5_doesFit 53 = .ok (.iaload, 1) := dk_46 (dk_at dksX5_doesFit_2 5 rfl rfl)
theorem dX5_doesFit_54 : decode cX5_doesFit 54 = .ok (.istore 5, 2) := dk_54 5 (dk_at dksX5_doesFit_2 6 rfl rfl)
theorem dX5_doesFit_56 : decode cX5_doesFit 56 = .ok (.iload 5, 2) := dk_21 5 (dk_at dksX5_doesFit_2 8 rfl rfl)
theorem dX5_doesFit_58 : decode cX5_doesFit 58 = .ok (.iload_n 2, 1) := dk_28 (dk_at dksX5_doesFit_2 10 rfl rfl)
theorem dX5_doesFit_59 : decode cX5_doesFit 59 = .ok (.iadd, 1) := dk_96 (dk_at dksX5_doesFit_2 11 rfl rfl)
theorem dX5_doesFit_60 : decode cX5_doesFit 60 = .ok (.aload_n 0, 1) := dk_42 (dk_at dksX5_doesFit_2 12 rfl rfl)
theorem dX5_doesFit_61 : decode cX5_doesFit 61 = .ok (.getfield 7, 3) := dk_180 0 7 (dk_at dksX5_doesFit_2 13 rfl rfl)
theorem dX5_doesFit_64 : decode cX5_doesFit 64 = .ok (.bipush 28, 2) := dk_16 28 (dk_at dksX5_doesFit_2 16 rfl rfl)
theorem dX5_doesFit_66 : decode cX5_doesFit 66 = .ok (.iload 4, 2) := dk_21 4 (dk_at dksX5_doesFit_2 18 rfl rfl)
theorem dX5_doesFit_68 : decode cX5_doesFit 68 = .ok (.iadd, 1) := dk_96 (dk_at dksX5_doesFit_2 20 rfl rfl)
theorem dX5_doesFit_69 : decode cX5_doesFit 69 = .ok (.iaload, 1) := dk_46 (dk_at dksX5_doesFit_2 21 rfl rfl)
theorem dX5_doesFit_70 : decode cX5_doesFit 70 = .ok (.if_icmp .lt 34, 3) := dk_161 0 34 (dk_at dksX5_doesFit_3 0 rfl rfl)
theorem dX5_doesFit_73 : decode cX5_doesFit 73 = .ok (.aload_n 0, 1) := dk_42 (dk_at dksX5_doesFit_3 3 rfl rfl)
theorem dX5_doesFit_74 : decode cX5_doesFit 74 = .ok (.getfield 7, 3) := dk_180 0 7 (dk_at dksX5_doesFit_3 4 rfl rfl)
theorem dX5_doesFit_77 : decode cX5_doesFit 77 = .ok (.bipush 6, 2) := dk_16 6 (dk_at dksX5_doesFit_3 7 rfl rfl)
theorem dX5_doesFit_79 : decode cX5_doesFit 79 = .ok (.iaload, 1) := dk_46 (dk_at dksX5_doesFit_3 9 rfl rfl)
theorem dX5_doesFit_80 : decode cX5_doesFit 80 = .ok (.bipush 100, 2) := dk_16 100 (dk_at dksX5_doesFit_3 10 rfl rfl)
theorem dX5_doesFit_82 : decode cX5_doesFit 82 = .ok (.if_icmp .lt 18, 3) := dk_161 0 18 (dk_at dksX5_doesFit_3 12 rfl rfl)
theorem dX5_doesFit_85 : decode cX5_doesFit 85 = .ok (.aload_n 0, 1) := dk_42 (dk_at dksX5_doesFit_3 15 rfl rfl)
theorem dX5_doesFit_86 : decode cX5_doesFit 86 = .ok (.getfield 7, 3) := dk_180 0 7 (dk_at dksX5_doesFit_3 16 rfl rfl)
theorem dX5_doesFit_89 : decode cX5_doesFit 89 = .ok (.bipush 28, 2) := dk_16 28 (dk_at dksX5_doesFit_3 19 rfl rfl)
theorem dX5_doesFit_91 : decode cX5_doesFit 91 = .ok (.iload 4, 2) := dk_21 4 (dk_at dksX5_doesFit_3 21 rfl rfl)
theorem dX5_doesFit_93 : decode cX5_doesFit 93 = .ok (.iadd, 1) := dk_96 (dk_at dksX5_doesFit_3 23 rfl rfl)
theorem dX5_doesFit_94 : decode cX5_doesFit 94 = .ok (.iaload, 1) := dk_46 (dk_at dksX5_doesFit_4 0 rfl rfl)
theorem dX5_doesFit_95 : decode cX5_doesFit 95 = .ok (.iload 5, 2) := dk_21 5 (dk_at dksX5_doesFit_4 1 rfl rfl)
theorem dX5_doesFit_97 : decode cX5_doesFit 97 = .ok (.if_icmp .lt 7, 3) := dk_161 0 7 (dk_at dksX5_doesFit_4 3 rfl rfl)
theorem dX5_doesFit_100 : decode cX5_doesFit 100 = .ok (.iconst 1, 1) := dk_4 (dk_at dksX5_doesFit_4 6 rfl rfl)
theorem dX5_doesFit_101 : decode cX5_doesFit 101 = .ok (.goto 4, 3) := dk_167 0 4 (dk_at dksX5_doesFit_4 7 rfl rfl)
theorem dX5_doesFit_104 : decode cX5_doesFit 104 = .ok (.iconst 0, 1) := dk_3 (dk_at dksX5_doesFit_4 10 rfl rfl)
theorem dX5_doesFit_105 : decode cX5_doesFit 105 = .ok (.istore_n 3, 1) := dk_62 (dk_at dksX5_doesFit_4 11 rfl rfl)
theorem dX5_doesFit_106 : decode cX5_doesFit 106 = .ok (.iinc 4 1, 3) := dk_132 4 1 (dk_at dksX5_doesFit_4 12 rfl rfl)
theorem dX5_doesFit_109 : decode cX5_doesFit 109 = .ok (.goto (-88), 3) := dk_167 255 168 (dk_at dksX5_doesFit_4 15 rfl rfl)
theorem dX5_doesFit_112 : decode cX5_doesFit 112 = .ok (.iload_n 3, 1) := dk_29 (dk_at dksX5_doesFit_4 18 rfl rfl)
theorem dX5_doesFit_113 : decode cX5_doesFit 113 = .ok (.ireturn, 1) := dk_172 (dk_at dksX5_doesFit_4 19 rfl rfl)
abbrev cX5_may : ByteArray := prog_18_method_45_code
def yX5_may : MethodName := ⟨RX5, "may", "(I)I"⟩
def dkwX5_may_3 : List UInt8 := [154, 0, 9, 132, 2, 1, 167, 255, 238, 28, 17, 2, 208, 162, 0, 7, 28, 167, 0, 5, 18, 67, 172]
abbrev dktX5_may_3 : List UInt8 := dkwX5_may_3 ++ []
def dkwX5_may_2 : List UInt8 := [153, 0, 7, 4, 167, 0, 4, 3, 172, 3, 61, 28, 17, 2, 208, 162, 0, 17, 42, 28, 182, 0, 155]
abbrev dktX5_may_2 : List UInt8 := dkwX5_may_2 ++ dktX5_may_3
def dkwX5_may_1 : List UInt8 := [182, 0, 164, 172, 27, 4, 160, 0, 8, 42, 182, 0, 158, 172, 27, 6, 160, 0, 16, 42, 182, 0, 167]
abbrev dktX5_may_1 : List UInt8 := dkwX5_may_1 ++ dktX5_may_2
def dkwX5_may_0 : List UInt8 := [27, 133, 9, 20, 0, 151, 184, 0, 68, 154, 0, 6, 18, 83, 172, 42, 182, 0, 161, 27, 154, 0, 8, 42]
abbrev dktX5_may_0 : List UInt8 := dkwX5_may_0 ++ dktX5_may_1
theorem dksX5_may_0 : cX5_may.data.toList.drop 0 = dktX5_may_0 := by decide +kernel
theorem dksX5_may_1 : cX5_may.data.toList.drop 24 = dktX5_may_1 := dk_seg dksX5_may_0 24 rfl rfl
theorem dksX5_may_2 : cX5_may.data.toList.drop 47 = dktX5_may_2 := dk_seg dksX5_may_1 23 rfl rfl
theorem dksX5_may_3 : cX5_may.data.toList.drop 70 = dktX5_may_3 := dk_seg dksX5_may_2 23 rfl rfl
theorem dX5_may_0 : decode cX5_may 0 = .ok (.iload_n 1, 1) := dk_27 (dk_at dksX5_may_0 0 rfl rfl)
theorem dX5_may_1 : decode cX5_may 1 = .ok (.i2l, 1) := dk_133 (dk_at dksX5_may_0 1 rfl rfl)
theorem dX5_may_2 : decode cX5_may 2 = .ok (.lconst 0, 1) := dk_9 (dk_at dksX5_may_0 2 rfl rfl)
theorem dX5_may_3 : decode cX5_may 3 = .ok (.ldc2_w 151, 3) := dk_20 0 151 (dk_at dksX5_may_0 3 rfl rfl)
theorem dX5_may_6 : decode cX5_may 6 = .ok (.invokestatic 68, 3) := dk_184 0 68 (dk_at dksX5_may_0 6 rfl rfl)
theorem dX5_may_9 : decode cX5_may 9 = .ok (.ifCond .ne 6, 3) := dk_154 0 6 (dk_at dksX5_may_0 9 rfl rfl)
theorem dX5_may_12 : decode cX5_may 12 = .ok (.ldc 83, 2) := dk_18 83 (dk_at dksX5_may_0 12 rfl rfl)
theorem dX5_may_14 : decode cX5_may 14 = .ok (.ireturn, 1) := dk_172 (dk_at dksX5_may_0 14 rfl rfl)
theorem dX5_may_15 : decode cX5_may 15 = .ok (.aload_n 0, 1) := dk_42 (dk_at dksX5_may_0 15 rfl rfl)
theorem dX5_may_16 : decode cX5_may 16 = .ok (.invokevirtual 161, 3) := dk_182 0 161 (dk_at dksX5_may_0 16 rfl rfl)
theorem dX5_may_19 : decode cX5_may 19 = .ok (.iload_n 1, 1) := dk_27 (dk_at dksX5_may_0 19 rfl rfl)
theorem dX5_may_20 : decode cX5_may 20 = .ok (.ifCond .ne 8, 3) := dk_154 0 8 (dk_at dksX5_may_0 20 rfl rfl)
theorem dX5_may_23 : decode cX5_may 23 = .ok (.aload_n 0, 1) := dk_42 (dk_at dksX5_may_0 23 rfl rfl)
theorem dX5_may_24 : decode cX5_may 24 = .ok (.invokevirtual 164, 3) := dk_182 0 164 (dk_at dksX5_may_1 0 rfl rfl)
theorem dX5_may_27 : decode cX5_may 27 = .ok (.ireturn, 1) := dk_172 (dk_at dksX5_may_1 3 rfl rfl)
theorem dX5_may_28 : decode cX5_may 28 = .ok (.iload_n 1, 1) := dk_27 (dk_at dksX5_may_1 4 rfl rfl)
theorem dX5_may_29 : decode cX5_may 29 = .ok (.iconst 1, 1) := dk_4 (dk_at dksX5_may_1 5 rfl rfl)
theorem dX5_may_30 : decode cX5_may 30 = .ok (.if_icmp .ne 8, 3) := dk_160 0 8 (dk_at dksX5_may_1 6 rfl rfl)
theorem dX5_may_33 : decode cX5_may 33 = .ok (.aload_n 0, 1) := dk_42 (dk_at dksX5_may_1 9 rfl rfl)
theorem dX5_may_34 : decode cX5_may 34 = .ok (.invokevirtual 158, 3) := dk_182 0 158 (dk_at dksX5_may_1 10 rfl rfl)
theorem dX5_may_37 : decode cX5_may 37 = .ok (.ireturn, 1) := dk_172 (dk_at dksX5_may_1 13 rfl rfl)
theorem dX5_may_38 : decode cX5_may 38 = .ok (.iload_n 1, 1) := dk_27 (dk_at dksX5_may_1 14 rfl rfl)
theorem dX5_may_39 : decode cX5_may 39 = .ok (.iconst 3, 1) := dk_6 (dk_at dksX5_may_1 15 rfl rfl)
theorem dX5_may_40 : decode cX5_may 40 = .ok (.if_icmp .ne 16, 3) := dk_160 0 16 (dk_at dksX5_may_1 16 rfl rfl)
theorem dX5_may_43 : decode cX5_may 43 = .ok (.aload_n 0, 1) := dk_42 (dk_at dksX5_may_1 19 rfl rfl)
theorem dX5_may_44 : decode cX5_may 44 = .ok (.invokevirtual 167, 3) := dk_182 0 167 (dk_at dksX5_may_1 20 rfl rfl)
theorem dX5_may_47 : decode cX5_may 47 = .ok (.ifCond .eq 7, 3) := dk_153 0 7 (dk_at dksX5_may_2 0 rfl rfl)
theorem dX5_may_50 : decode cX5_may 50 = .ok (.iconst 1, 1) := dk_4 (dk_at dksX5_may_2 3 rfl rfl)
theorem dX5_may_51 : decode cX5_may 51 = .ok (.goto 4, 3) := dk_167 0 4 (dk_at dksX5_may_2 4 rfl rfl)
theorem dX5_may_54 : decode cX5_may 54 = .ok (.iconst 0, 1) := dk_3 (dk_at dksX5_may_2 7 rfl rfl)
theorem dX5_may_55 : decode cX5_may 55 = .ok (.ireturn, 1) := dk_172 (dk_at dksX5_may_2 8 rfl rfl)
theorem dX5_may_56 : decode cX5_may 56 = .ok (.iconst 0, 1) := dk_3 (dk_at dksX5_may_2 9 rfl rfl)
theorem dX5_may_57 : decode cX5_may 57 = .ok (.istore_n 2, 1) := dk_61 (dk_at dksX5_may_2 10 rfl rfl)
theorem dX5_may_58 : decode cX5_may 58 = .ok (.iload_n 2, 1) := dk_28 (dk_at dksX5_may_2 11 rfl rfl)
theorem dX5_may_59 : decode cX5_may 59 = .ok (.sipush 720, 3) := dk_17 2 208 (dk_at dksX5_may_2 12 rfl rfl)
theorem dX5_may_62 : decode cX5_may 62 = .ok (.if_icmp .ge 17, 3) := dk_162 0 17 (dk_at dksX5_may_2 15 rfl rfl)
theorem dX5_may_65 : decode cX5_may 65 = .ok (.aload_n 0, 1) := dk_42 (dk_at dksX5_may_2 18 rfl rfl)
theorem dX5_may_66 : decode cX5_may 66 = .ok (.iload_n 2, 1) := dk_28 (dk_at dksX5_may_2 19 rfl rfl)
theorem dX5_may_67 : decode cX5_may 67 = .ok (.invokevirtual 155, 3) := dk_182 0 155 (dk_at dksX5_may_2 20 rfl rfl)
theorem dX5_may_70 : decode cX5_may 70 = .ok (.ifCond .ne 9, 3) := dk_154 0 9 (dk_at dksX5_may_3 0 rfl rfl)
theorem dX5_may_73 : decode cX5_may 73 = .ok (.iinc 2 1, 3) := dk_132 2 1 (dk_at dksX5_may_3 3 rfl rfl)
theorem dX5_may_76 : decode cX5_may 76 = .ok (.goto (-18), 3) := dk_167 255 238 (dk_at dksX5_may_3 6 rfl rfl)
theorem dX5_may_79 : decode cX5_may 79 = .ok (.iload_n 2, 1) := dk_28 (dk_at dksX5_may_3 9 rfl rfl)
theorem dX5_may_80 : decode cX5_may 80 = .ok (.sipush 720, 3) := dk_17 2 208 (dk_at dksX5_may_3 10 rfl rfl)
theorem dX5_may_83 : decode cX5_may 83 = .ok (.if_icmp .ge 7, 3) := dk_162 0 7 (dk_at dksX5_may_3 13 rfl rfl)
theorem dX5_may_86 : decode cX5_may 86 = .ok (.iload_n 2, 1) := dk_28 (dk_at dksX5_may_3 16 rfl rfl)
theorem dX5_may_87 : decode cX5_may 87 = .ok (.goto 5, 3) := dk_167 0 5 (dk_at dksX5_may_3 17 rfl rfl)
theorem dX5_may_90 : decode cX5_may 90 = .ok (.ldc 67, 2) := dk_18 67 (dk_at dksX5_may_3 20 rfl rfl)
theorem dX5_may_92 : decode cX5_may 92 = .ok (.ireturn, 1) := dk_172 (dk_at dksX5_may_3 22 rfl rfl)
abbrev cX5_manyFit : ByteArray := prog_18_method_41_code
def yX5_manyFit : MethodName := ⟨RX5, "manyFit", "()I"⟩
def dkwX5_manyFit_1 : List UInt8 := [3, 96, 60, 132, 2, 1, 167, 255, 230, 27, 172]
abbrev dktX5_manyFit_1 : List UInt8 := dkwX5_manyFit_1 ++ []
def dkwX5_manyFit_0 : List UInt8 := [3, 60, 3, 61, 28, 17, 2, 208, 162, 0, 25, 27, 42, 28, 182, 0, 155, 153, 0, 7, 4, 167, 0, 4]
abbrev dktX5_manyFit_0 : List UInt8 := dkwX5_manyFit_0 ++ dktX5_manyFit_1
theorem dksX5_manyFit_0 : cX5_manyFit.data.toList.drop 0 = dktX5_manyFit_0 := by decide +kernel
theorem dksX5_manyFit_1 : cX5_manyFit.data.toList.drop 24 = dktX5_manyFit_1 := dk_seg dksX5_manyFit_0 24 rfl rfl
theorem dX5_manyFit_0 : decode cX5_manyFit 0 = .ok (.iconst 0, 1) := dk_3 (dk_at dksX5_manyFit_0 0 rfl rfl)
theorem dX5_manyFit_1 : decode cX5_manyFit 1 = .ok (.istore_n 1, 1) := dk_60 (dk_at dksX5_manyFit_0 1 rfl rfl)
theorem dX5_manyFit_2 : decode cX5_manyFit 2 = .ok (.iconst 0, 1) := dk_3 (dk_at dksX5_manyFit_0 2 rfl rfl)
theorem dX5_manyFit_3 : decode cX5_manyFit 3 = .ok (.istore_n 2, 1) := dk_61 (dk_at dksX5_manyFit_0 3 rfl rfl)
theorem dX5_manyFit_4 : decode cX5_manyFit 4 = .ok (.iload_n 2, 1) := dk_28 (dk_at dksX5_manyFit_0 4 rfl rfl)
theorem dX5_manyFit_5 : decode cX5_manyFit 5 = .ok (.sipush 720, 3) := dk_17 2 208 (dk_at dksX5_manyFit_0 5 rfl rfl)
theorem dX5_manyFit_8 : decode cX5_manyFit 8 = .ok (.if_icmp .ge 25, 3) := dk_162 0 25 (dk_at dksX5_manyFit_0 8 rfl rfl)
theorem dX5_manyFit_11 : decode cX5_manyFit 11 = .ok (.iload_n 1, 1) := dk_27 (dk_at dksX5_manyFit_0 11 rfl rfl)
theorem dX5_manyFit_12 : decode cX5_manyFit 12 = .ok (.aload_n 0, 1) := dk_42 (dk_at dksX5_manyFit_0 12 rfl rfl)
theorem dX5_manyFit_13 : decode cX5_manyFit 13 = .ok (.iload_n 2, 1) := dk_28 (dk_at dksX5_manyFit_0 13 rfl rfl)
theorem dX5_manyFit_14 : decode cX5_manyFit 14 = .ok (.invokevirtual 155, 3) := dk_182 0 155 (dk_at dksX5_manyFit_0 14 rfl rfl)
theorem dX5_manyFit_17 : decode cX5_manyFit 17 = .ok (.ifCond .eq 7, 3) := dk_153 0 7 (dk_at dksX5_manyFit_0 17 rfl rfl)
theorem dX5_manyFit_20 : decode cX5_manyFit 20 = .ok (.iconst 1, 1) := dk_4 (dk_at dksX5_manyFit_0 20 rfl rfl)
theorem dX5_manyFit_21 : decode cX5_manyFit 21 = .ok (.goto 4, 3) := dk_167 0 4 (dk_at dksX5_manyFit_0 21 rfl rfl)
theorem dX5_manyFit_24 : decode cX5_manyFit 24 = .ok (.iconst 0, 1) := dk_3 (dk_at dksX5_manyFit_1 0 rfl rfl)
theorem dX5_manyFit_25 : decode cX5_manyFit 25 = .ok (.iadd, 1) := dk_96 (dk_at dksX5_manyFit_1 1 rfl rfl)
theorem dX5_manyFit_26 : decode cX5_manyFit 26 = .ok (.istore_n 1, 1) := dk_60 (dk_at dksX5_manyFit_1 2 rfl rfl)
theorem dX5_manyFit_27 : decode cX5_manyFit 27 = .ok (.iinc 2 1, 3) := dk_132 2 1 (dk_at dksX5_manyFit_1 3 rfl rfl)
theorem dX5_manyFit_30 : decode cX5_manyFit 30 = .ok (.goto (-26), 3) := dk_167 255 230 (dk_at dksX5_manyFit_1 6 rfl rfl)
theorem dX5_manyFit_33 : decode cX5_manyFit 33 = .ok (.iload_n 1, 1) := dk_27 (dk_at dksX5_manyFit_1 9 rfl rfl)
theorem dX5_manyFit_34 : decode cX5_manyFit 34 = .ok (.ireturn, 1) := dk_172 (dk_at dksX5_manyFit_1 10 rfl rfl)
abbrev cX5_hoursFit : ByteArray := prog_18_method_42_code
def yX5_hoursFit : MethodName := ⟨RX5, "hoursFit", "()I"⟩
def dkwX5_hoursFit_1 : List UInt8 := [108, 120, 167, 0, 4, 3, 128, 60, 132, 2, 1, 167, 255, 225, 27, 172]
abbrev dktX5_hoursFit_1 : List UInt8 := dkwX5_hoursFit_1 ++ []
def dkwX5_hoursFit_0 : List UInt8 := [3, 60, 3, 61, 28, 17, 2, 208, 162, 0, 30, 27, 42, 28, 182, 0, 155, 153, 0, 12, 4, 28, 16, 60]
abbrev dktX5_hoursFit_0 : List UInt8 := dkwX5_hoursFit_0 ++ dktX5_hoursFit_1
theorem dksX5_hoursFit_0 : cX5_hoursFit.data.toList.drop 0 = dktX5_hoursFit_0 := by decide +kernel
theorem dksX5_hoursFit_1 : cX5_hoursFit.data.toList.drop 24 = dktX5_hoursFit_1 := dk_seg dksX5_hoursFit_0 24 rfl rfl
theorem dX5_hoursFit_0 : decode cX5_hoursFit 0 = .ok (.iconst 0, 1) := dk_3 (dk_at dksX5_hoursFit_0 0 rfl rfl)
theorem dX5_hoursFit_1 : decode cX5_hoursFit 1 = .ok (.istore_n 1, 1) := dk_60 (dk_at dksX5_hoursFit_0 1 rfl rfl)
theorem dX5_hoursFit_2 : decode cX5_hoursFit 2 = .ok (.iconst 0, 1) := dk_3 (dk_at dksX5_hoursFit_0 2 rfl rfl)
theorem dX5_hoursFit_3 : decode cX5_hoursFit 3 = .ok (.istore_n 2, 1) := dk_61 (dk_at dksX5_hoursFit_0 3 rfl rfl)
theorem dX5_hoursFit_4 : decode cX5_hoursFit 4 = .ok (.iload_n 2, 1) := dk_28 (dk_at dksX5_hoursFit_0 4 rfl rfl)
theorem dX5_hoursFit_5 : decode cX5_hoursFit 5 = .ok (.sipush 720, 3) := dk_17 2 208 (dk_at dksX5_hoursFit_0 5 rfl rfl)
theorem dX5_hoursFit_8 : decode cX5_hoursFit 8 = .ok (.if_icmp .ge 30, 3) := dk_162 0 30 (dk_at dksX5_hoursFit_0 8 rfl rfl)
theorem dX5_hoursFit_11 : decode cX5_hoursFit 11 = .ok (.iload_n 1, 1) := dk_27 (dk_at dksX5_hoursFit_0 11 rfl rfl)
theorem dX5_hoursFit_12 : decode cX5_hoursFit 12 = .ok (.aload_n 0, 1) := dk_42 (dk_at dksX5_hoursFit_0 12 rfl rfl)
theorem dX5_hoursFit_13 : decode cX5_hoursFit 13 = .ok (.iload_n 2, 1) := dk_28 (dk_at dksX5_hoursFit_0 13 rfl rfl)
theorem dX5_hoursFit_14 : decode cX5_hoursFit 14 = .ok (.invokevirtual 155, 3) := dk_182 0 155 (dk_at dksX5_hoursFit_0 14 rfl rfl)
theorem dX5_hoursFit_17 : decode cX5_hoursFit 17 = .ok (.ifCond .eq 12, 3) := dk_153 0 12 (dk_at dksX5_hoursFit_0 17 rfl rfl)
theorem dX5_hoursFit_20 : decode cX5_hoursFit 20 = .ok (.iconst 1, 1) := dk_4 (dk_at dksX5_hoursFit_0 20 rfl rfl)
theorem dX5_hoursFit_21 : decode cX5_hoursFit 21 = .ok (.iload_n 2, 1) := dk_28 (dk_at dksX5_hoursFit_0 21 rfl rfl)
theorem dX5_hoursFit_22 : decode cX5_hoursFit 22 = .ok (.bipush 60, 2) := dk_16 60 (dk_at dksX5_hoursFit_0 22 rfl rfl)
theorem dX5_hoursFit_24 : decode cX5_hoursFit 24 = .ok (.idiv, 1) := dk_108 (dk_at dksX5_hoursFit_1 0 rfl rfl)
theorem dX5_hoursFit_25 : decode cX5_hoursFit 25 = .ok (.ishl, 1) := dk_120 (dk_at dksX5_hoursFit_1 1 rfl rfl)
theorem dX5_hoursFit_26 : decode cX5_hoursFit 26 = .ok (.goto 4, 3) := dk_167 0 4 (dk_at dksX5_hoursFit_1 2 rfl rfl)
theorem dX5_hoursFit_29 : decode cX5_hoursFit 29 = .ok (.iconst 0, 1) := dk_3 (dk_at dksX5_hoursFit_1 5 rfl rfl)
theorem dX5_hoursFit_30 : decode cX5_hoursFit 30 = .ok (.ior, 1) := dk_128 (dk_at dksX5_hoursFit_1 6 rfl rfl)
theorem dX5_hoursFit_31 : decode cX5_hoursFit 31 = .ok (.istore_n 1, 1) := dk_60 (dk_at dksX5_hoursFit_1 7 rfl rfl)
theorem dX5_hoursFit_32 : decode cX5_hoursFit 32 = .ok (.iinc 2 1, 3) := dk_132 2 1 (dk_at dksX5_hoursFit_1 8 rfl rfl)
theorem dX5_hoursFit_35 : decode cX5_hoursFit 35 = .ok (.goto (-31), 3) := dk_167 255 225 (dk_at dksX5_hoursFit_1 11 rfl rfl)
theorem dX5_hoursFit_38 : decode cX5_hoursFit 38 = .ok (.iload_n 1, 1) := dk_27 (dk_at dksX5_hoursFit_1 14 rfl rfl)
theorem dX5_hoursFit_39 : decode cX5_hoursFit 39 = .ok (.ireturn, 1) := dk_172 (dk_at dksX5_hoursFit_1 15 rfl rfl)
abbrev cX5_isSure : ByteArray := prog_18_method_43_code
def yX5_isSure : MethodName := ⟨RX5, "isSure", "()Z"⟩
def dkwX5_isSure_0 : List UInt8 := [42, 182, 0, 158, 60, 27, 153, 0, 15, 27, 27, 4, 100, 126, 154, 0, 7, 4, 167, 0, 4, 3, 172]
abbrev dktX5_isSure_0 : List UInt8 := dkwX5_isSure_0 ++ []
theorem dksX5_isSure_0 : cX5_isSure.data.toList.drop 0 = dktX5_isSure_0 := by decide +kernel
theorem dX5_isSure_0 : decode cX5_isSure 0 = .ok (.aload_n 0, 1) := dk_42 (dk_at dksX5_isSure_0 0 rfl rfl)
theorem dX5_isSure_1 : decode cX5_isSure 1 = .ok (.invokevirtual 158, 3) := dk_182 0 158 (dk_at dksX5_isSure_0 1 rfl rfl)
theorem dX5_isSure_4 : decode cX5_isSure 4 = .ok (.istore_n 1, 1) := dk_60 (dk_at dksX5_isSure_0 4 rfl rfl)
theorem dX5_isSure_5 : decode cX5_isSure 5 = .ok (.iload_n 1, 1) := dk_27 (dk_at dksX5_isSure_0 5 rfl rfl)
theorem dX5_isSure_6 : decode cX5_isSure 6 = .ok (.ifCond .eq 15, 3) := dk_153 0 15 (dk_at dksX5_isSure_0 6 rfl rfl)
theorem dX5_isSure_9 : decode cX5_isSure 9 = .ok (.iload_n 1, 1) := dk_27 (dk_at dksX5_isSure_0 9 rfl rfl)
theorem dX5_isSure_10 : decode cX5_isSure 10 = .ok (.iload_n 1, 1) := dk_27 (dk_at dksX5_isSure_0 10 rfl rfl)
theorem dX5_isSure_11 : decode cX5_isSure 11 = .ok (.iconst 1, 1) := dk_4 (dk_at dksX5_isSure_0 11 rfl rfl)
theorem dX5_isSure_12 : decode cX5_isSure 12 = .ok (.isub, 1) := dk_100 (dk_at dksX5_isSure_0 12 rfl rfl)
theorem dX5_isSure_13 : decode cX5_isSure 13 = .ok (.iand, 1) := dk_126 (dk_at dksX5_isSure_0 13 rfl rfl)
theorem dX5_isSure_14 : decode cX5_isSure 14 = .ok (.ifCond .ne 7, 3) := dk_154 0 7 (dk_at dksX5_isSure_0 14 rfl rfl)
theorem dX5_isSure_17 : decode cX5_isSure 17 = .ok (.iconst 1, 1) := dk_4 (dk_at dksX5_isSure_0 17 rfl rfl)
theorem dX5_isSure_18 : decode cX5_isSure 18 = .ok (.goto 4, 3) := dk_167 0 4 (dk_at dksX5_isSure_0 18 rfl rfl)
theorem dX5_isSure_21 : decode cX5_isSure 21 = .ok (.iconst 0, 1) := dk_3 (dk_at dksX5_isSure_0 21 rfl rfl)
theorem dX5_isSure_22 : decode cX5_isSure 22 = .ok (.ireturn, 1) := dk_172 (dk_at dksX5_isSure_0 22 rfl rfl)
abbrev cX5_next : ByteArray := prog_18_method_46_code
def yX5_next : MethodName := ⟨RX5, "next", "()I"⟩
def dkwX5_next_1 : List UInt8 := [154, 0, 9, 132, 1, 1, 167, 255, 228, 27, 16, 60, 163, 0, 7, 27, 167, 0, 5, 18, 67, 172]
abbrev dktX5_next_1 : List UInt8 := dkwX5_next_1 ++ []
def dkwX5_next_0 : List UInt8 := [4, 60, 27, 16, 60, 163, 0, 28, 42, 42, 182, 0, 111, 27, 96, 4, 100, 17, 2, 208, 112, 182, 0, 134]
abbrev dktX5_next_0 : List UInt8 := dkwX5_next_0 ++ dktX5_next_1
theorem dksX5_next_0 : cX5_next.data.toList.drop 0 = dktX5_next_0 := by decide +kernel
theorem dksX5_next_1 : cX5_next.data.toList.drop 24 = dktX5_next_1 := dk_seg dksX5_next_0 24 rfl rfl
theorem dX5_next_0 : decode cX5_next 0 = .ok (.iconst 1, 1) := dk_4 (dk_at dksX5_next_0 0 rfl rfl)
theorem dX5_next_1 : decode cX5_next 1 = .ok (.istore_n 1, 1) := dk_60 (dk_at dksX5_next_0 1 rfl rfl)
theorem dX5_next_2 : decode cX5_next 2 = .ok (.iload_n 1, 1) := dk_27 (dk_at dksX5_next_0 2 rfl rfl)
theorem dX5_next_3 : decode cX5_next 3 = .ok (.bipush 60, 2) := dk_16 60 (dk_at dksX5_next_0 3 rfl rfl)
theorem dX5_next_5 : decode cX5_next 5 = .ok (.if_icmp .gt 28, 3) := dk_163 0 28 (dk_at dksX5_next_0 5 rfl rfl)
theorem dX5_next_8 : decode cX5_next 8 = .ok (.aload_n 0, 1) := dk_42 (dk_at dksX5_next_0 8 rfl rfl)
theorem dX5_next_9 : decode cX5_next 9 = .ok (.aload_n 0, 1) := dk_42 (dk_at dksX5_next_0 9 rfl rfl)
theorem dX5_next_10 : decode cX5_next 10 = .ok (.invokevirtual 111, 3) := dk_182 0 111 (dk_at dksX5_next_0 10 rfl rfl)
theorem dX5_next_13 : decode cX5_next 13 = .ok (.iload_n 1, 1) := dk_27 (dk_at dksX5_next_0 13 rfl rfl)
theorem dX5_next_14 : decode cX5_next 14 = .ok (.iadd, 1) := dk_96 (dk_at dksX5_next_0 14 rfl rfl)
theorem dX5_next_15 : decode cX5_next 15 = .ok (.iconst 1, 1) := dk_4 (dk_at dksX5_next_0 15 rfl rfl)
theorem dX5_next_16 : decode cX5_next 16 = .ok (.isub, 1) := dk_100 (dk_at dksX5_next_0 16 rfl rfl)
theorem dX5_next_17 : decode cX5_next 17 = .ok (.sipush 720, 3) := dk_17 2 208 (dk_at dksX5_next_0 17 rfl rfl)
theorem dX5_next_20 : decode cX5_next 20 = .ok (.irem, 1) := dk_112 (dk_at dksX5_next_0 20 rfl rfl)
theorem dX5_next_21 : decode cX5_next 21 = .ok (.invokevirtual 134, 3) := dk_182 0 134 (dk_at dksX5_next_0 21 rfl rfl)
theorem dX5_next_24 : decode cX5_next 24 = .ok (.ifCond .ne 9, 3) := dk_154 0 9 (dk_at dksX5_next_1 0 rfl rfl)
theorem dX5_next_27 : decode cX5_next 27 = .ok (.iinc 1 1, 3) := dk_132 1 1 (dk_at dksX5_next_1 3 rfl rfl)
theorem dX5_next_30 : decode cX5_next 30 = .ok (.goto (-28), 3) := dk_167 255 228 (dk_at dksX5_next_1 6 rfl rfl)
theorem dX5_next_33 : decode cX5_next 33 = .ok (.iload_n 1, 1) := dk_27 (dk_at dksX5_next_1 9 rfl rfl)
theorem dX5_next_34 : decode cX5_next 34 = .ok (.bipush 60, 2) := dk_16 60 (dk_at dksX5_next_1 10 rfl rfl)
theorem dX5_next_36 : decode cX5_next 36 = .ok (.if_icmp .gt 7, 3) := dk_163 0 7 (dk_at dksX5_next_1 12 rfl rfl)
theorem dX5_next_39 : decode cX5_next 39 = .ok (.iload_n 1, 1) := dk_27 (dk_at dksX5_next_1 15 rfl rfl)
theorem dX5_next_40 : decode cX5_next 40 = .ok (.goto 5, 3) := dk_167 0 5 (dk_at dksX5_next_1 16 rfl rfl)
theorem dX5_next_43 : decode cX5_next 43 = .ok (.ldc 67, 2) := dk_18 67 (dk_at dksX5_next_1 19 rfl rfl)
theorem dX5_next_45 : decode cX5_next 45 = .ok (.ireturn, 1) := dk_172 (dk_at dksX5_next_1 21 rfl rfl)
abbrev cX5_parts : ByteArray := prog_18_method_47_code
def yX5_parts : MethodName := ⟨RX5, "parts", "(II)I"⟩
def dkwX5_parts_4 : List UInt8 := [3, 96, 62, 132, 4, 1, 167, 255, 176, 29, 172]
abbrev dktX5_parts_4 : List UInt8 := dkwX5_parts_4 ++ []
def dkwX5_parts_3 : List UInt8 := [167, 0, 4, 3, 96, 54, 5, 132, 6, 1, 167, 255, 215, 29, 21, 5, 28, 160, 0, 7, 4, 167, 0, 4]
abbrev dktX5_parts_3 : List UInt8 := dkwX5_parts_3 ++ dktX5_parts_4
def dkwX5_parts_2 : List UInt8 := [162, 0, 36, 21, 5, 21, 4, 21, 6, 122, 4, 126, 4, 160, 0, 13, 42, 21, 6, 27, 182, 0, 115]
abbrev dktX5_parts_2 : List UInt8 := dkwX5_parts_2 ++ dktX5_parts_3
def dkwX5_parts_1 : List UInt8 := [180, 0, 7, 3, 46, 120, 162, 0, 73, 3, 54, 5, 3, 54, 6, 21, 6, 42, 180, 0, 7, 3, 46]
abbrev dktX5_parts_1 : List UInt8 := dkwX5_parts_1 ++ dktX5_parts_2
def dkwX5_parts_0 : List UInt8 := [27, 184, 0, 131, 153, 0, 7, 28, 156, 0, 6, 18, 83, 172, 3, 62, 3, 54, 4, 21, 4, 4, 42]
abbrev dktX5_parts_0 : List UInt8 := dkwX5_parts_0 ++ dktX5_parts_1
theorem dksX5_parts_0 : cX5_parts.data.toList.drop 0 = dktX5_parts_0 := by decide +kernel
theorem dksX5_parts_1 : cX5_parts.data.toList.drop 23 = dktX5_parts_1 := dk_seg dksX5_parts_0 23 rfl rfl
theorem dksX5_parts_2 : cX5_parts.data.toList.drop 46 = dktX5_parts_2 := dk_seg dksX5_parts_1 23 rfl rfl
theorem dksX5_parts_3 : cX5_parts.data.toList.drop 69 = dktX5_parts_3 := dk_seg dksX5_parts_2 23 rfl rfl
theorem dksX5_parts_4 : cX5_parts.data.toList.drop 93 = dktX5_parts_4 := dk_seg dksX5_parts_3 24 rfl rfl
theorem dX5_parts_0 : decode cX5_parts 0 = .ok (.iload_n 1, 1) := dk_27 (dk_at dksX5_parts_0 0 rfl rfl)
theorem dX5_parts_1 : decode cX5_parts 1 = .ok (.invokestatic 131, 3) := dk_184 0 131 (dk_at dksX5_parts_0 1 rfl rfl)
theorem dX5_parts_4 : decode cX5_parts 4 = .ok (.ifCond .eq 7, 3) := dk_153 0 7 (dk_at dksX5_parts_0 4 rfl rfl)
theorem dX5_parts_7 : decode cX5_parts 7 = .ok (.iload_n 2, 1) := dk_28 (dk_at dksX5_parts_0 7 rfl rfl)
theorem dX5_parts_8 : decode cX5_parts 8 = .ok (.ifCond .ge 6, 3) := dk_156 0 6 (dk_at dksX5_parts_0 8 rfl rfl)
theorem dX5_parts_11 : decode cX5_parts 11 = .ok (.ldc 83, 2) := dk_18 83 (dk_at dksX5_parts_0 11 rfl rfl)
theorem dX5_parts_13 : decode cX5_parts 13 = .ok (.ireturn, 1) := dk_172 (dk_at dksX5_parts_0 13 rfl rfl)
theorem dX5_parts_14 : decode cX5_parts 14 = .ok (.iconst 0, 1) := dk_3 (dk_at dksX5_parts_0 14 rfl rfl)
theorem dX5_parts_15 : decode cX5_parts 15 = .ok (.istore_n 3, 1) := dk_62 (dk_at dksX5_parts_0 15 rfl rfl)
theorem dX5_parts_16 : decode cX5_parts 16 = .ok (.iconst 0, 1) := dk_3 (dk_at dksX5_parts_0 16 rfl rfl)
theorem dX5_parts_17 : decode cX5_parts 17 = .ok (.istore 4, 2) := dk_54 4 (dk_at dksX5_parts_0 17 rfl rfl)
theorem dX5_parts_19 : decode cX5_parts 19 = .ok (.iload 4, 2) := dk_21 4 (dk_at dksX5_parts_0 19 rfl rfl)
theorem dX5_parts_21 : decode cX5_parts 21 = .ok (.iconst 1, 1) := dk_4 (dk_at dksX5_parts_0 21 rfl rfl)
theorem dX5_parts_22 : decode cX5_parts 22 = .ok (.aload_n 0, 1) := dk_42 (dk_at dksX5_parts_0 22 rfl rfl)
theorem dX5_parts_23 : decode cX5_parts 23 = .ok (.getfield 7, 3) := dk_180 0 7 (dk_at dksX5_parts_1 0 rfl rfl)
theorem dX5_parts_26 : decode cX5_parts 26 = .ok (.iconst 0, 1) := dk_3 (dk_at dksX5_parts_1 3 rfl rfl)
theorem dX5_parts_27 : decode cX5_parts 27 = .ok (.iaload, 1) := dk_46 (dk_at dksX5_parts_1 4 rfl rfl)
theorem dX5_parts_28 : decode cX5_parts 28 = .ok (.ishl, 1) := dk_120 (dk_at dksX5_parts_1 5 rfl rfl)
theorem dX5_parts_29 : decode cX5_parts 29 = .ok (.if_icmp .ge 73, 3) := dk_162 0 73 (dk_at dksX5_parts_1 6 rfl rfl)
theorem dX5_parts_32 : decode cX5_parts 32 = .ok (.iconst 0, 1) := dk_3 (dk_at dksX5_parts_1 9 rfl rfl)
theorem dX5_parts_33 : decode cX5_parts 33 = .ok (.istore 5, 2) := dk_54 5 (dk_at dksX5_parts_1 10 rfl rfl)
theorem dX5_parts_35 : decode cX5_parts 35 = .ok (.iconst 0, 1) := dk_3 (dk_at dksX5_parts_1 12 rfl rfl)
theorem dX5_parts_36 : decode cX5_parts 36 = .ok (.istore 6, 2) := dk_54 6 (dk_at dksX5_parts_1 13 rfl rfl)
theorem dX5_parts_38 : decode cX5_parts 38 = .ok (.iload 6, 2) := dk_21 6 (dk_at dksX5_parts_1 15 rfl rfl)
theorem dX5_parts_40 : decode cX5_parts 40 = .ok (.aload_n 0, 1) := dk_42 (dk_at dksX5_parts_1 17 rfl rfl)
theorem dX5_parts_41 : decode cX5_parts 41 = .ok (.getfield 7, 3) := dk_180 0 7 (dk_at dksX5_parts_1 18 rfl rfl)
theorem dX5_parts_44 : decode cX5_parts 44 = .ok (.iconst 0, 1) := dk_3 (dk_at dksX5_parts_1 21 rfl rfl)
theorem dX5_parts_45 : decode cX5_parts 45 = .ok (.iaload, 1) := dk_46 (dk_at dksX5_parts_1 22 rfl rfl)
theorem dX5_parts_46 : decode cX5_parts 46 = .ok (.if_icmp .ge 36, 3) := dk_162 0 36 (dk_at dksX5_parts_2 0 rfl rfl)
theorem dX5_parts_49 : decode cX5_parts 49 = .ok (.iload 5, 2) := dk_21 5 (dk_at dksX5_parts_2 3 rfl rfl)
theorem dX5_parts_51 : decode cX5_parts 51 = .ok (.iload 4, 2) := dk_21 4 (dk_at dksX5_parts_2 5 rfl rfl)
theorem dX5_parts_53 : decode cX5_parts 53 = .ok (.iload 6, 2) := dk_21 6 (dk_at dksX5_parts_2 7 rfl rfl)
theorem dX5_parts_55 : decode cX5_parts 55 = .ok (.ishr, 1) := dk_122 (dk_at dksX5_parts_2 9 rfl rfl)
theorem dX5_parts_56 : decode cX5_parts 56 = .ok (.iconst 1, 1) := dk_4 (dk_at dksX5_parts_2 10 rfl rfl)
theorem dX5_parts_57 : decode cX5_parts 57 = .ok (.iand, 1) := dk_126 (dk_at dksX5_parts_2 11 rfl rfl)
theorem dX5_parts_58 : decode cX5_parts 58 = .ok (.iconst 1, 1) := dk_4 (dk_at dksX5_parts_2 12 rfl rfl)
theorem dX5_parts_59 : decode cX5_parts 59 = .ok (.if_icmp .ne 13, 3) := dk_160 0 13 (dk_at dksX5_parts_2 13 rfl rfl)
theorem dX5_parts_62 : decode cX5_parts 62 = .ok (.aload_n 0, 1) := dk_42 (dk_at dksX5_parts_2 16 rfl rfl)
theorem dX5_parts_63 : decode cX5_parts 63 = .ok (.iload 6, 2) := dk_21 6 (dk_at dksX5_parts_2 17 rfl rfl)
theorem dX5_parts_65 : decode cX5_parts 65 = .ok (.iload_n 1, 1) := dk_27 (dk_at dksX5_parts_2 19 rfl rfl)
theorem dX5_parts_66 : decode cX5_parts 66 = .ok (.invokevirtual 115, 3) := dk_182 0 115 (dk_at dksX5_parts_2 20 rfl rfl)
theorem dX5_parts_69 : decode cX5_parts 69 = .ok (.goto 4, 3) := dk_167 0 4 (dk_at dksX5_parts_3 0 rfl rfl)
theorem dX5_parts_72 : decode cX5_parts 72 = .ok (.iconst 0, 1) := dk_3 (dk_at dksX5_parts_3 3 rfl rfl)
theorem dX5_parts_73 : decode cX5_parts 73 = .ok (.iadd, 1) := dk_96 (dk_at dksX5_parts_3 4 rfl rfl)
theorem dX5_parts_74 : decode cX5_parts 74 = .ok (.istore 5, 2) := dk_54 5 (dk_at dksX5_parts_3 5 rfl rfl)
theorem dX5_parts_76 : decode cX5_parts 76 = .ok (.iinc 6 1, 3) := dk_132 6 1 (dk_at dksX5_parts_3 7 rfl rfl)
theorem dX5_parts_79 : decode cX5_parts 79 = .ok (.goto (-41), 3) := dk_167 255 215 (dk_at dksX5_parts_3 10 rfl rfl)
theorem dX5_parts_82 : decode cX5_parts 82 = .ok (.iload_n 3, 1) := dk_29 (dk_at dksX5_parts_3 13 rfl rfl)
theorem dX5_parts_83 : decode cX5_parts 83 = .ok (.iload 5, 2) := dk_21 5 (dk_at dksX5_parts_3 14 rfl rfl)
theorem dX5_parts_85 : decode cX5_parts 85 = .ok (.iload_n 2, 1) := dk_28 (dk_at dksX5_parts_3 16 rfl rfl)
theorem dX5_parts_86 : decode cX5_parts 86 = .ok (.if_icmp .ne 7, 3) := dk_160 0 7 (dk_at dksX5_parts_3 17 rfl rfl)
theorem dX5_parts_89 : decode cX5_parts 89 = .ok (.iconst 1, 1) := dk_4 (dk_at dksX5_parts_3 20 rfl rfl)
theorem dX5_parts_90 : decode cX5_parts 90 = .ok (.goto 4, 3) := dk_167 0 4 (dk_at dksX5_parts_3 21 rfl rfl)
theorem dX5_parts_93 : decode cX5_parts 93 = .ok (.iconst 0, 1) := dk_3 (dk_at dksX5_parts_4 0 rfl rfl)
theorem dX5_parts_94 : decode cX5_parts 94 = .ok (.iadd, 1) := dk_96 (dk_at dksX5_parts_4 1 rfl rfl)
theorem dX5_parts_95 : decode cX5_parts 95 = .ok (.istore_n 3, 1) := dk_62 (dk_at dksX5_parts_4 2 rfl rfl)
theorem dX5_parts_96 : decode cX5_parts 96 = .ok (.iinc 4 1, 3) := dk_132 4 1 (dk_at dksX5_parts_4 3 rfl rfl)
theorem dX5_parts_99 : decode cX5_parts 99 = .ok (.goto (-80), 3) := dk_167 255 176 (dk_at dksX5_parts_4 6 rfl rfl)
theorem dX5_parts_102 : decode cX5_parts 102 = .ok (.iload_n 3, 1) := dk_29 (dk_at dksX5_parts_4 9 rfl rfl)
theorem dX5_parts_103 : decode cX5_parts 103 = .ok (.ireturn, 1) := dk_172 (dk_at dksX5_parts_4 10 rfl rfl)
abbrev cX5_astray : ByteArray := prog_18_method_48_code
def yX5_astray : MethodName := ⟨RX5, "astray", "(I)I"⟩
def dkwX5_astray_4 : List UInt8 := [167, 0, 12, 27, 154, 0, 7, 28, 167, 0, 4, 29, 172]
abbrev dktX5_astray_4 : List UInt8 := dkwX5_astray_4 ++ []
def dkwX5_astray_3 : List UInt8 := [164, 0, 8, 21, 5, 167, 0, 4, 29, 62, 132, 4, 1, 167, 255, 196, 28, 156, 0, 8, 18, 67]
abbrev dktX5_astray_3 : List UInt8 := dkwX5_astray_3 ++ dktX5_astray_4
def dkwX5_astray_2 : List UInt8 := [42, 21, 4, 4, 182, 0, 171, 21, 5, 29, 164, 0, 8, 21, 4, 167, 0, 4, 28, 61, 21, 5, 29]
abbrev dktX5_astray_2 : List UInt8 := dkwX5_astray_2 ++ dktX5_astray_3
def dkwX5_astray_1 : List UInt8 := [21, 4, 42, 180, 0, 7, 3, 46, 162, 0, 55, 42, 21, 4, 2, 182, 0, 171, 42, 182, 0, 164, 54, 5]
abbrev dktX5_astray_1 : List UInt8 := dkwX5_astray_1 ++ dktX5_astray_2
def dkwX5_astray_0 : List UInt8 := [27, 133, 9, 10, 184, 0, 68, 154, 0, 6, 18, 83, 172, 42, 182, 0, 161, 2, 61, 2, 62, 3, 54, 4]
abbrev dktX5_astray_0 : List UInt8 := dkwX5_astray_0 ++ dktX5_astray_1
theorem dksX5_astray_0 : cX5_astray.data.toList.drop 0 = dktX5_astray_0 := by decide +kernel
theorem dksX5_astray_1 : cX5_astray.data.toList.drop 24 = dktX5_astray_1 := dk_seg dksX5_astray_0 24 rfl rfl
theorem dksX5_astray_2 : cX5_astray.data.toList.drop 48 = dktX5_astray_2 := dk_seg dksX5_astray_1 24 rfl rfl
theorem dksX5_astray_3 : cX5_astray.data.toList.drop 71 = dktX5_astray_3 := dk_seg dksX5_astray_2 23 rfl rfl
theorem dksX5_astray_4 : cX5_astray.data.toList.drop 93 = dktX5_astray_4 := dk_seg dksX5_astray_3 22 rfl rfl
theorem dX5_astray_0 : decode cX5_astray 0 = .ok (.iload_n 1, 1) := dk_27 (dk_at dksX5_astray_0 0 rfl rfl)
theorem dX5_astray_1 : decode cX5_astray 1 = .ok (.i2l, 1) := dk_133 (dk_at dksX5_astray_0 1 rfl rfl)
theorem dX5_astray_2 : decode cX5_astray 2 = .ok (.lconst 0, 1) := dk_9 (dk_at dksX5_astray_0 2 rfl rfl)
theorem dX5_astray_3 : decode cX5_astray 3 = .ok (.lconst 1, 1) := dk_10 (dk_at dksX5_astray_0 3 rfl rfl)
theorem dX5_astray_4 : decode cX5_astray 4 = .ok (.invokestatic 68, 3) := dk_184 0 68 (dk_at dksX5_astray_0 4 rfl rfl)
theorem dX5_astray_7 : decode cX5_astray 7 = .ok (.ifCond .ne 6, 3) := dk_154 0 6 (dk_at dksX5_astray_0 7 rfl rfl)
theorem dX5_astray_10 : decode cX5_astray 10 = .ok (.ldc 83, 2) := dk_18 83 (dk_at dksX5_astray_0 10 rfl rfl)
theorem dX5_astray_12 : decode cX5_astray 12 = .ok (.ireturn, 1) := dk_172 (dk_at dksX5_astray_0 12 rfl rfl)
theorem dX5_astray_13 : decode cX5_astray 13 = .ok (.aload_n 0, 1) := dk_42 (dk_at dksX5_astray_0 13 rfl rfl)
theorem dX5_astray_14 : decode cX5_astray 14 = .ok (.invokevirtual 161, 3) := dk_182 0 161 (dk_at dksX5_astray_0 14 rfl rfl)
theorem dX5_astray_17 : decode cX5_astray 17 = .ok (.iconst (-1), 1) := dk_2 (dk_at dksX5_astray_0 17 rfl rfl)
theorem dX5_astray_18 : decode cX5_astray 18 = .ok (.istore_n 2, 1) := dk_61 (dk_at dksX5_astray_0 18 rfl rfl)
theorem dX5_astray_19 : decode cX5_astray 19 = .ok (.iconst (-1), 1) := dk_2 (dk_at dksX5_astray_0 19 rfl rfl)
theorem dX5_astray_20 : decode cX5_astray 20 = .ok (.istore_n 3, 1) := dk_62 (dk_at dksX5_astray_0 20 rfl rfl)
theorem dX5_astray_21 : decode cX5_astray 21 = .ok (.iconst 0, 1) := dk_3 (dk_at dksX5_astray_0 21 rfl rfl)
theorem dX5_astray_22 : decode cX5_astray 22 = .ok (.istore 4, 2) := dk_54 4 (dk_at dksX5_astray_0 22 rfl rfl)
theorem dX5_astray_24 : decode cX5_astray 24 = .ok (.iload 4, 2) := dk_21 4 (dk_at dksX5_astray_1 0 rfl rfl)
theorem dX5_astray_26 : decode cX5_astray 26 = .ok (.aload_n 0, 1) := dk_42 (dk_at dksX5_astray_1 2 rfl rfl)
theorem dX5_astray_27 : decode cX5_astray 27 = .ok (.getfield 7, 3) := dk_180 0 7 (dk_at dksX5_astray_1 3 rfl rfl)
theorem dX5_astray_30 : decode cX5_astray 30 = .ok (.iconst 0, 1) := dk_3 (dk_at dksX5_astray_1 6 rfl rfl)
theorem dX5_astray_31 : decode cX5_astray 31 = .ok (.iaload, 1) := dk_46 (dk_at dksX5_astray_1 7 rfl rfl)
theorem dX5_astray_32 : decode cX5_astray 32 = .ok (.if_icmp .ge 55, 3) := dk_162 0 55 (dk_at dksX5_astray_1 8 rfl rfl)
theorem dX5_astray_35 : decode cX5_astray 35 = .ok (.aload_n 0, 1) := dk_42 (dk_at dksX5_astray_1 11 rfl rfl)
theorem dX5_astray_36 : decode cX5_astray 36 = .ok (.iload 4, 2) := dk_21 4 (dk_at dksX5_astray_1 12 rfl rfl)
theorem dX5_astray_38 : decode cX5_astray 38 = .ok (.iconst (-1), 1) := dk_2 (dk_at dksX5_astray_1 14 rfl rfl)
theorem dX5_astray_39 : decode cX5_astray 39 = .ok (.invokevirtual 171, 3) := dk_182 0 171 (dk_at dksX5_astray_1 15 rfl rfl)
theorem dX5_astray_42 : decode cX5_astray 42 = .ok (.aload_n 0, 1) := dk_42 (dk_at dksX5_astray_1 18 rfl rfl)
theorem dX5_astray_43 : decode cX5_astray 43 = .ok (.invokevirtual 164, 3) := dk_182 0 164 (dk_at dksX5_astray_1 19 rfl rfl)
theorem dX5_astray_46 : decode cX5_astray 46 = .ok (.istore 5, 2) := dk_54 5 (dk_at dksX5_astray_1 22 rfl rfl)
theorem dX5_astray_48 : decode cX5_astray 48 = .ok (.aload_n 0, 1) := dk_42 (dk_at dksX5_astray_2 0 rfl rfl)
theorem dX5_astray_49 : decode cX5_astray 49 = .ok (.iload 4, 2) := dk_21 4 (dk_at dksX5_astray_2 1 rfl rfl)
theorem dX5_astray_51 : decode cX5_astray 51 = .ok (.iconst 1, 1) := dk_4 (dk_at dksX5_astray_2 3 rfl rfl)
theorem dX5_astray_52 : decode cX5_astray 52 = .ok (.invokevirtual 171, 3) := dk_182 0 171 (dk_at dksX5_astray_2 4 rfl rfl)
theorem dX5_astray_55 : decode cX5_astray 55 = .ok (.iload 5, 2) := dk_21 5 (dk_at dksX5_astray_2 7 rfl rfl)
theorem dX5_astray_57 : decode cX5_astray 57 = .ok (.iload_n 3, 1) := dk_29 (dk_at dksX5_astray_2 9 rfl rfl)
theorem dX5_astray_58 : decode cX5_astray 58 = .ok (.if_icmp .le 8, 3) := dk_164 0 8 (dk_at dksX5_astray_2 10 rfl rfl)
theorem dX5_astray_61 : decode cX5_astray 61 = .ok (.iload 4, 2) := dk_21 4 (dk_at dksX5_astray_2 13 rfl rfl)
theorem dX5_astray_63 : decode cX5_astray 63 = .ok (.goto 4, 3) := dk_167 0 4 (dk_at dksX5_astray_2 15 rfl rfl)
theorem dX5_astray_66 : decode cX5_astray 66 = .ok (.iload_n 2, 1) := dk_28 (dk_at dksX5_astray_2 18 rfl rfl)
theorem dX5_astray_67 : decode cX5_astray 67 = .ok (.istore_n 2, 1) := dk_61 (dk_at dksX5_astray_2 19 rfl rfl)
theorem dX5_astray_68 : decode cX5_astray 68 = .ok (.iload 5, 2) := dk_21 5 (dk_at dksX5_astray_2 20 rfl rfl)
theorem dX5_astray_70 : decode cX5_astray 70 = .ok (.iload_n 3, 1) := dk_29 (dk_at dksX5_astray_2 22 rfl rfl)
theorem dX5_astray_71 : decode cX5_astray 71 = .ok (.if_icmp .le 8, 3) := dk_164 0 8 (dk_at dksX5_astray_3 0 rfl rfl)
theorem dX5_astray_74 : decode cX5_astray 74 = .ok (.iload 5, 2) := dk_21 5 (dk_at dksX5_astray_3 3 rfl rfl)
theorem dX5_astray_76 : decode cX5_astray 76 = .ok (.goto 4, 3) := dk_167 0 4 (dk_at dksX5_astray_3 5 rfl rfl)
theorem dX5_astray_79 : decode cX5_astray 79 = .ok (.iload_n 3, 1) := dk_29 (dk_at dksX5_astray_3 8 rfl rfl)
theorem dX5_astray_80 : decode cX5_astray 80 = .ok (.istore_n 3, 1) := dk_62 (dk_at dksX5_astray_3 9 rfl rfl)
theorem dX5_astray_81 : decode cX5_astray 81 = .ok (.iinc 4 1, 3) := dk_132 4 1 (dk_at dksX5_astray_3 10 rfl rfl)
theorem dX5_astray_84 : decode cX5_astray 84 = .ok (.goto (-60), 3) := dk_167 255 196 (dk_at dksX5_astray_3 13 rfl rfl)
theorem dX5_astray_87 : decode cX5_astray 87 = .ok (.iload_n 2, 1) := dk_28 (dk_at dksX5_astray_3 16 rfl rfl)
theorem dX5_astray_88 : decode cX5_astray 88 = .ok (.ifCond .ge 8, 3) := dk_156 0 8 (dk_at dksX5_astray_3 17 rfl rfl)
theorem dX5_astray_91 : decode cX5_astray 91 = .ok (.ldc 67, 2) := dk_18 67 (dk_at dksX5_astray_3 20 rfl rfl)
theorem dX5_astray_93 : decode cX5_astray 93 = .ok (.goto 12, 3) := dk_167 0 12 (dk_at dksX5_astray_4 0 rfl rfl)
theorem dX5_astray_96 : decode cX5_astray 96 = .ok (.iload_n 1, 1) := dk_27 (dk_at dksX5_astray_4 3 rfl rfl)
theorem dX5_astray_97 : decode cX5_astray 97 = .ok (.ifCond .ne 7, 3) := dk_154 0 7 (dk_at dksX5_astray_4 4 rfl rfl)
theorem dX5_astray_100 : decode cX5_astray 100 = .ok (.iload_n 2, 1) := dk_28 (dk_at dksX5_astray_4 7 rfl rfl)
theorem dX5_astray_101 : decode cX5_astray 101 = .ok (.goto 4, 3) := dk_167 0 4 (dk_at dksX5_astray_4 8 rfl rfl)
theorem dX5_astray_104 : decode cX5_astray 104 = .ok (.iload_n 3, 1) := dk_29 (dk_at dksX5_astray_4 11 rfl rfl)
theorem dX5_astray_105 : decode cX5_astray 105 = .ok (.ireturn, 1) := dk_172 (dk_at dksX5_astray_4 12 rfl rfl)
abbrev cX5_findMore : ByteArray := prog_18_method_39_code
def yX5_findMore : MethodName := ⟨RX5, "findMore", "(II)V"⟩
def dkwX5_findMore_1 : List UInt8 := [96, 79, 132, 3, 1, 167, 255, 229, 177]
abbrev dktX5_findMore_1 : List UInt8 := dkwX5_findMore_1 ++ []
def dkwX5_findMore_0 : List UInt8 := [3, 62, 29, 17, 2, 208, 162, 0, 26, 42, 180, 0, 43, 29, 92, 46, 28, 42, 27, 29, 182, 0, 115, 104]
abbrev dktX5_findMore_0 : List UInt8 := dkwX5_findMore_0 ++ dktX5_findMore_1
theorem dksX5_findMore_0 : cX5_findMore.data.toList.drop 0 = dktX5_findMore_0 := by decide +kernel
theorem dksX5_findMore_1 : cX5_findMore.data.toList.drop 24 = dktX5_findMore_1 := dk_seg dksX5_findMore_0 24 rfl rfl
theorem dX5_findMore_0 : decode cX5_findMore 0 = .ok (.iconst 0, 1) := dk_3 (dk_at dksX5_findMore_0 0 rfl rfl)
theorem dX5_findMore_1 : decode cX5_findMore 1 = .ok (.istore_n 3, 1) := dk_62 (dk_at dksX5_findMore_0 1 rfl rfl)
theorem dX5_findMore_2 : decode cX5_findMore 2 = .ok (.iload_n 3, 1) := dk_29 (dk_at dksX5_findMore_0 2 rfl rfl)
theorem dX5_findMore_3 : decode cX5_findMore 3 = .ok (.sipush 720, 3) := dk_17 2 208 (dk_at dksX5_findMore_0 3 rfl rfl)
theorem dX5_findMore_6 : decode cX5_findMore 6 = .ok (.if_icmp .ge 26, 3) := dk_162 0 26 (dk_at dksX5_findMore_0 6 rfl rfl)
theorem dX5_findMore_9 : decode cX5_findMore 9 = .ok (.aload_n 0, 1) := dk_42 (dk_at dksX5_findMore_0 9 rfl rfl)
theorem dX5_findMore_10 : decode cX5_findMore 10 = .ok (.getfield 43, 3) := dk_180 0 43 (dk_at dksX5_findMore_0 10 rfl rfl)
theorem dX5_findMore_13 : decode cX5_findMore 13 = .ok (.iload_n 3, 1) := dk_29 (dk_at dksX5_findMore_0 13 rfl rfl)
theorem dX5_findMore_14 : decode cX5_findMore 14 = .ok (.dup2, 1) := dk_92 (dk_at dksX5_findMore_0 14 rfl rfl)
theorem dX5_findMore_15 : decode cX5_findMore 15 = .ok (.iaload, 1) := dk_46 (dk_at dksX5_findMore_0 15 rfl rfl)
theorem dX5_findMore_16 : decode cX5_findMore 16 = .ok (.iload_n 2, 1) := dk_28 (dk_at dksX5_findMore_0 16 rfl rfl)
theorem dX5_findMore_17 : decode cX5_findMore 17 = .ok (.aload_n 0, 1) := dk_42 (dk_at dksX5_findMore_0 17 rfl rfl)
theorem dX5_findMore_18 : decode cX5_findMore 18 = .ok (.iload_n 1, 1) := dk_27 (dk_at dksX5_findMore_0 18 rfl rfl)
theorem dX5_findMore_19 : decode cX5_findMore 19 = .ok (.iload_n 3, 1) := dk_29 (dk_at dksX5_findMore_0 19 rfl rfl)
theorem dX5_findMore_20 : decode cX5_findMore 20 = .ok (.invokevirtual 115, 3) := dk_182 0 115 (dk_at dksX5_findMore_0 20 rfl rfl)
theorem dX5_findMore_23 : decode cX5_findMore 23 = .ok (.imul, 1) := dk_104 (dk_at dksX5_findMore_0 23 rfl rfl)
theorem dX5_findMore_24 : decode cX5_findMore 24 = .ok (.iadd, 1) := dk_96 (dk_at dksX5_findMore_1 0 rfl rfl)
theorem dX5_findMore_25 : decode cX5_findMore 25 = .ok (.iastore, 1) := dk_79 (dk_at dksX5_findMore_1 1 rfl rfl)
theorem dX5_findMore_26 : decode cX5_findMore 26 = .ok (.iinc 3 1, 3) := dk_132 3 1 (dk_at dksX5_findMore_1 2 rfl rfl)
theorem dX5_findMore_29 : decode cX5_findMore 29 = .ok (.goto (-27), 3) := dk_167 255 229 (dk_at dksX5_findMore_1 5 rfl rfl)
theorem dX5_findMore_32 : decode cX5_findMore 32 = .ok (.return_, 1) := dk_177 (dk_at dksX5_findMore_1 8 rfl rfl)
abbrev cX5_right : ByteArray := prog_18_method_49_code
def yX5_right : MethodName := ⟨RX5, "right", "(II)I"⟩
def dkwX5_right_6 : List UInt8 := [172]
abbrev dktX5_right_6 : List UInt8 := dkwX5_right_6 ++ []
def dkwX5_right_5 : List UInt8 := [182, 0, 73, 21, 4, 156, 0, 8, 18, 67, 167, 0, 14, 28, 154, 0, 8, 21, 4, 167, 0, 5, 21, 5]
abbrev dktX5_right_5 : List UInt8 := dkwX5_right_5 ++ dktX5_right_6
def dkwX5_right_4 : List UInt8 := [21, 5, 162, 0, 11, 21, 6, 54, 4, 21, 7, 54, 5, 132, 6, 1, 167, 255, 195, 42, 27, 4, 29]
abbrev dktX5_right_4 : List UInt8 := dkwX5_right_4 ++ dktX5_right_5
def dkwX5_right_3 : List UInt8 := [182, 0, 164, 54, 7, 42, 27, 2, 182, 0, 171, 21, 7, 158, 0, 23, 21, 4, 155, 0, 10, 21, 7]
abbrev dktX5_right_3 : List UInt8 := dkwX5_right_3 ++ dktX5_right_4
def dkwX5_right_2 : List UInt8 := [54, 6, 21, 6, 16, 59, 163, 0, 60, 42, 27, 4, 21, 6, 182, 0, 73, 42, 27, 4, 182, 0, 171, 42]
abbrev dktX5_right_2 : List UInt8 := dkwX5_right_2 ++ dktX5_right_3
def dkwX5_right_1 : List UInt8 := [182, 0, 161, 42, 27, 4, 182, 0, 88, 62, 42, 27, 2, 182, 0, 171, 2, 54, 4, 3, 54, 5, 3]
abbrev dktX5_right_1 : List UInt8 := dkwX5_right_1 ++ dktX5_right_2
def dkwX5_right_0 : List UInt8 := [42, 27, 182, 0, 107, 153, 0, 13, 28, 133, 9, 10, 184, 0, 68, 154, 0, 6, 18, 83, 172, 42]
abbrev dktX5_right_0 : List UInt8 := dkwX5_right_0 ++ dktX5_right_1
theorem dksX5_right_0 : cX5_right.data.toList.drop 0 = dktX5_right_0 := by decide +kernel
theorem dksX5_right_1 : cX5_right.data.toList.drop 22 = dktX5_right_1 := dk_seg dksX5_right_0 22 rfl rfl
theorem dksX5_right_2 : cX5_right.data.toList.drop 45 = dktX5_right_2 := dk_seg dksX5_right_1 23 rfl rfl
theorem dksX5_right_3 : cX5_right.data.toList.drop 69 = dktX5_right_3 := dk_seg dksX5_right_2 24 rfl rfl
theorem dksX5_right_4 : cX5_right.data.toList.drop 92 = dktX5_right_4 := dk_seg dksX5_right_3 23 rfl rfl
theorem dksX5_right_5 : cX5_right.data.toList.drop 115 = dktX5_right_5 := dk_seg dksX5_right_4 23 rfl rfl
theorem dksX5_right_6 : cX5_right.data.toList.drop 139 = dktX5_right_6 := dk_seg dksX5_right_5 24 rfl rfl
theorem dX5_right_0 : decode cX5_right 0 = .ok (.aload_n 0, 1) := dk_42 (dk_at dksX5_right_0 0 rfl rfl)
theorem dX5_right_1 : decode cX5_right 1 = .ok (.iload_n 1, 1) := dk_27 (dk_at dksX5_right_0 1 rfl rfl)
theorem dX5_right_2 : decode cX5_right 2 = .ok (.invokevirtual 107, 3) := dk_182 0 107 (dk_at dksX5_right_0 2 rfl rfl)
theorem dX5_right_5 : decode cX5_right 5 = .ok (.ifCond .eq 13, 3) := dk_153 0 13 (dk_at dksX5_right_0 5 rfl rfl)
theorem dX5_right_8 : decode cX5_right 8 = .ok (.iload_n 2, 1) := dk_28 (dk_at dksX5_right_0 8 rfl rfl)
theorem dX5_right_9 : decode cX5_right 9 = .ok (.i2l, 1) := dk_133 (dk_at dksX5_right_0 9 rfl rfl)
theorem dX5_right_10 : decode cX5_right 10 = .ok (.lconst 0, 1) := dk_9 (dk_at dksX5_right_0 10 rfl rfl)
theorem dX5_right_11 : decode cX5_right 11 = .ok (.lconst 1, 1) := dk_10 (dk_at dksX5_right_0 11 rfl rfl)
theorem dX5_right_12 : decode cX5_right 12 = .ok (.invokestatic 68, 3) := dk_184 0 68 (dk_at dksX5_right_0 12 rfl rfl)
theorem dX5_right_15 : decode cX5_right 15 = .ok (.ifCond .ne 6, 3) := dk_154 0 6 (dk_at dksX5_right_0 15 rfl rfl)
theorem dX5_right_18 : decode cX5_right 18 = .ok (.ldc 83, 2) := dk_18 83 (dk_at dksX5_right_0 18 rfl rfl)
theorem dX5_right_20 : decode cX5_right 20 = .ok (.ireturn, 1) := dk_172 (dk_at dksX5_right_0 20 rfl rfl)
theorem dX5_right_21 : decode cX5_right 21 = .ok (.aload_n 0, 1) := dk_42 (dk_at dksX5_right_0 21 rfl rfl)
theorem dX5_right_22 : decode cX5_right 22 = .ok (.invokevirtual 161, 3) := dk_182 0 161 (dk_at dksX5_right_1 0 rfl rfl)
theorem dX5_right_25 : decode cX5_right 25 = .ok (.aload_n 0, 1) := dk_42 (dk_at dksX5_right_1 3 rfl rfl)
theorem dX5_right_26 : decode cX5_right 26 = .ok (.iload_n 1, 1) := dk_27 (dk_at dksX5_right_1 4 rfl rfl)
theorem dX5_right_27 : decode cX5_right 27 = .ok (.iconst 1, 1) := dk_4 (dk_at dksX5_right_1 5 rfl rfl)
theorem dX5_right_28 : decode cX5_right 28 = .ok (.invokevirtual 88, 3) := dk_182 0 88 (dk_at dksX5_right_1 6 rfl rfl)
theorem dX5_right_31 : decode cX5_right 31 = .ok (.istore_n 3, 1) := dk_62 (dk_at dksX5_right_1 9 rfl rfl)
theorem dX5_right_32 : decode cX5_right 32 = .ok (.aload_n 0, 1) := dk_42 (dk_at dksX5_right_1 10 rfl rfl)
theorem dX5_right_33 : decode cX5_right 33 = .ok (.iload_n 1, 1) := dk_27 (dk_at dksX5_right_1 11 rfl rfl)
theorem dX5_right_34 : decode cX5_right 34 = .ok (.iconst (-1), 1) := dk_2 (dk_at dksX5_right_1 12 rfl rfl)
theorem dX5_right_35 : decode cX5_right 35 = .ok (.invokevirtual 171, 3) := dk_182 0 171 (dk_at dksX5_right_1 13 rfl rfl)
theorem dX5_right_38 : decode cX5_right 38 = .ok (.iconst (-1), 1) := dk_2 (dk_at dksX5_right_1 16 rfl rfl)
theorem dX5_right_39 : decode cX5_right 39 = .ok (.istore 4, 2) := dk_54 4 (dk_at dksX5_right_1 17 rfl rfl)
theorem dX5_right_41 : decode cX5_right 41 = .ok (.iconst 0, 1) := dk_3 (dk_at dksX5_right_1 19 rfl rfl)
theorem dX5_right_42 : decode cX5_right 42 = .ok (.istore 5, 2) := dk_54 5 (dk_at dksX5_right_1 20 rfl rfl)
theorem dX5_right_44 : decode cX5_right 44 = .ok (.iconst 0, 1) := dk_3 (dk_at dksX5_right_1 22 rfl rfl)
theorem dX5_right_45 : decode cX5_right 45 = .ok (.istore 6, 2) := dk_54 6 (dk_at dksX5_right_2 0 rfl rfl)
theorem dX5_right_47 : decode cX5_right 47 = .ok (.iload 6, 2) := dk_21 6 (dk_at dksX5_right_2 2 rfl rfl)
theorem dX5_right_49 : decode cX5_right 49 = .ok (.bipush 59, 2) := dk_16 59 (dk_at dksX5_right_2 4 rfl rfl)
theorem dX5_right_51 : decode cX5_right 51 = .ok (.if_icmp .gt 60, 3) := dk_163 0 60 (dk_at dksX5_right_2 6 rfl rfl)
theorem dX5_right_54 : decode cX5_right 54 = .ok (.aload_n 0, 1) := dk_42 (dk_at dksX5_right_2 9 rfl rfl)
theorem dX5_right_55 : decode cX5_right 55 = .ok (.iload_n 1, 1) := dk_27 (dk_at dksX5_right_2 10 rfl rfl)
theorem dX5_right_56 : decode cX5_right 56 = .ok (.iconst 1, 1) := dk_4 (dk_at dksX5_right_2 11 rfl rfl)
theorem dX5_right_57 : decode cX5_right 57 = .ok (.iload 6, 2) := dk_21 6 (dk_at dksX5_right_2 12 rfl rfl)
theorem dX5_right_59 : decode cX5_right 59 = .ok (.invokevirtual 73, 3) := dk_182 0 73 (dk_at dksX5_right_2 14 rfl rfl)
theorem dX5_right_62 : decode cX5_right 62 = .ok (.aload_n 0, 1) := dk_42 (dk_at dksX5_right_2 17 rfl rfl)
theorem dX5_right_63 : decode cX5_right 63 = .ok (.iload_n 1, 1) := dk_27 (dk_at dksX5_right_2 18 rfl rfl)
theorem dX5_right_64 : decode cX5_right 64 = .ok (.iconst 1, 1) := dk_4 (dk_at dksX5_right_2 19 rfl rfl)
theorem dX5_right_65 : decode cX5_right 65 = .ok (.invokevirtual 171, 3) := dk_182 0 171 (dk_at dksX5_right_2 20 rfl rfl)
theorem dX5_right_68 : decode cX5_right 68 = .ok (.aload_n 0, 1) := dk_42 (dk_at dksX5_right_2 23 rfl rfl)
theorem dX5_right_69 : decode cX5_right 69 = .ok (.invokevirtual 164, 3) := dk_182 0 164 (dk_at dksX5_right_3 0 rfl rfl)
theorem dX5_right_72 : decode cX5_right 72 = .ok (.istore 7, 2) := dk_54 7 (dk_at dksX5_right_3 3 rfl rfl)
theorem dX5_right_74 : decode cX5_right 74 = .ok (.aload_n 0, 1) := dk_42 (dk_at dksX5_right_3 5 rfl rfl)
theorem dX5_right_75 : decode cX5_right 75 = .ok (.iload_n 1, 1) := dk_27 (dk_at dksX5_right_3 6 rfl rfl)
theorem dX5_right_76 : decode cX5_right 76 = .ok (.iconst (-1), 1) := dk_2 (dk_at dksX5_right_3 7 rfl rfl)
theorem dX5_right_77 : decode cX5_right 77 = .ok (.invokevirtual 171, 3) := dk_182 0 171 (dk_at dksX5_right_3 8 rfl rfl)
theorem dX5_right_80 : decode cX5_right 80 = .ok (.iload 7, 2) := dk_21 7 (dk_at dksX5_right_3 11 rfl rfl)
theorem dX5_right_82 : decode cX5_right 82 = .ok (.ifCond .le 23, 3) := dk_158 0 23 (dk_at dksX5_right_3 13 rfl rfl)
theorem dX5_right_85 : decode cX5_right 85 = .ok (.iload 4, 2) := dk_21 4 (dk_at dksX5_right_3 16 rfl rfl)
theorem dX5_right_87 : decode cX5_right 87 = .ok (.ifCond .lt 10, 3) := dk_155 0 10 (dk_at dksX5_right_3 18 rfl rfl)
theorem dX5_right_90 : decode cX5_right 90 = .ok (.iload 7, 2) := dk_21 7 (dk_at dksX5_right_3 21 rfl rfl)
theorem dX5_right_92 : decode cX5_right 92 = .ok (.iload 5, 2) := dk_21 5 (dk_at dksX5_right_4 0 rfl rfl)
theorem dX5_right_94 : decode cX5_right 94 = .ok (.if_icmp .ge 11, 3) := dk_162 0 11 (dk_at dksX5_right_4 2 rfl rfl)
theorem dX5_right_97 : decode cX5_right 97 = .ok (.iload 6, 2) := dk_21 6 (dk_at dksX5_right_4 5 rfl rfl)
theorem dX5_right_99 : decode cX5_right 99 = .ok (.istore 4, 2) := dk_54 4 (dk_at dksX5_right_4 7 rfl rfl)
theorem dX5_right_101 : decode cX5_right 101 = .ok (.iload 7, 2) := dk_21 7 (dk_at dksX5_right_4 9 rfl rfl)
theorem dX5_right_103 : decode cX5_right 103 = .ok (.istore 5, 2) := dk_54 5 (dk_at dksX5_right_4 11 rfl rfl)
theorem dX5_right_105 : decode cX5_right 105 = .ok (.iinc 6 1, 3) := dk_132 6 1 (dk_at dksX5_right_4 13 rfl rfl)
theorem dX5_right_108 : decode cX5_right 108 = .ok (.goto (-61), 3) := dk_167 255 195 (dk_at dksX5_right_4 16 rfl rfl)
theorem dX5_right_111 : decode cX5_right 111 = .ok (.aload_n 0, 1) := dk_42 (dk_at dksX5_right_4 19 rfl rfl)
theorem dX5_right_112 : decode cX5_right 112 = .ok (.iload_n 1, 1) := dk_27 (dk_at dksX5_right_4 20 rfl rfl)
theorem dX5_right_113 : decode cX5_right 113 = .ok (.iconst 1, 1) := dk_4 (dk_at dksX5_right_4 21 rfl rfl)
theorem dX5_right_114 : decode cX5_right 114 = .ok (.iload_n 3, 1) := dk_29 (dk_at dksX5_right_4 22 rfl rfl)
theorem dX5_right_115 : decode cX5_right 115 = .ok (.invokevirtual 73, 3) := dk_182 0 73 (dk_at dksX5_right_5 0 rfl rfl)
theorem dX5_right_118 : decode cX5_right 118 = .ok (.iload 4, 2) := dk_21 4 (dk_at dksX5_right_5 3 rfl rfl)
theorem dX5_right_120 : decode cX5_right 120 = .ok (.ifCond .ge 8, 3) := dk_156 0 8 (dk_at dksX5_right_5 5 rfl rfl)
theorem dX5_right_123 : decode cX5_right 123 = .ok (.ldc 67, 2) := dk_18 67 (dk_at dksX5_right_5 8 rfl rfl)
theorem dX5_right_125 : decode cX5_right 125 = .ok (.goto 14, 3) := dk_167 0 14 (dk_at dksX5_right_5 10 rfl rfl)
theorem dX5_right_128 : decode cX5_right 128 = .ok (.iload_n 2, 1) := dk_28 (dk_at dksX5_right_5 13 rfl rfl)
theorem dX5_right_129 : decode cX5_right 129 = .ok (.ifCond .ne 8, 3) := dk_154 0 8 (dk_at dksX5_right_5 14 rfl rfl)
theorem dX5_right_132 : decode cX5_right 132 = .ok (.iload 4, 2) := dk_21 4 (dk_at dksX5_right_5 17 rfl rfl)
theorem dX5_right_134 : decode cX5_right 134 = .ok (.goto 5, 3) := dk_167 0 5 (dk_at dksX5_right_5 19 rfl rfl)
theorem dX5_right_137 : decode cX5_right 137 = .ok (.iload 5, 2) := dk_21 5 (dk_at dksX5_right_5 22 rfl rfl)
theorem dX5_right_139 : decode cX5_right 139 = .ok (.ireturn, 1) := dk_172 (dk_at dksX5_right_6 0 rfl rfl)
abbrev cX5_telling : ByteArray := prog_18_method_50_code
def yX5_telling : MethodName := ⟨RX5, "telling", "()I"⟩
def dkwX5_telling_5 : List UInt8 := [167, 255, 158, 132, 2, 1, 167, 255, 138, 27, 16, 60, 162, 0, 9, 27, 4, 96, 167, 0, 5, 18, 67, 172]
abbrev dktX5_telling_5 : List UInt8 := dkwX5_telling_5 ++ []
def dkwX5_telling_4 : List UInt8 := [164, 0, 7, 4, 167, 0, 4, 3, 54, 7, 21, 7, 153, 0, 7, 29, 167, 0, 4, 27, 60, 132, 4, 1]
abbrev dktX5_telling_4 : List UInt8 := dkwX5_telling_4 ++ dktX5_telling_5
def dkwX5_telling_3 : List UInt8 := [62, 21, 4, 17, 2, 208, 161, 0, 25, 21, 5, 16, 60, 108, 21, 6, 16, 60, 108, 159, 0, 12, 29, 27]
abbrev dktX5_telling_3 : List UInt8 := dkwX5_telling_3 ++ dktX5_telling_4
def dkwX5_telling_2 : List UInt8 := [42, 180, 0, 43, 21, 5, 46, 42, 180, 0, 43, 21, 6, 46, 160, 0, 9, 29, 4, 96, 167, 0, 4, 3]
abbrev dktX5_telling_2 : List UInt8 := dkwX5_telling_2 ++ dktX5_telling_3
def dkwX5_telling_1 : List UInt8 := [17, 5, 160, 162, 0, 96, 21, 4, 17, 2, 208, 112, 54, 5, 21, 4, 28, 100, 17, 2, 208, 112, 54, 6]
abbrev dktX5_telling_1 : List UInt8 := dkwX5_telling_1 ++ dktX5_telling_2
def dkwX5_telling_0 : List UInt8 := [42, 182, 0, 161, 3, 60, 4, 61, 28, 17, 1, 104, 163, 0, 117, 3, 62, 17, 2, 148, 54, 4, 21, 4]
abbrev dktX5_telling_0 : List UInt8 := dkwX5_telling_0 ++ dktX5_telling_1
theorem dksX5_telling_0 : cX5_telling.data.toList.drop 0 = dktX5_telling_0 := by decide +kernel
theorem dksX5_telling_1 : cX5_telling.data.toList.drop 24 = dktX5_telling_1 := dk_seg dksX5_telling_0 24 rfl rfl
theorem dksX5_telling_2 : cX5_telling.data.toList.drop 48 = dktX5_telling_2 := dk_seg dksX5_telling_1 24 rfl rfl
theorem dksX5_telling_3 : cX5_telling.data.toList.drop 72 = dktX5_telling_3 := dk_seg dksX5_telling_2 24 rfl rfl
theorem dksX5_telling_4 : cX5_telling.data.toList.drop 96 = dktX5_telling_4 := dk_seg dksX5_telling_3 24 rfl rfl
theorem dksX5_telling_5 : cX5_telling.data.toList.drop 120 = dktX5_telling_5 := dk_seg dksX5_telling_4 24 rfl rfl
theorem dX5_telling_0 : decode cX5_telling 0 = .ok (.aload_n 0, 1) := dk_42 (dk_at dksX5_telling_0 0 rfl rfl)
theorem dX5_telling_1 : decode cX5_telling 1 = .ok (.invokevirtual 161, 3) := dk_182 0 161 (dk_at dksX5_telling_0 1 rfl rfl)
theorem dX5_telling_4 : decode cX5_telling 4 = .ok (.iconst 0, 1) := dk_3 (dk_at dksX5_telling_0 4 rfl rfl)
theorem dX5_telling_5 : decode cX5_telling 5 = .ok (.istore_n 1, 1) := dk_60 (dk_at dksX5_telling_0 5 rfl rfl)
theorem dX5_telling_6 : decode cX5_telling 6 = .ok (.iconst 1, 1) := dk_4 (dk_at dksX5_telling_0 6 rfl rfl)
theorem dX5_telling_7 : decode cX5_telling 7 = .ok (.istore_n 2, 1) := dk_61 (dk_at dksX5_telling_0 7 rfl rfl)
theorem dX5_telling_8 : decode cX5_telling 8 = .ok (.iload_n 2, 1) := dk_28 (dk_at dksX5_telling_0 8 rfl rfl)
theorem dX5_telling_9 : decode cX5_telling 9 = .ok (.sipush 360, 3) := dk_17 1 104 (dk_at dksX5_telling_0 9 rfl rfl)
theorem dX5_telling_12 : decode cX5_telling 12 = .ok (.if_icmp .gt 117, 3) := dk_163 0 117 (dk_at dksX5_telling_0 12 rfl rfl)
theorem dX5_telling_15 : decode cX5_telling 15 = .ok (.iconst 0, 1) := dk_3 (dk_at dksX5_telling_0 15 rfl rfl)
theorem dX5_telling_16 : decode cX5_telling 16 = .ok (.istore_n 3, 1) := dk_62 (dk_at dksX5_telling_0 16 rfl rfl)
theorem dX5_telling_17 : decode cX5_telling 17 = .ok (.sipush 660, 3) := dk_17 2 148 (dk_at dksX5_telling_0 17 rfl rfl)
theorem dX5_telling_20 : decode cX5_telling 20 = .ok (.istore 4, 2) := dk_54 4 (dk_at dksX5_telling_0 20 rfl rfl)
theorem dX5_telling_22 : decode cX5_telling 22 = .ok (.iload 4, 2) := dk_21 4 (dk_at dksX5_telling_0 22 rfl rfl)
theorem dX5_telling_24 : decode cX5_telling 24 = .ok (.sipush 1440, 3) := dk_17 5 160 (dk_at dksX5_telling_1 0 rfl rfl)
theorem dX5_telling_27 : decode cX5_telling 27 = .ok (.if_icmp .ge 96, 3) := dk_162 0 96 (dk_at dksX5_telling_1 3 rfl rfl)
theorem dX5_telling_30 : decode cX5_telling 30 = .ok (.iload 4, 2) := dk_21 4 (dk_at dksX5_telling_1 6 rfl rfl)
theorem dX5_telling_32 : decode cX5_telling 32 = .ok (.sipush 720, 3) := dk_17 2 208 (dk_at dksX5_telling_1 8 rfl rfl)
theorem dX5_telling_35 : decode cX5_telling 35 = .ok (.irem, 1) := dk_112 (dk_at dksX5_telling_1 11 rfl rfl)
theorem dX5_telling_36 : decode cX5_telling 36 = .ok (.istore 5, 2) := dk_54 5 (dk_at dksX5_telling_1 12 rfl rfl)
theorem dX5_telling_38 : decode cX5_telling 38 = .ok (.iload 4, 2) := dk_21 4 (dk_at dksX5_telling_1 14 rfl rfl)
theorem dX5_telling_40 : decode cX5_telling 40 = .ok (.iload_n 2, 1) := dk_28 (dk_at dksX5_telling_1 16 rfl rfl)
theorem dX5_telling_41 : decode cX5_telling 41 = .ok (.isub, 1) := dk_100 (dk_at dksX5_telling_1 17 rfl rfl)
theorem dX5_telling_42 : decode cX5_telling 42 = .ok (.sipush 720, 3) := dk_17 2 208 (dk_at dksX5_telling_1 18 rfl rfl)
theorem dX5_telling_45 : decode cX5_telling 45 = .ok (.irem, 1) := dk_112 (dk_at dksX5_telling_1 21 rfl rfl)
theorem dX5_telling_46 : decode cX5_telling 46 = .ok (.istore 6, 2) := dk_54 6 (dk_at dksX5_telling_1 22 rfl rfl)
theorem dX5_telling_48 : decode cX5_telling 48 = .ok (.aload_n 0, 1) := dk_42 (dk_at dksX5_telling_2 0 rfl rfl)
theorem dX5_telling_49 : decode cX5_telling 49 = .ok (.getfield 43, 3) := dk_180 0 43 (dk_at dksX5_telling_2 1 rfl rfl)
theorem dX5_telling_52 : decode cX5_telling 52 = .ok (.iload 5, 2) := dk_21 5 (dk_at dksX5_telling_2 4 rfl rfl)
theorem dX5_telling_54 : decode cX5_telling 54 = .ok (.iaload, 1) := dk_46 (dk_at dksX5_telling_2 6 rfl rfl)
theorem dX5_telling_55 : decode cX5_telling 55 = .ok (.aload_n 0, 1) := dk_42 (dk_at dksX5_telling_2 7 rfl rfl)
theorem dX5_telling_56 : decode cX5_telling 56 = .ok (.getfield 43, 3) := dk_180 0 43 (dk_at dksX5_telling_2 8 rfl rfl)
theorem dX5_telling_59 : decode cX5_telling 59 = .ok (.iload 6, 2) := dk_21 6 (dk_at dksX5_telling_2 11 rfl rfl)
theorem dX5_telling_61 : decode cX5_telling 61 = .ok (.iaload, 1) := dk_46 (dk_at dksX5_telling_2 13 rfl rfl)
theorem dX5_telling_62 : decode cX5_telling 62 = .ok (.if_icmp .ne 9, 3) := dk_160 0 9 (dk_at dksX5_telling_2 14 rfl rfl)
theorem dX5_telling_65 : decode cX5_telling 65 = .ok (.iload_n 3, 1) := dk_29 (dk_at dksX5_telling_2 17 rfl rfl)
theorem dX5_telling_66 : decode cX5_telling 66 = .ok (.iconst 1, 1) := dk_4 (dk_at dksX5_telling_2 18 rfl rfl)
theorem dX5_telling_67 : decode cX5_telling 67 = .ok (.iadd, 1) := dk_96 (dk_at dksX5_telling_2 19 rfl rfl)
theorem dX5_telling_68 : decode cX5_telling 68 = .ok (.goto 4, 3) := dk_167 0 4 (dk_at dksX5_telling_2 20 rfl rfl)
theorem dX5_telling_71 : decode cX5_telling 71 = .ok (.iconst 0, 1) := dk_3 (dk_at dksX5_telling_2 23 rfl rfl)
theorem dX5_telling_72 : decode cX5_telling 72 = .ok (.istore_n 3, 1) := dk_62 (dk_at dksX5_telling_3 0 rfl rfl)
theorem dX5_telling_73 : decode cX5_telling 73 = .ok (.iload 4, 2) := dk_21 4 (dk_at dksX5_telling_3 1 rfl rfl)
theorem dX5_telling_75 : decode cX5_telling 75 = .ok (.sipush 720, 3) := dk_17 2 208 (dk_at dksX5_telling_3 3 rfl rfl)
theorem dX5_telling_78 : decode cX5_telling 78 = .ok (.if_icmp .lt 25, 3) := dk_161 0 25 (dk_at dksX5_telling_3 6 rfl rfl)
theorem dX5_telling_81 : decode cX5_telling 81 = .ok (.iload 5, 2) := dk_21 5 (dk_at dksX5_telling_3 9 rfl rfl)
theorem dX5_telling_83 : decode cX5_telling 83 = .ok (.bipush 60, 2) := dk_16 60 (dk_at dksX5_telling_3 11 rfl rfl)
theorem dX5_telling_85 : decode cX5_telling 85 = .ok (.idiv, 1) := dk_108 (dk_at dksX5_telling_3 13 rfl rfl)
theorem dX5_telling_86 : decode cX5_telling 86 = .ok (.iload 6, 2) := dk_21 6 (dk_at dksX5_telling_3 14 rfl rfl)
theorem dX5_telling_88 : decode cX5_telling 88 = .ok (.bipush 60, 2) := dk_16 60 (dk_at dksX5_telling_3 16 rfl rfl)
theorem dX5_telling_90 : decode cX5_telling 90 = .ok (.idiv, 1) := dk_108 (dk_at dksX5_telling_3 18 rfl rfl)
theorem dX5_telling_91 : decode cX5_telling 91 = .ok (.if_icmp .eq 12, 3) := dk_159 0 12 (dk_at dksX5_telling_3 19 rfl rfl)
theorem dX5_telling_94 : decode cX5_telling 94 = .ok (.iload_n 3, 1) := dk_29 (dk_at dksX5_telling_3 22 rfl rfl)
theorem dX5_telling_95 : decode cX5_telling 95 = .ok (.iload_n 1, 1) := dk_27 (dk_at dksX5_telling_3 23 rfl rfl)
theorem dX5_telling_96 : decode cX5_telling 96 = .ok (.if_icmp .le 7, 3) := dk_164 0 7 (dk_at dksX5_telling_4 0 rfl rfl)
theorem dX5_telling_99 : decode cX5_telling 99 = .ok (.iconst 1, 1) := dk_4 (dk_at dksX5_telling_4 3 rfl rfl)
theorem dX5_telling_100 : decode cX5_telling 100 = .ok (.goto 4, 3) := dk_167 0 4 (dk_at dksX5_telling_4 4 rfl rfl)
theorem dX5_telling_103 : decode cX5_telling 103 = .ok (.iconst 0, 1) := dk_3 (dk_at dksX5_telling_4 7 rfl rfl)
theorem dX5_telling_104 : decode cX5_telling 104 = .ok (.istore 7, 2) := dk_54 7 (dk_at dksX5_telling_4 8 rfl rfl)
theorem dX5_telling_106 : decode cX5_telling 106 = .ok (.iload 7, 2) := dk_21 7 (dk_at dksX5_telling_4 10 rfl rfl)
theorem dX5_telling_108 : decode cX5_telling 108 = .ok (.ifCond .eq 7, 3) := dk_153 0 7 (dk_at dksX5_telling_4 12 rfl rfl)
theorem dX5_telling_111 : decode cX5_telling 111 = .ok (.iload_n 3, 1) := dk_29 (dk_at dksX5_telling_4 15 rfl rfl)
theorem dX5_telling_112 : decode cX5_telling 112 = .ok (.goto 4, 3) := dk_167 0 4 (dk_at dksX5_telling_4 16 rfl rfl)
theorem dX5_telling_115 : decode cX5_telling 115 = .ok (.iload_n 1, 1) := dk_27 (dk_at dksX5_telling_4 19 rfl rfl)
theorem dX5_telling_116 : decode cX5_telling 116 = .ok (.istore_n 1, 1) := dk_60 (dk_at dksX5_telling_4 20 rfl rfl)
theorem dX5_telling_117 : decode cX5_telling 117 = .ok (.iinc 4 1, 3) := dk_132 4 1 (dk_at dksX5_telling_4 21 rfl rfl)
theorem dX5_telling_120 : decode cX5_telling 120 = .ok (.goto (-98), 3) := dk_167 255 158 (dk_at dksX5_telling_5 0 rfl rfl)
theorem dX5_telling_123 : decode cX5_telling 123 = .ok (.iinc 2 1, 3) := dk_132 2 1 (dk_at dksX5_telling_5 3 rfl rfl)
theorem dX5_telling_126 : decode cX5_telling 126 = .ok (.goto (-118), 3) := dk_167 255 138 (dk_at dksX5_telling_5 6 rfl rfl)
theorem dX5_telling_129 : decode cX5_telling 129 = .ok (.iload_n 1, 1) := dk_27 (dk_at dksX5_telling_5 9 rfl rfl)
theorem dX5_telling_130 : decode cX5_telling 130 = .ok (.bipush 60, 2) := dk_16 60 (dk_at dksX5_telling_5 10 rfl rfl)
theorem dX5_telling_132 : decode cX5_telling 132 = .ok (.if_icmp .ge 9, 3) := dk_162 0 9 (dk_at dksX5_telling_5 12 rfl rfl)
theorem dX5_telling_135 : decode cX5_telling 135 = .ok (.iload_n 1, 1) := dk_27 (dk_at dksX5_telling_5 15 rfl rfl)
theorem dX5_telling_136 : decode cX5_telling 136 = .ok (.iconst 1, 1) := dk_4 (dk_at dksX5_telling_5 16 rfl rfl)
theorem dX5_telling_137 : decode cX5_telling 137 = .ok (.iadd, 1) := dk_96 (dk_at dksX5_telling_5 17 rfl rfl)
theorem dX5_telling_138 : decode cX5_telling 138 = .ok (.goto 5, 3) := dk_167 0 5 (dk_at dksX5_telling_5 18 rfl rfl)
theorem dX5_telling_141 : decode cX5_telling 141 = .ok (.ldc 67, 2) := dk_18 67 (dk_at dksX5_telling_5 21 rfl rfl)
theorem dX5_telling_143 : decode cX5_telling 143 = .ok (.ireturn, 1) := dk_172 (dk_at dksX5_telling_5 23 rfl rfl)
abbrev cX5_like : ByteArray := prog_18_method_52_code
def yX5_like : MethodName := ⟨RX5, "like", "(II)I"⟩
def dkwX5_like_4 : List UInt8 := [54, 4, 132, 5, 1, 167, 255, 206, 28, 154, 0, 7, 29, 167, 0, 5, 21, 4, 172]
abbrev dktX5_like_4 : List UInt8 := dkwX5_like_4 ++ []
def dkwX5_like_3 : List UInt8 := [162, 0, 8, 21, 5, 167, 0, 4, 29, 62, 21, 6, 21, 4, 162, 0, 8, 21, 6, 167, 0, 5, 21, 4]
abbrev dktX5_like_3 : List UInt8 := dkwX5_like_3 ++ dktX5_like_4
def dkwX5_like_2 : List UInt8 := [54, 5, 21, 5, 17, 2, 208, 162, 0, 48, 42, 27, 21, 5, 182, 0, 182, 54, 6, 21, 6, 21, 4]
abbrev dktX5_like_2 : List UInt8 := dkwX5_like_2 ++ dktX5_like_3
def dkwX5_like_1 : List UInt8 := [27, 46, 156, 0, 6, 18, 181, 172, 42, 182, 0, 161, 3, 62, 42, 27, 3, 182, 0, 182, 54, 4, 4]
abbrev dktX5_like_1 : List UInt8 := dkwX5_like_1 ++ dktX5_like_2
def dkwX5_like_0 : List UInt8 := [27, 184, 0, 178, 153, 0, 13, 28, 133, 9, 10, 184, 0, 68, 154, 0, 6, 18, 83, 172, 42, 180, 0, 19]
abbrev dktX5_like_0 : List UInt8 := dkwX5_like_0 ++ dktX5_like_1
theorem dksX5_like_0 : cX5_like.data.toList.drop 0 = dktX5_like_0 := by decide +kernel
theorem dksX5_like_1 : cX5_like.data.toList.drop 24 = dktX5_like_1 := dk_seg dksX5_like_0 24 rfl rfl
theorem dksX5_like_2 : cX5_like.data.toList.drop 47 = dktX5_like_2 := dk_seg dksX5_like_1 23 rfl rfl
theorem dksX5_like_3 : cX5_like.data.toList.drop 70 = dktX5_like_3 := dk_seg dksX5_like_2 23 rfl rfl
theorem dksX5_like_4 : cX5_like.data.toList.drop 94 = dktX5_like_4 := dk_seg dksX5_like_3 24 rfl rfl
theorem dX5_like_0 : decode cX5_like 0 = .ok (.iload_n 1, 1) := dk_27 (dk_at dksX5_like_0 0 rfl rfl)
theorem dX5_like_1 : decode cX5_like 1 = .ok (.invokestatic 178, 3) := dk_184 0 178 (dk_at dksX5_like_0 1 rfl rfl)
theorem dX5_like_4 : decode cX5_like 4 = .ok (.ifCond .eq 13, 3) := dk_153 0 13 (dk_at dksX5_like_0 4 rfl rfl)
theorem dX5_like_7 : decode cX5_like 7 = .ok (.iload_n 2, 1) := dk_28 (dk_at dksX5_like_0 7 rfl rfl)
theorem dX5_like_8 : decode cX5_like 8 = .ok (.i2l, 1) := dk_133 (dk_at dksX5_like_0 8 rfl rfl)
theorem dX5_like_9 : decode cX5_like 9 = .ok (.lconst 0, 1) := dk_9 (dk_at dksX5_like_0 9 rfl rfl)
theorem dX5_like_10 : decode cX5_like 10 = .ok (.lconst 1, 1) := dk_10 (dk_at dksX5_like_0 10 rfl rfl)
theorem dX5_like_11 : decode cX5_like 11 = .ok (.invokestatic 68, 3) := dk_184 0 68 (dk_at dksX5_like_0 11 rfl rfl)
theorem dX5_like_14 : decode cX5_like 14 = .ok (.ifCond .ne 6, 3) := dk_154 0 6 (dk_at dksX5_like_0 14 rfl rfl)
theorem dX5_like_17 : decode cX5_like 17 = .ok (.ldc 83, 2) := dk_18 83 (dk_at dksX5_like_0 17 rfl rfl)
theorem dX5_like_19 : decode cX5_like 19 = .ok (.ireturn, 1) := dk_172 (dk_at dksX5_like_0 19 rfl rfl)
theorem dX5_like_20 : decode cX5_like 20 = .ok (.aload_n 0, 1) := dk_42 (dk_at dksX5_like_0 20 rfl rfl)
theorem dX5_like_21 : decode cX5_like 21 = .ok (.getfield 19, 3) := dk_180 0 19 (dk_at dksX5_like_0 21 rfl rfl)
theorem dX5_like_24 : decode cX5_like 24 = .ok (.iload_n 1, 1) := dk_27 (dk_at dksX5_like_1 0 rfl rfl)
theorem dX5_like_25 : decode cX5_like 25 = .ok (.iaload, 1) := dk_46 (dk_at dksX5_like_1 1 rfl rfl)
theorem dX5_like_26 : decode cX5_like 26 = .ok (.ifCond .ge 6, 3) := dk_156 0 6 (dk_at dksX5_like_1 2 rfl rfl)
theorem dX5_like_29 : decode cX5_like 29 = .ok (.ldc 181, 2) := dk_18 181 (dk_at dksX5_like_1 5 rfl rfl)
theorem dX5_like_31 : decode cX5_like 31 = .ok (.ireturn, 1) := dk_172 (dk_at dksX5_like_1 7 rfl rfl)
theorem dX5_like_32 : decode cX5_like 32 = .ok (.aload_n 0, 1) := dk_42 (dk_at dksX5_like_1 8 rfl rfl)
theorem dX5_like_33 : decode cX5_like 33 = .ok (.invokevirtual 161, 3) := dk_182 0 161 (dk_at dksX5_like_1 9 rfl rfl)
theorem dX5_like_36 : decode cX5_like 36 = .ok (.iconst 0, 1) := dk_3 (dk_at dksX5_like_1 12 rfl rfl)
theorem dX5_like_37 : decode cX5_like 37 = .ok (.istore_n 3, 1) := dk_62 (dk_at dksX5_like_1 13 rfl rfl)
theorem dX5_like_38 : decode cX5_like 38 = .ok (.aload_n 0, 1) := dk_42 (dk_at dksX5_like_1 14 rfl rfl)
theorem dX5_like_39 : decode cX5_like 39 = .ok (.iload_n 1, 1) := dk_27 (dk_at dksX5_like_1 15 rfl rfl)
theorem dX5_like_40 : decode cX5_like 40 = .ok (.iconst 0, 1) := dk_3 (dk_at dksX5_like_1 16 rfl rfl)
theorem dX5_like_41 : decode cX5_like 41 = .ok (.invokevirtual 182, 3) := dk_182 0 182 (dk_at dksX5_like_1 17 rfl rfl)
theorem dX5_like_44 : decode cX5_like 44 = .ok (.istore 4, 2) := dk_54 4 (dk_at dksX5_like_1 20 rfl rfl)
theorem dX5_like_46 : decode cX5_like 46 = .ok (.iconst 1, 1) := dk_4 (dk_at dksX5_like_1 22 rfl rfl)
theorem dX5_like_47 : decode cX5_like 47 = .ok (.istore 5, 2) := dk_54 5 (dk_at dksX5_like_2 0 rfl rfl)
theorem dX5_like_49 : decode cX5_like 49 = .ok (.iload 5, 2) := dk_21 5 (dk_at dksX5_like_2 2 rfl rfl)
theorem dX5_like_51 : decode cX5_like 51 = .ok (.sipush 720, 3) := dk_17 2 208 (dk_at dksX5_like_2 4 rfl rfl)
theorem dX5_like_54 : decode cX5_like 54 = .ok (.if_icmp .ge 48, 3) := dk_162 0 48 (dk_at dksX5_like_2 7 rfl rfl)
theorem dX5_like_57 : decode cX5_like 57 = .ok (.aload_n 0, 1) := dk_42 (dk_at dksX5_like_2 10 rfl rfl)
theorem dX5_like_58 : decode cX5_like 58 = .ok (.iload_n 1, 1) := dk_27 (dk_at dksX5_like_2 11 rfl rfl)
theorem dX5_like_59 : decode cX5_like 59 = .ok (.iload 5, 2) := dk_21 5 (dk_at dksX5_like_2 12 rfl rfl)
theorem dX5_like_61 : decode cX5_like 61 = .ok (.invokevirtual 182, 3) := dk_182 0 182 (dk_at dksX5_like_2 14 rfl rfl)
theorem dX5_like_64 : decode cX5_like 64 = .ok (.istore 6, 2) := dk_54 6 (dk_at dksX5_like_2 17 rfl rfl)
theorem dX5_like_66 : decode cX5_like 66 = .ok (.iload 6, 2) := dk_21 6 (dk_at dksX5_like_2 19 rfl rfl)
theorem dX5_like_68 : decode cX5_like 68 = .ok (.iload 4, 2) := dk_21 4 (dk_at dksX5_like_2 21 rfl rfl)
theorem dX5_like_70 : decode cX5_like 70 = .ok (.if_icmp .ge 8, 3) := dk_162 0 8 (dk_at dksX5_like_3 0 rfl rfl)
theorem dX5_like_73 : decode cX5_like 73 = .ok (.iload 5, 2) := dk_21 5 (dk_at dksX5_like_3 3 rfl rfl)
theorem dX5_like_75 : decode cX5_like 75 = .ok (.goto 4, 3) := dk_167 0 4 (dk_at dksX5_like_3 5 rfl rfl)
theorem dX5_like_78 : decode cX5_like 78 = .ok (.iload_n 3, 1) := dk_29 (dk_at dksX5_like_3 8 rfl rfl)
theorem dX5_like_79 : decode cX5_like 79 = .ok (.istore_n 3, 1) := dk_62 (dk_at dksX5_like_3 9 rfl rfl)
theorem dX5_like_80 : decode cX5_like 80 = .ok (.iload 6, 2) := dk_21 6 (dk_at dksX5_like_3 10 rfl rfl)
theorem dX5_like_82 : decode cX5_like 82 = .ok (.iload 4, 2) := dk_21 4 (dk_at dksX5_like_3 12 rfl rfl)
theorem dX5_like_84 : decode cX5_like 84 = .ok (.if_icmp .ge 8, 3) := dk_162 0 8 (dk_at dksX5_like_3 14 rfl rfl)
theorem dX5_like_87 : decode cX5_like 87 = .ok (.iload 6, 2) := dk_21 6 (dk_at dksX5_like_3 17 rfl rfl)
theorem dX5_like_89 : decode cX5_like 89 = .ok (.goto 5, 3) := dk_167 0 5 (dk_at dksX5_like_3 19 rfl rfl)
theorem dX5_like_92 : decode cX5_like 92 = .ok (.iload 4, 2) := dk_21 4 (dk_at dksX5_like_3 22 rfl rfl)
theorem dX5_like_94 : decode cX5_like 94 = .ok (.istore 4, 2) := dk_54 4 (dk_at dksX5_like_4 0 rfl rfl)
theorem dX5_like_96 : decode cX5_like 96 = .ok (.iinc 5 1, 3) := dk_132 5 1 (dk_at dksX5_like_4 2 rfl rfl)
theorem dX5_like_99 : decode cX5_like 99 = .ok (.goto (-50), 3) := dk_167 255 206 (dk_at dksX5_like_4 5 rfl rfl)
theorem dX5_like_102 : decode cX5_like 102 = .ok (.iload_n 2, 1) := dk_28 (dk_at dksX5_like_4 8 rfl rfl)
theorem dX5_like_103 : decode cX5_like 103 = .ok (.ifCond .ne 7, 3) := dk_154 0 7 (dk_at dksX5_like_4 9 rfl rfl)
theorem dX5_like_106 : decode cX5_like 106 = .ok (.iload_n 3, 1) := dk_29 (dk_at dksX5_like_4 12 rfl rfl)
theorem dX5_like_107 : decode cX5_like 107 = .ok (.goto 5, 3) := dk_167 0 5 (dk_at dksX5_like_4 13 rfl rfl)
theorem dX5_like_110 : decode cX5_like 110 = .ok (.iload 4, 2) := dk_21 4 (dk_at dksX5_like_4 16 rfl rfl)
theorem dX5_like_112 : decode cX5_like 112 = .ok (.ireturn, 1) := dk_172 (dk_at dksX5_like_4 18 rfl rfl)
abbrev cX5_isSheet : ByteArray := prog_18_method_83_code
def yX5_isSheet : MethodName := ⟨RX5, "isSheet", "(I)Z"⟩
def dkwX5_isSheet_0 : List UInt8 := [26, 133, 9, 20, 0, 151, 184, 0, 68, 172]
abbrev dktX5_isSheet_0 : List UInt8 := dkwX5_isSheet_0 ++ []
theorem dksX5_isSheet_0 : cX5_isSheet.data.toList.drop 0 = dktX5_isSheet_0 := by decide +kernel
theorem dX5_isSheet_0 : decode cX5_isSheet 0 = .ok (.iload_n 0, 1) := dk_26 (dk_at dksX5_isSheet_0 0 rfl rfl)
theorem dX5_isSheet_1 : decode cX5_isSheet 1 = .ok (.i2l, 1) := dk_133 (dk_at dksX5_isSheet_0 1 rfl rfl)
theorem dX5_isSheet_2 : decode cX5_isSheet 2 = .ok (.lconst 0, 1) := dk_9 (dk_at dksX5_isSheet_0 2 rfl rfl)
theorem dX5_isSheet_3 : decode cX5_isSheet 3 = .ok (.ldc2_w 151, 3) := dk_20 0 151 (dk_at dksX5_isSheet_0 3 rfl rfl)
theorem dX5_isSheet_6 : decode cX5_isSheet 6 = .ok (.invokestatic 68, 3) := dk_184 0 68 (dk_at dksX5_isSheet_0 6 rfl rfl)
theorem dX5_isSheet_9 : decode cX5_isSheet 9 = .ok (.ireturn, 1) := dk_172 (dk_at dksX5_isSheet_0 9 rfl rfl)
abbrev cX5_offBy : ByteArray := prog_18_method_51_code
def yX5_offBy : MethodName := ⟨RX5, "offBy", "(II)I"⟩
def dkwX5_offBy_2 : List UInt8 := [28, 21, 4, 96, 17, 2, 208, 112, 46, 184, 0, 175, 96, 62, 132, 4, 1, 167, 255, 196, 29, 172]
abbrev dktX5_offBy_2 : List UInt8 := dkwX5_offBy_2 ++ []
def dkwX5_offBy_1 : List UInt8 := [21, 4, 96, 46, 54, 5, 29, 21, 5, 18, 67, 160, 0, 7, 3, 167, 0, 21, 21, 5, 42, 180, 0, 43]
abbrev dktX5_offBy_1 : List UInt8 := dkwX5_offBy_1 ++ dktX5_offBy_2
def dkwX5_offBy_0 : List UInt8 := [3, 62, 3, 54, 4, 21, 4, 42, 180, 0, 22, 27, 46, 162, 0, 55, 42, 180, 0, 25, 16, 24, 27, 104]
abbrev dktX5_offBy_0 : List UInt8 := dkwX5_offBy_0 ++ dktX5_offBy_1
theorem dksX5_offBy_0 : cX5_offBy.data.toList.drop 0 = dktX5_offBy_0 := by decide +kernel
theorem dksX5_offBy_1 : cX5_offBy.data.toList.drop 24 = dktX5_offBy_1 := dk_seg dksX5_offBy_0 24 rfl rfl
theorem dksX5_offBy_2 : cX5_offBy.data.toList.drop 48 = dktX5_offBy_2 := dk_seg dksX5_offBy_1 24 rfl rfl
theorem dX5_offBy_0 : decode cX5_offBy 0 = .ok (.iconst 0, 1) := dk_3 (dk_at dksX5_offBy_0 0 rfl rfl)
theorem dX5_offBy_1 : decode cX5_offBy 1 = .ok (.istore_n 3, 1) := dk_62 (dk_at dksX5_offBy_0 1 rfl rfl)
theorem dX5_offBy_2 : decode cX5_offBy 2 = .ok (.iconst 0, 1) := dk_3 (dk_at dksX5_offBy_0 2 rfl rfl)
theorem dX5_offBy_3 : decode cX5_offBy 3 = .ok (.istore 4, 2) := dk_54 4 (dk_at dksX5_offBy_0 3 rfl rfl)
theorem dX5_offBy_5 : decode cX5_offBy 5 = .ok (.iload 4, 2) := dk_21 4 (dk_at dksX5_offBy_0 5 rfl rfl)
theorem dX5_offBy_7 : decode cX5_offBy 7 = .ok (.aload_n 0, 1) := dk_42 (dk_at dksX5_offBy_0 7 rfl rfl)
theorem dX5_offBy_8 : decode cX5_offBy 8 = .ok (.getfield 22, 3) := dk_180 0 22 (dk_at dksX5_offBy_0 8 rfl rfl)
theorem dX5_offBy_11 : decode cX5_offBy 11 = .ok (.iload_n 1, 1) := dk_27 (dk_at dksX5_offBy_0 11 rfl rfl)
theorem dX5_offBy_12 : decode cX5_offBy 12 = .ok (.iaload, 1) := dk_46 (dk_at dksX5_offBy_0 12 rfl rfl)
theorem dX5_offBy_13 : decode cX5_offBy 13 = .ok (.if_icmp .ge 55, 3) := dk_162 0 55 (dk_at dksX5_offBy_0 13 rfl rfl)
theorem dX5_offBy_16 : decode cX5_offBy 16 = .ok (.aload_n 0, 1) := dk_42 (dk_at dksX5_offBy_0 16 rfl rfl)
theorem dX5_offBy_17 : decode cX5_offBy 17 = .ok (.getfield 25, 3) := dk_180 0 25 (dk_at dksX5_offBy_0 17 rfl rfl)
theorem dX5_offBy_20 : decode cX5_offBy 20 = .ok (.bipush 24, 2) := dk_16 24 (dk_at dksX5_offBy_0 20 rfl rfl)
theorem dX5_offBy_22 : decode cX5_offBy 22 = .ok (.iload_n 1, 1) := dk_27 (dk_at dksX5_offBy_0 22 rfl rfl)
theorem dX5_offBy_23 : decode cX5_offBy 23 = .ok (.imul, 1) := dk_104 (dk_at dksX5_offBy_0 23 rfl rfl)
theorem dX5_offBy_24 : decode cX5_offBy 24 = .ok (.iload 4, 2) := dk_21 4 (dk_at dksX5_offBy_1 0 rfl rfl)
theorem dX5_offBy_26 : decode cX5_offBy 26 = .ok (.iadd, 1) := dk_96 (dk_at dksX5_offBy_1 2 rfl rfl)
theorem dX5_offBy_27 : decode cX5_offBy 27 = .ok (.iaload, 1) := dk_46 (dk_at dksX5_offBy_1 3 rfl rfl)
theorem dX5_offBy_28 : decode cX5_offBy 28 = .ok (.istore 5, 2) := dk_54 5 (dk_at dksX5_offBy_1 4 rfl rfl)
theorem dX5_offBy_30 : decode cX5_offBy 30 = .ok (.iload_n 3, 1) := dk_29 (dk_at dksX5_offBy_1 6 rfl rfl)
theorem dX5_offBy_31 : decode cX5_offBy 31 = .ok (.iload 5, 2) := dk_21 5 (dk_at dksX5_offBy_1 7 rfl rfl)
theorem dX5_offBy_33 : decode cX5_offBy 33 = .ok (.ldc 67, 2) := dk_18 67 (dk_at dksX5_offBy_1 9 rfl rfl)
theorem dX5_offBy_35 : decode cX5_offBy 35 = .ok (.if_icmp .ne 7, 3) := dk_160 0 7 (dk_at dksX5_offBy_1 11 rfl rfl)
theorem dX5_offBy_38 : decode cX5_offBy 38 = .ok (.iconst 0, 1) := dk_3 (dk_at dksX5_offBy_1 14 rfl rfl)
theorem dX5_offBy_39 : decode cX5_offBy 39 = .ok (.goto 21, 3) := dk_167 0 21 (dk_at dksX5_offBy_1 15 rfl rfl)
theorem dX5_offBy_42 : decode cX5_offBy 42 = .ok (.iload 5, 2) := dk_21 5 (dk_at dksX5_offBy_1 18 rfl rfl)
theorem dX5_offBy_44 : decode cX5_offBy 44 = .ok (.aload_n 0, 1) := dk_42 (dk_at dksX5_offBy_1 20 rfl rfl)
theorem dX5_offBy_45 : decode cX5_offBy 45 = .ok (.getfield 43, 3) := dk_180 0 43 (dk_at dksX5_offBy_1 21 rfl rfl)
theorem dX5_offBy_48 : decode cX5_offBy 48 = .ok (.iload_n 2, 1) := dk_28 (dk_at dksX5_offBy_2 0 rfl rfl)
theorem dX5_offBy_49 : decode cX5_offBy 49 = .ok (.iload 4, 2) := dk_21 4 (dk_at dksX5_offBy_2 1 rfl rfl)
theorem dX5_offBy_51 : decode cX5_offBy 51 = .ok (.iadd, 1) := dk_96 (dk_at dksX5_offBy_2 3 rfl rfl)
theorem dX5_offBy_52 : decode cX5_offBy 52 = .ok (.sipush 720, 3) := dk_17 2 208 (dk_at dksX5_offBy_2 4 rfl rfl)
theorem dX5_offBy_55 : decode cX5_offBy 55 = .ok (.irem, 1) := dk_112 (dk_at dksX5_offBy_2 7 rfl rfl)
theorem dX5_offBy_56 : decode cX5_offBy 56 = .ok (.iaload, 1) := dk_46 (dk_at dksX5_offBy_2 8 rfl rfl)
theorem dX5_offBy_57 : decode cX5_offBy 57 = .ok (.invokestatic 175, 3) := dk_184 0 175 (dk_at dksX5_offBy_2 9 rfl rfl)
theorem dX5_offBy_60 : decode cX5_offBy 60 = .ok (.iadd, 1) := dk_96 (dk_at dksX5_offBy_2 12 rfl rfl)
theorem dX5_offBy_61 : decode cX5_offBy 61 = .ok (.istore_n 3, 1) := dk_62 (dk_at dksX5_offBy_2 13 rfl rfl)
theorem dX5_offBy_62 : decode cX5_offBy 62 = .ok (.iinc 4 1, 3) := dk_132 4 1 (dk_at dksX5_offBy_2 14 rfl rfl)
theorem dX5_offBy_65 : decode cX5_offBy 65 = .ok (.goto (-60), 3) := dk_167 255 196 (dk_at dksX5_offBy_2 17 rfl rfl)
theorem dX5_offBy_68 : decode cX5_offBy 68 = .ok (.iload_n 3, 1) := dk_29 (dk_at dksX5_offBy_2 20 rfl rfl)
theorem dX5_offBy_69 : decode cX5_offBy 69 = .ok (.ireturn, 1) := dk_172 (dk_at dksX5_offBy_2 21 rfl rfl)
abbrev cX5_off : ByteArray := prog_18_method_5_code
def yX5_off : MethodName := ⟨RX5, "off", "(II)I"⟩
def dkwX5_off_0 : List UInt8 := [26, 27, 162, 0, 9, 27, 26, 100, 167, 0, 6, 26, 27, 100, 172]
abbrev dktX5_off_0 : List UInt8 := dkwX5_off_0 ++ []
theorem dksX5_off_0 : cX5_off.data.toList.drop 0 = dktX5_off_0 := by decide +kernel
theorem dX5_off_0 : decode cX5_off 0 = .ok (.iload_n 0, 1) := dk_26 (dk_at dksX5_off_0 0 rfl rfl)
theorem dX5_off_1 : decode cX5_off 1 = .ok (.iload_n 1, 1) := dk_27 (dk_at dksX5_off_0 1 rfl rfl)
theorem dX5_off_2 : decode cX5_off 2 = .ok (.if_icmp .ge 9, 3) := dk_162 0 9 (dk_at dksX5_off_0 2 rfl rfl)
theorem dX5_off_5 : decode cX5_off 5 = .ok (.iload_n 1, 1) := dk_27 (dk_at dksX5_off_0 5 rfl rfl)
theorem dX5_off_6 : decode cX5_off 6 = .ok (.iload_n 0, 1) := dk_26 (dk_at dksX5_off_0 6 rfl rfl)
theorem dX5_off_7 : decode cX5_off 7 = .ok (.isub, 1) := dk_100 (dk_at dksX5_off_0 7 rfl rfl)
theorem dX5_off_8 : decode cX5_off 8 = .ok (.goto 6, 3) := dk_167 0 6 (dk_at dksX5_off_0 8 rfl rfl)
theorem dX5_off_11 : decode cX5_off 11 = .ok (.iload_n 0, 1) := dk_26 (dk_at dksX5_off_0 11 rfl rfl)
theorem dX5_off_12 : decode cX5_off 12 = .ok (.iload_n 1, 1) := dk_27 (dk_at dksX5_off_0 12 rfl rfl)
theorem dX5_off_13 : decode cX5_off 13 = .ok (.isub, 1) := dk_100 (dk_at dksX5_off_0 13 rfl rfl)
theorem dX5_off_14 : decode cX5_off 14 = .ok (.ireturn, 1) := dk_172 (dk_at dksX5_off_0 14 rfl rfl)
abbrev cX5_behind : ByteArray := prog_18_method_55_code
def yX5_behind : MethodName := ⟨RX5, "behind", "(II)I"⟩
def dkwX5_behind_2 : List UInt8 := [180, 0, 7, 6, 28, 96, 46, 167, 0, 7, 42, 182, 0, 164, 62, 42, 182, 0, 188, 29, 172]
abbrev dktX5_behind_2 : List UInt8 := dkwX5_behind_2 ++ []
def dkwX5_behind_1 : List UInt8 := [18, 83, 172, 42, 182, 0, 161, 42, 182, 0, 185, 42, 27, 182, 0, 147, 28, 6, 162, 0, 14, 42]
abbrev dktX5_behind_1 : List UInt8 := dkwX5_behind_1 ++ dktX5_behind_2
def dkwX5_behind_0 : List UInt8 := [27, 133, 9, 20, 0, 137, 184, 0, 68, 153, 0, 15, 28, 133, 9, 20, 0, 151, 184, 0, 68, 154, 0, 6]
abbrev dktX5_behind_0 : List UInt8 := dkwX5_behind_0 ++ dktX5_behind_1
theorem dksX5_behind_0 : cX5_behind.data.toList.drop 0 = dktX5_behind_0 := by decide +kernel
theorem dksX5_behind_1 : cX5_behind.data.toList.drop 24 = dktX5_behind_1 := dk_seg dksX5_behind_0 24 rfl rfl
theorem dksX5_behind_2 : cX5_behind.data.toList.drop 46 = dktX5_behind_2 := dk_seg dksX5_behind_1 22 rfl rfl
theorem dX5_behind_0 : decode cX5_behind 0 = .ok (.iload_n 1, 1) := dk_27 (dk_at dksX5_behind_0 0 rfl rfl)
theorem dX5_behind_1 : decode cX5_behind 1 = .ok (.i2l, 1) := dk_133 (dk_at dksX5_behind_0 1 rfl rfl)
theorem dX5_behind_2 : decode cX5_behind 2 = .ok (.lconst 0, 1) := dk_9 (dk_at dksX5_behind_0 2 rfl rfl)
theorem dX5_behind_3 : decode cX5_behind 3 = .ok (.ldc2_w 137, 3) := dk_20 0 137 (dk_at dksX5_behind_0 3 rfl rfl)
theorem dX5_behind_6 : decode cX5_behind 6 = .ok (.invokestatic 68, 3) := dk_184 0 68 (dk_at dksX5_behind_0 6 rfl rfl)
theorem dX5_behind_9 : decode cX5_behind 9 = .ok (.ifCond .eq 15, 3) := dk_153 0 15 (dk_at dksX5_behind_0 9 rfl rfl)
theorem dX5_behind_12 : decode cX5_behind 12 = .ok (.iload_n 2, 1) := dk_28 (dk_at dksX5_behind_0 12 rfl rfl)
theorem dX5_behind_13 : decode cX5_behind 13 = .ok (.i2l, 1) := dk_133 (dk_at dksX5_behind_0 13 rfl rfl)
theorem dX5_behind_14 : decode cX5_behind 14 = .ok (.lconst 0, 1) := dk_9 (dk_at dksX5_behind_0 14 rfl rfl)
theorem dX5_behind_15 : decode cX5_behind 15 = .ok (.ldc2_w 151, 3) := dk_20 0 151 (dk_at dksX5_behind_0 15 rfl rfl)
theorem dX5_behind_18 : decode cX5_behind 18 = .ok (.invokestatic 68, 3) := dk_184 0 68 (dk_at dksX5_behind_0 18 rfl rfl)
theorem dX5_behind_21 : decode cX5_behind 21 = .ok (.ifCond .ne 6, 3) := dk_154 0 6 (dk_at dksX5_behind_0 21 rfl rfl)
theorem dX5_behind_24 : decode cX5_behind 24 = .ok (.ldc 83, 2) := dk_18 83 (dk_at dksX5_behind_1 0 rfl rfl)
theorem dX5_behind_26 : decode cX5_behind 26 = .ok (.ireturn, 1) := dk_172 (dk_at dksX5_behind_1 2 rfl rfl)
theorem dX5_behind_27 : decode cX5_behind 27 = .ok (.aload_n 0, 1) := dk_42 (dk_at dksX5_behind_1 3 rfl rfl)
theorem dX5_behind_28 : decode cX5_behind 28 = .ok (.invokevirtual 161, 3) := dk_182 0 161 (dk_at dksX5_behind_1 4 rfl rfl)
theorem dX5_behind_31 : decode cX5_behind 31 = .ok (.aload_n 0, 1) := dk_42 (dk_at dksX5_behind_1 7 rfl rfl)
theorem dX5_behind_32 : decode cX5_behind 32 = .ok (.invokevirtual 185, 3) := dk_182 0 185 (dk_at dksX5_behind_1 8 rfl rfl)
theorem dX5_behind_35 : decode cX5_behind 35 = .ok (.aload_n 0, 1) := dk_42 (dk_at dksX5_behind_1 11 rfl rfl)
theorem dX5_behind_36 : decode cX5_behind 36 = .ok (.iload_n 1, 1) := dk_27 (dk_at dksX5_behind_1 12 rfl rfl)
theorem dX5_behind_37 : decode cX5_behind 37 = .ok (.invokevirtual 147, 3) := dk_182 0 147 (dk_at dksX5_behind_1 13 rfl rfl)
theorem dX5_behind_40 : decode cX5_behind 40 = .ok (.iload_n 2, 1) := dk_28 (dk_at dksX5_behind_1 16 rfl rfl)
theorem dX5_behind_41 : decode cX5_behind 41 = .ok (.iconst 3, 1) := dk_6 (dk_at dksX5_behind_1 17 rfl rfl)
theorem dX5_behind_42 : decode cX5_behind 42 = .ok (.if_icmp .ge 14, 3) := dk_162 0 14 (dk_at dksX5_behind_1 18 rfl rfl)
theorem dX5_behind_45 : decode cX5_behind 45 = .ok (.aload_n 0, 1) := dk_42 (dk_at dksX5_behind_1 21 rfl rfl)
theorem dX5_behind_46 : decode cX5_behind 46 = .ok (.getfield 7, 3) := dk_180 0 7 (dk_at dksX5_behind_2 0 rfl rfl)
theorem dX5_behind_49 : decode cX5_behind 49 = .ok (.iconst 3, 1) := dk_6 (dk_at dksX5_behind_2 3 rfl rfl)
theorem dX5_behind_50 : decode cX5_behind 50 = .ok (.iload_n 2, 1) := dk_28 (dk_at dksX5_behind_2 4 rfl rfl)
theorem dX5_behind_51 : decode cX5_behind 51 = .ok (.iadd, 1) := dk_96 (dk_at dksX5_behind_2 5 rfl rfl)
theorem dX5_behind_52 : decode cX5_behind 52 = .ok (.iaload, 1) := dk_46 (dk_at dksX5_behind_2 6 rfl rfl)
theorem dX5_behind_53 : decode cX5_behind 53 = .ok (.goto 7, 3) := dk_167 0 7 (dk_at dksX5_behind_2 7 rfl rfl)
theorem dX5_behind_56 : decode cX5_behind 56 = .ok (.aload_n 0, 1) := dk_42 (dk_at dksX5_behind_2 10 rfl rfl)
theorem dX5_behind_57 : decode cX5_behind 57 = .ok (.invokevirtual 164, 3) := dk_182 0 164 (dk_at dksX5_behind_2 11 rfl rfl)
theorem dX5_behind_60 : decode cX5_behind 60 = .ok (.istore_n 3, 1) := dk_62 (dk_at dksX5_behind_2 14 rfl rfl)
theorem dX5_behind_61 : decode cX5_behind 61 = .ok (.aload_n 0, 1) := dk_42 (dk_at dksX5_behind_2 15 rfl rfl)
theorem dX5_behind_62 : decode cX5_behind 62 = .ok (.invokevirtual 188, 3) := dk_182 0 188 (dk_at dksX5_behind_2 16 rfl rfl)
theorem dX5_behind_65 : decode cX5_behind 65 = .ok (.iload_n 3, 1) := dk_29 (dk_at dksX5_behind_2 19 rfl rfl)
theorem dX5_behind_66 : decode cX5_behind 66 = .ok (.ireturn, 1) := dk_172 (dk_at dksX5_behind_2 20 rfl rfl)
abbrev cX5_laysBy : ByteArray := prog_18_method_53_code
def yX5_laysBy : MethodName := ⟨RX5, "laysBy", "()V"⟩
def dkwX5_laysBy_1 : List UInt8 := [167, 255, 235, 177]
abbrev dktX5_laysBy_1 : List UInt8 := dkwX5_laysBy_1 ++ []
def dkwX5_laysBy_0 : List UInt8 := [3, 60, 27, 16, 40, 162, 0, 21, 42, 180, 0, 46, 27, 42, 180, 0, 7, 27, 46, 79, 132, 1, 1]
abbrev dktX5_laysBy_0 : List UInt8 := dkwX5_laysBy_0 ++ dktX5_laysBy_1
theorem dksX5_laysBy_0 : cX5_laysBy.data.toList.drop 0 = dktX5_laysBy_0 := by decide +kernel
theorem dksX5_laysBy_1 : cX5_laysBy.data.toList.drop 23 = dktX5_laysBy_1 := dk_seg dksX5_laysBy_0 23 rfl rfl
theorem dX5_laysBy_0 : decode cX5_laysBy 0 = .ok (.iconst 0, 1) := dk_3 (dk_at dksX5_laysBy_0 0 rfl rfl)
theorem dX5_laysBy_1 : decode cX5_laysBy 1 = .ok (.istore_n 1, 1) := dk_60 (dk_at dksX5_laysBy_0 1 rfl rfl)
theorem dX5_laysBy_2 : decode cX5_laysBy 2 = .ok (.iload_n 1, 1) := dk_27 (dk_at dksX5_laysBy_0 2 rfl rfl)
theorem dX5_laysBy_3 : decode cX5_laysBy 3 = .ok (.bipush 40, 2) := dk_16 40 (dk_at dksX5_laysBy_0 3 rfl rfl)
theorem dX5_laysBy_5 : decode cX5_laysBy 5 = .ok (.if_icmp .ge 21, 3) := dk_162 0 21 (dk_at dksX5_laysBy_0 5 rfl rfl)
theorem dX5_laysBy_8 : decode cX5_laysBy 8 = .ok (.aload_n 0, 1) := dk_42 (dk_at dksX5_laysBy_0 8 rfl rfl)
theorem dX5_laysBy_9 : decode cX5_laysBy 9 = .ok (.getfield 46, 3) := dk_180 0 46 (dk_at dksX5_laysBy_0 9 rfl rfl)
theorem dX5_laysBy_12 : decode cX5_laysBy 12 = .ok (.iload_n 1, 1) := dk_27 (dk_at dksX5_laysBy_0 12 rfl rfl)
theorem dX5_laysBy_13 : decode cX5_laysBy 13 = .ok (.aload_n 0, 1) := dk_42 (dk_at dksX5_laysBy_0 13 rfl rfl)
theorem dX5_laysBy_14 : decode cX5_laysBy 14 = .ok (.getfield 7, 3) := dk_180 0 7 (dk_at dksX5_laysBy_0 14 rfl rfl)
theorem dX5_laysBy_17 : decode cX5_laysBy 17 = .ok (.iload_n 1, 1) := dk_27 (dk_at dksX5_laysBy_0 17 rfl rfl)
theorem dX5_laysBy_18 : decode cX5_laysBy 18 = .ok (.iaload, 1) := dk_46 (dk_at dksX5_laysBy_0 18 rfl rfl)
theorem dX5_laysBy_19 : decode cX5_laysBy 19 = .ok (.iastore, 1) := dk_79 (dk_at dksX5_laysBy_0 19 rfl rfl)
theorem dX5_laysBy_20 : decode cX5_laysBy 20 = .ok (.iinc 1 1, 3) := dk_132 1 1 (dk_at dksX5_laysBy_0 20 rfl rfl)
theorem dX5_laysBy_23 : decode cX5_laysBy 23 = .ok (.goto (-21), 3) := dk_167 255 235 (dk_at dksX5_laysBy_1 0 rfl rfl)
theorem dX5_laysBy_26 : decode cX5_laysBy 26 = .ok (.return_, 1) := dk_177 (dk_at dksX5_laysBy_1 3 rfl rfl)
abbrev cX5_laysBack : ByteArray := prog_18_method_54_code
def yX5_laysBack : MethodName := ⟨RX5, "laysBack", "()V"⟩
def dkwX5_laysBack_1 : List UInt8 := [167, 255, 235, 177]
abbrev dktX5_laysBack_1 : List UInt8 := dkwX5_laysBack_1 ++ []
def dkwX5_laysBack_0 : List UInt8 := [3, 60, 27, 16, 40, 162, 0, 21, 42, 180, 0, 7, 27, 42, 180, 0, 46, 27, 46, 79, 132, 1, 1]
abbrev dktX5_laysBack_0 : List UInt8 := dkwX5_laysBack_0 ++ dktX5_laysBack_1
theorem dksX5_laysBack_0 : cX5_laysBack.data.toList.drop 0 = dktX5_laysBack_0 := by decide +kernel
theorem dksX5_laysBack_1 : cX5_laysBack.data.toList.drop 23 = dktX5_laysBack_1 := dk_seg dksX5_laysBack_0 23 rfl rfl
theorem dX5_laysBack_0 : decode cX5_laysBack 0 = .ok (.iconst 0, 1) := dk_3 (dk_at dksX5_laysBack_0 0 rfl rfl)
theorem dX5_laysBack_1 : decode cX5_laysBack 1 = .ok (.istore_n 1, 1) := dk_60 (dk_at dksX5_laysBack_0 1 rfl rfl)
theorem dX5_laysBack_2 : decode cX5_laysBack 2 = .ok (.iload_n 1, 1) := dk_27 (dk_at dksX5_laysBack_0 2 rfl rfl)
theorem dX5_laysBack_3 : decode cX5_laysBack 3 = .ok (.bipush 40, 2) := dk_16 40 (dk_at dksX5_laysBack_0 3 rfl rfl)
theorem dX5_laysBack_5 : decode cX5_laysBack 5 = .ok (.if_icmp .ge 21, 3) := dk_162 0 21 (dk_at dksX5_laysBack_0 5 rfl rfl)
theorem dX5_laysBack_8 : decode cX5_laysBack 8 = .ok (.aload_n 0, 1) := dk_42 (dk_at dksX5_laysBack_0 8 rfl rfl)
theorem dX5_laysBack_9 : decode cX5_laysBack 9 = .ok (.getfield 7, 3) := dk_180 0 7 (dk_at dksX5_laysBack_0 9 rfl rfl)
theorem dX5_laysBack_12 : decode cX5_laysBack 12 = .ok (.iload_n 1, 1) := dk_27 (dk_at dksX5_laysBack_0 12 rfl rfl)
theorem dX5_laysBack_13 : decode cX5_laysBack 13 = .ok (.aload_n 0, 1) := dk_42 (dk_at dksX5_laysBack_0 13 rfl rfl)
theorem dX5_laysBack_14 : decode cX5_laysBack 14 = .ok (.getfield 46, 3) := dk_180 0 46 (dk_at dksX5_laysBack_0 14 rfl rfl)
theorem dX5_laysBack_17 : decode cX5_laysBack 17 = .ok (.iload_n 1, 1) := dk_27 (dk_at dksX5_laysBack_0 17 rfl rfl)
theorem dX5_laysBack_18 : decode cX5_laysBack 18 = .ok (.iaload, 1) := dk_46 (dk_at dksX5_laysBack_0 18 rfl rfl)
theorem dX5_laysBack_19 : decode cX5_laysBack 19 = .ok (.iastore, 1) := dk_79 (dk_at dksX5_laysBack_0 19 rfl rfl)
theorem dX5_laysBack_20 : decode cX5_laysBack 20 = .ok (.iinc 1 1, 3) := dk_132 1 1 (dk_at dksX5_laysBack_0 20 rfl rfl)
theorem dX5_laysBack_23 : decode cX5_laysBack 23 = .ok (.goto (-21), 3) := dk_167 255 235 (dk_at dksX5_laysBack_1 0 rfl rfl)
theorem dX5_laysBack_26 : decode cX5_laysBack 26 = .ok (.return_, 1) := dk_177 (dk_at dksX5_laysBack_1 3 rfl rfl)
abbrev cX5_listen : ByteArray := prog_18_method_56_code
def yX5_listen : MethodName := ⟨RX5, "listen", "()I"⟩
def dkwX5_listen_2 : List UInt8 := [18, 67, 172]
abbrev dktX5_listen_2 : List UInt8 := dkwX5_listen_2 ++ []
def dkwX5_listen_1 : List UInt8 := [182, 0, 144, 132, 1, 1, 167, 255, 236, 42, 182, 0, 188, 27, 16, 60, 163, 0, 7, 27, 167, 0, 5]
abbrev dktX5_listen_1 : List UInt8 := dkwX5_listen_1 ++ dktX5_listen_2
def dkwX5_listen_0 : List UInt8 := [42, 182, 0, 161, 42, 182, 0, 185, 3, 60, 27, 16, 60, 163, 0, 20, 42, 182, 0, 167, 154, 0, 13, 42]
abbrev dktX5_listen_0 : List UInt8 := dkwX5_listen_0 ++ dktX5_listen_1
theorem dksX5_listen_0 : cX5_listen.data.toList.drop 0 = dktX5_listen_0 := by decide +kernel
theorem dksX5_listen_1 : cX5_listen.data.toList.drop 24 = dktX5_listen_1 := dk_seg dksX5_listen_0 24 rfl rfl
theorem dksX5_listen_2 : cX5_listen.data.toList.drop 47 = dktX5_listen_2 := dk_seg dksX5_listen_1 23 rfl rfl
theorem dX5_listen_0 : decode cX5_listen 0 = .ok (.aload_n 0, 1) := dk_42 (dk_at dksX5_listen_0 0 rfl rfl)
theorem dX5_listen_1 : decode cX5_listen 1 = .ok (.invokevirtual 161, 3) := dk_182 0 161 (dk_at dksX5_listen_0 1 rfl rfl)
theorem dX5_listen_4 : decode cX5_listen 4 = .ok (.aload_n 0, 1) := dk_42 (dk_at dksX5_listen_0 4 rfl rfl)
theorem dX5_listen_5 : decode cX5_listen 5 = .ok (.invokevirtual 185, 3) := dk_182 0 185 (dk_at dksX5_listen_0 5 rfl rfl)
theorem dX5_listen_8 : decode cX5_listen 8 = .ok (.iconst 0, 1) := dk_3 (dk_at dksX5_listen_0 8 rfl rfl)
theorem dX5_listen_9 : decode cX5_listen 9 = .ok (.istore_n 1, 1) := dk_60 (dk_at dksX5_listen_0 9 rfl rfl)
theorem dX5_listen_10 : decode cX5_listen 10 = .ok (.iload_n 1, 1) := dk_27 (dk_at dksX5_listen_0 10 rfl rfl)
theorem dX5_listen_11 : decode cX5_listen 11 = .ok (.bipush 60, 2) := dk_16 60 (dk_at dksX5_listen_0 11 rfl rfl)
theorem dX5_listen_13 : decode cX5_listen 13 = .ok (.if_icmp .gt 20, 3) := dk_163 0 20 (dk_at dksX5_listen_0 13 rfl rfl)
theorem dX5_listen_16 : decode cX5_listen 16 = .ok (.aload_n 0, 1) := dk_42 (dk_at dksX5_listen_0 16 rfl rfl)
theorem dX5_listen_17 : decode cX5_listen 17 = .ok (.invokevirtual 167, 3) := dk_182 0 167 (dk_at dksX5_listen_0 17 rfl rfl)
theorem dX5_listen_20 : decode cX5_listen 20 = .ok (.ifCond .ne 13, 3) := dk_154 0 13 (dk_at dksX5_listen_0 20 rfl rfl)
theorem dX5_listen_23 : decode cX5_listen 23 = .ok (.aload_n 0, 1) := dk_42 (dk_at dksX5_listen_0 23 rfl rfl)
theorem dX5_listen_24 : decode cX5_listen 24 = .ok (.invokevirtual 144, 3) := dk_182 0 144 (dk_at dksX5_listen_1 0 rfl rfl)
theorem dX5_listen_27 : decode cX5_listen 27 = .ok (.iinc 1 1, 3) := dk_132 1 1 (dk_at dksX5_listen_1 3 rfl rfl)
theorem dX5_listen_30 : decode cX5_listen 30 = .ok (.goto (-20), 3) := dk_167 255 236 (dk_at dksX5_listen_1 6 rfl rfl)
theorem dX5_listen_33 : decode cX5_listen 33 = .ok (.aload_n 0, 1) := dk_42 (dk_at dksX5_listen_1 9 rfl rfl)
theorem dX5_listen_34 : decode cX5_listen 34 = .ok (.invokevirtual 188, 3) := dk_182 0 188 (dk_at dksX5_listen_1 10 rfl rfl)
theorem dX5_listen_37 : decode cX5_listen 37 = .ok (.iload_n 1, 1) := dk_27 (dk_at dksX5_listen_1 13 rfl rfl)
theorem dX5_listen_38 : decode cX5_listen 38 = .ok (.bipush 60, 2) := dk_16 60 (dk_at dksX5_listen_1 14 rfl rfl)
theorem dX5_listen_40 : decode cX5_listen 40 = .ok (.if_icmp .gt 7, 3) := dk_163 0 7 (dk_at dksX5_listen_1 16 rfl rfl)
theorem dX5_listen_43 : decode cX5_listen 43 = .ok (.iload_n 1, 1) := dk_27 (dk_at dksX5_listen_1 19 rfl rfl)
theorem dX5_listen_44 : decode cX5_listen 44 = .ok (.goto 5, 3) := dk_167 0 5 (dk_at dksX5_listen_1 20 rfl rfl)
theorem dX5_listen_47 : decode cX5_listen 47 = .ok (.ldc 67, 2) := dk_18 67 (dk_at dksX5_listen_2 0 rfl rfl)
theorem dX5_listen_49 : decode cX5_listen 49 = .ok (.ireturn, 1) := dk_172 (dk_at dksX5_listen_2 2 rfl rfl)
abbrev cX5_fee : ByteArray := prog_18_method_57_code
def yX5_fee : MethodName := ⟨RX5, "fee", "()I"⟩
def dkwX5_fee_2 : List UInt8 := [172]
abbrev dktX5_fee_2 : List UInt8 := dkwX5_fee_2 ++ []
def dkwX5_fee_1 : List UInt8 := [180, 0, 7, 6, 46, 79, 42, 180, 0, 52, 16, 109, 42, 180, 0, 7, 7, 46, 79, 42, 27, 182, 0, 96]
abbrev dktX5_fee_1 : List UInt8 := dkwX5_fee_1 ++ dktX5_fee_2
def dkwX5_fee_0 : List UInt8 := [42, 4, 182, 0, 92, 60, 27, 156, 0, 10, 42, 180, 0, 7, 6, 46, 172, 42, 180, 0, 52, 16, 101, 42]
abbrev dktX5_fee_0 : List UInt8 := dkwX5_fee_0 ++ dktX5_fee_1
theorem dksX5_fee_0 : cX5_fee.data.toList.drop 0 = dktX5_fee_0 := by decide +kernel
theorem dksX5_fee_1 : cX5_fee.data.toList.drop 24 = dktX5_fee_1 := dk_seg dksX5_fee_0 24 rfl rfl
theorem dksX5_fee_2 : cX5_fee.data.toList.drop 48 = dktX5_fee_2 := dk_seg dksX5_fee_1 24 rfl rfl
theorem dX5_fee_0 : decode cX5_fee 0 = .ok (.aload_n 0, 1) := dk_42 (dk_at dksX5_fee_0 0 rfl rfl)
theorem dX5_fee_1 : decode cX5_fee 1 = .ok (.iconst 1, 1) := dk_4 (dk_at dksX5_fee_0 1 rfl rfl)
theorem dX5_fee_2 : decode cX5_fee 2 = .ok (.invokevirtual 92, 3) := dk_182 0 92 (dk_at dksX5_fee_0 2 rfl rfl)
theorem dX5_fee_5 : decode cX5_fee 5 = .ok (.istore_n 1, 1) := dk_60 (dk_at dksX5_fee_0 5 rfl rfl)
theorem dX5_fee_6 : decode cX5_fee 6 = .ok (.iload_n 1, 1) := dk_27 (dk_at dksX5_fee_0 6 rfl rfl)
theorem dX5_fee_7 : decode cX5_fee 7 = .ok (.ifCond .ge 10, 3) := dk_156 0 10 (dk_at dksX5_fee_0 7 rfl rfl)
theorem dX5_fee_10 : decode cX5_fee 10 = .ok (.aload_n 0, 1) := dk_42 (dk_at dksX5_fee_0 10 rfl rfl)
theorem dX5_fee_11 : decode cX5_fee 11 = .ok (.getfield 7, 3) := dk_180 0 7 (dk_at dksX5_fee_0 11 rfl rfl)
theorem dX5_fee_14 : decode cX5_fee 14 = .ok (.iconst 3, 1) := dk_6 (dk_at dksX5_fee_0 14 rfl rfl)
theorem dX5_fee_15 : decode cX5_fee 15 = .ok (.iaload, 1) := dk_46 (dk_at dksX5_fee_0 15 rfl rfl)
theorem dX5_fee_16 : decode cX5_fee 16 = .ok (.ireturn, 1) := dk_172 (dk_at dksX5_fee_0 16 rfl rfl)
theorem dX5_fee_17 : decode cX5_fee 17 = .ok (.aload_n 0, 1) := dk_42 (dk_at dksX5_fee_0 17 rfl rfl)
theorem dX5_fee_18 : decode cX5_fee 18 = .ok (.getfield 52, 3) := dk_180 0 52 (dk_at dksX5_fee_0 18 rfl rfl)
theorem dX5_fee_21 : decode cX5_fee 21 = .ok (.bipush 101, 2) := dk_16 101 (dk_at dksX5_fee_0 21 rfl rfl)
theorem dX5_fee_23 : decode cX5_fee 23 = .ok (.aload_n 0, 1) := dk_42 (dk_at dksX5_fee_0 23 rfl rfl)
theorem dX5_fee_24 : decode cX5_fee 24 = .ok (.getfield 7, 3) := dk_180 0 7 (dk_at dksX5_fee_1 0 rfl rfl)
theorem dX5_fee_27 : decode cX5_fee 27 = .ok (.iconst 3, 1) := dk_6 (dk_at dksX5_fee_1 3 rfl rfl)
theorem dX5_fee_28 : decode cX5_fee 28 = .ok (.iaload, 1) := dk_46 (dk_at dksX5_fee_1 4 rfl rfl)
theorem dX5_fee_29 : decode cX5_fee 29 = .ok (.iastore, 1) := dk_79 (dk_at dksX5_fee_1 5 rfl rfl)
theorem dX5_fee_30 : decode cX5_fee 30 = .ok (.aload_n 0, 1) := dk_42 (dk_at dksX5_fee_1 6 rfl rfl)
theorem dX5_fee_31 : decode cX5_fee 31 = .ok (.getfield 52, 3) := dk_180 0 52 (dk_at dksX5_fee_1 7 rfl rfl)
theorem dX5_fee_34 : decode cX5_fee 34 = .ok (.bipush 109, 2) := dk_16 109 (dk_at dksX5_fee_1 10 rfl rfl)
theorem dX5_fee_36 : decode cX5_fee 36 = .ok (.aload_n 0, 1) := dk_42 (dk_at dksX5_fee_1 12 rfl rfl)
theorem dX5_fee_37 : decode cX5_fee 37 = .ok (.getfield 7, 3) := dk_180 0 7 (dk_at dksX5_fee_1 13 rfl rfl)
theorem dX5_fee_40 : decode cX5_fee 40 = .ok (.iconst 4, 1) := dk_7 (dk_at dksX5_fee_1 16 rfl rfl)
theorem dX5_fee_41 : decode cX5_fee 41 = .ok (.iaload, 1) := dk_46 (dk_at dksX5_fee_1 17 rfl rfl)
theorem dX5_fee_42 : decode cX5_fee 42 = .ok (.iastore, 1) := dk_79 (dk_at dksX5_fee_1 18 rfl rfl)
theorem dX5_fee_43 : decode cX5_fee 43 = .ok (.aload_n 0, 1) := dk_42 (dk_at dksX5_fee_1 19 rfl rfl)
theorem dX5_fee_44 : decode cX5_fee 44 = .ok (.iload_n 1, 1) := dk_27 (dk_at dksX5_fee_1 20 rfl rfl)
theorem dX5_fee_45 : decode cX5_fee 45 = .ok (.invokevirtual 96, 3) := dk_182 0 96 (dk_at dksX5_fee_1 21 rfl rfl)
theorem dX5_fee_48 : decode cX5_fee 48 = .ok (.ireturn, 1) := dk_172 (dk_at dksX5_fee_2 0 rfl rfl)
abbrev cX5_fine : ByteArray := prog_18_method_58_code
def yX5_fine : MethodName := ⟨RX5, "fine", "(I)I"⟩
def dkwX5_fine_2 : List UInt8 := [27, 5, 182, 0, 88, 79, 42, 28, 182, 0, 96, 172]
abbrev dktX5_fine_2 : List UInt8 := dkwX5_fine_2 ++ []
def dkwX5_fine_1 : List UInt8 := [182, 0, 88, 172, 42, 180, 0, 52, 16, 111, 42, 27, 4, 182, 0, 88, 79, 42, 180, 0, 52, 16, 116, 42]
abbrev dktX5_fine_1 : List UInt8 := dkwX5_fine_1 ++ dktX5_fine_2
def dkwX5_fine_0 : List UInt8 := [42, 27, 182, 0, 107, 154, 0, 6, 18, 83, 172, 42, 5, 182, 0, 92, 61, 28, 156, 0, 10, 42, 27, 4]
abbrev dktX5_fine_0 : List UInt8 := dkwX5_fine_0 ++ dktX5_fine_1
theorem dksX5_fine_0 : cX5_fine.data.toList.drop 0 = dktX5_fine_0 := by decide +kernel
theorem dksX5_fine_1 : cX5_fine.data.toList.drop 24 = dktX5_fine_1 := dk_seg dksX5_fine_0 24 rfl rfl
theorem dksX5_fine_2 : cX5_fine.data.toList.drop 48 = dktX5_fine_2 := dk_seg dksX5_fine_1 24 rfl rfl
theorem dX5_fine_0 : decode cX5_fine 0 = .ok (.aload_n 0, 1) := dk_42 (dk_at dksX5_fine_0 0 rfl rfl)
theorem dX5_fine_1 : decode cX5_fine 1 = .ok (.iload_n 1, 1) := dk_27 (dk_at dksX5_fine_0 1 rfl rfl)
theorem dX5_fine_2 : decode cX5_fine 2 = .ok (.invokevirtual 107, 3) := dk_182 0 107 (dk_at dksX5_fine_0 2 rfl rfl)
theorem dX5_fine_5 : decode cX5_fine 5 = .ok (.ifCond .ne 6, 3) := dk_154 0 6 (dk_at dksX5_fine_0 5 rfl rfl)
theorem dX5_fine_8 : decode cX5_fine 8 = .ok (.ldc 83, 2) := dk_18 83 (dk_at dksX5_fine_0 8 rfl rfl)
theorem dX5_fine_10 : decode cX5_fine 10 = .ok (.ireturn, 1) := dk_172 (dk_at dksX5_fine_0 10 rfl rfl)
theorem dX5_fine_11 : decode cX5_fine 11 = .ok (.aload_n 0, 1) := dk_42 (dk_at dksX5_fine_0 11 rfl rfl)
theorem dX5_fine_12 : decode cX5_fine 12 = .ok (.iconst 2, 1) := dk_5 (dk_at dksX5_fine_0 12 rfl rfl)
theorem dX5_fine_13 : decode cX5_fine 13 = .ok (.invokevirtual 92, 3) := dk_182 0 92 (dk_at dksX5_fine_0 13 rfl rfl)
theorem dX5_fine_16 : decode cX5_fine 16 = .ok (.istore_n 2, 1) := dk_61 (dk_at dksX5_fine_0 16 rfl rfl)
theorem dX5_fine_17 : decode cX5_fine 17 = .ok (.iload_n 2, 1) := dk_28 (dk_at dksX5_fine_0 17 rfl rfl)
theorem dX5_fine_18 : decode cX5_fine 18 = .ok (.ifCond .ge 10, 3) := dk_156 0 10 (dk_at dksX5_fine_0 18 rfl rfl)
theorem dX5_fine_21 : decode cX5_fine 21 = .ok (.aload_n 0, 1) := dk_42 (dk_at dksX5_fine_0 21 rfl rfl)
theorem dX5_fine_22 : decode cX5_fine 22 = .ok (.iload_n 1, 1) := dk_27 (dk_at dksX5_fine_0 22 rfl rfl)
theorem dX5_fine_23 : decode cX5_fine 23 = .ok (.iconst 1, 1) := dk_4 (dk_at dksX5_fine_0 23 rfl rfl)
theorem dX5_fine_24 : decode cX5_fine 24 = .ok (.invokevirtual 88, 3) := dk_182 0 88 (dk_at dksX5_fine_1 0 rfl rfl)
theorem dX5_fine_27 : decode cX5_fine 27 = .ok (.ireturn, 1) := dk_172 (dk_at dksX5_fine_1 3 rfl rfl)
theorem dX5_fine_28 : decode cX5_fine 28 = .ok (.aload_n 0, 1) := dk_42 (dk_at dksX5_fine_1 4 rfl rfl)
theorem dX5_fine_29 : decode cX5_fine 29 = .ok (.getfield 52, 3) := dk_180 0 52 (dk_at dksX5_fine_1 5 rfl rfl)
theorem dX5_fine_32 : decode cX5_fine 32 = .ok (.bipush 111, 2) := dk_16 111 (dk_at dksX5_fine_1 8 rfl rfl)
theorem dX5_fine_34 : decode cX5_fine 34 = .ok (.aload_n 0, 1) := dk_42 (dk_at dksX5_fine_1 10 rfl rfl)
theorem dX5_fine_35 : decode cX5_fine 35 = .ok (.iload_n 1, 1) := dk_27 (dk_at dksX5_fine_1 11 rfl rfl)
theorem dX5_fine_36 : decode cX5_fine 36 = .ok (.iconst 1, 1) := dk_4 (dk_at dksX5_fine_1 12 rfl rfl)
theorem dX5_fine_37 : decode cX5_fine 37 = .ok (.invokevirtual 88, 3) := dk_182 0 88 (dk_at dksX5_fine_1 13 rfl rfl)
theorem dX5_fine_40 : decode cX5_fine 40 = .ok (.iastore, 1) := dk_79 (dk_at dksX5_fine_1 16 rfl rfl)
theorem dX5_fine_41 : decode cX5_fine 41 = .ok (.aload_n 0, 1) := dk_42 (dk_at dksX5_fine_1 17 rfl rfl)
theorem dX5_fine_42 : decode cX5_fine 42 = .ok (.getfield 52, 3) := dk_180 0 52 (dk_at dksX5_fine_1 18 rfl rfl)
theorem dX5_fine_45 : decode cX5_fine 45 = .ok (.bipush 116, 2) := dk_16 116 (dk_at dksX5_fine_1 21 rfl rfl)
theorem dX5_fine_47 : decode cX5_fine 47 = .ok (.aload_n 0, 1) := dk_42 (dk_at dksX5_fine_1 23 rfl rfl)
theorem dX5_fine_48 : decode cX5_fine 48 = .ok (.iload_n 1, 1) := dk_27 (dk_at dksX5_fine_2 0 rfl rfl)
theorem dX5_fine_49 : decode cX5_fine 49 = .ok (.iconst 2, 1) := dk_5 (dk_at dksX5_fine_2 1 rfl rfl)
theorem dX5_fine_50 : decode cX5_fine 50 = .ok (.invokevirtual 88, 3) := dk_182 0 88 (dk_at dksX5_fine_2 2 rfl rfl)
theorem dX5_fine_53 : decode cX5_fine 53 = .ok (.iastore, 1) := dk_79 (dk_at dksX5_fine_2 5 rfl rfl)
theorem dX5_fine_54 : decode cX5_fine 54 = .ok (.aload_n 0, 1) := dk_42 (dk_at dksX5_fine_2 6 rfl rfl)
theorem dX5_fine_55 : decode cX5_fine 55 = .ok (.iload_n 2, 1) := dk_28 (dk_at dksX5_fine_2 7 rfl rfl)
theorem dX5_fine_56 : decode cX5_fine 56 = .ok (.invokevirtual 96, 3) := dk_182 0 96 (dk_at dksX5_fine_2 8 rfl rfl)
theorem dX5_fine_59 : decode cX5_fine 59 = .ok (.ireturn, 1) := dk_172 (dk_at dksX5_fine_2 11 rfl rfl)
abbrev cX5_feed : ByteArray := prog_18_method_59_code
def yX5_feed : MethodName := ⟨RX5, "feed", "(III)I"⟩
def dkwX5_feed_4 : List UInt8 := [180, 0, 191, 172]
abbrev dktX5_feed_4 : List UInt8 := dkwX5_feed_4 ++ []
def dkwX5_feed_3 : List UInt8 := [17, 0, 255, 126, 79, 42, 89, 180, 0, 191, 4, 96, 181, 0, 191, 132, 4, 1, 167, 255, 186, 42]
abbrev dktX5_feed_3 : List UInt8 := dkwX5_feed_3 ++ dktX5_feed_4
def dkwX5_feed_2 : List UInt8 := [29, 54, 5, 42, 180, 0, 49, 42, 180, 0, 191, 21, 5, 16, 24, 16, 8, 21, 4, 7, 112, 104, 100, 122]
abbrev dktX5_feed_2 : List UInt8 := dkwX5_feed_2 ++ dktX5_feed_3
def dkwX5_feed_1 : List UInt8 := [162, 0, 69, 21, 4, 7, 162, 0, 7, 27, 167, 0, 15, 21, 4, 16, 8, 162, 0, 7, 28, 167, 0, 4]
abbrev dktX5_feed_1 : List UInt8 := dkwX5_feed_1 ++ dktX5_feed_2
def dkwX5_feed_0 : List UInt8 := [42, 180, 0, 191, 16, 12, 96, 16, 96, 164, 0, 6, 18, 84, 172, 3, 54, 4, 21, 4, 16, 12]
abbrev dktX5_feed_0 : List UInt8 := dkwX5_feed_0 ++ dktX5_feed_1
theorem dksX5_feed_0 : cX5_feed.data.toList.drop 0 = dktX5_feed_0 := by decide +kernel
theorem dksX5_feed_1 : cX5_feed.data.toList.drop 22 = dktX5_feed_1 := dk_seg dksX5_feed_0 22 rfl rfl
theorem dksX5_feed_2 : cX5_feed.data.toList.drop 46 = dktX5_feed_2 := dk_seg dksX5_feed_1 24 rfl rfl
theorem dksX5_feed_3 : cX5_feed.data.toList.drop 70 = dktX5_feed_3 := dk_seg dksX5_feed_2 24 rfl rfl
theorem dksX5_feed_4 : cX5_feed.data.toList.drop 92 = dktX5_feed_4 := dk_seg dksX5_feed_3 22 rfl rfl
theorem dX5_feed_0 : decode cX5_feed 0 = .ok (.aload_n 0, 1) := dk_42 (dk_at dksX5_feed_0 0 rfl rfl)
theorem dX5_feed_1 : decode cX5_feed 1 = .ok (.getfield 191, 3) := dk_180 0 191 (dk_at dksX5_feed_0 1 rfl rfl)
theorem dX5_feed_4 : decode cX5_feed 4 = .ok (.bipush 12, 2) := dk_16 12 (dk_at dksX5_feed_0 4 rfl rfl)
theorem dX5_feed_6 : decode cX5_feed 6 = .ok (.iadd, 1) := dk_96 (dk_at dksX5_feed_0 6 rfl rfl)
theorem dX5_feed_7 : decode cX5_feed 7 = .ok (.bipush 96, 2) := dk_16 96 (dk_at dksX5_feed_0 7 rfl rfl)
theorem dX5_feed_9 : decode cX5_feed 9 = .ok (.if_icmp .le 6, 3) := dk_164 0 6 (dk_at dksX5_feed_0 9 rfl rfl)
theorem dX5_feed_12 : decode cX5_feed 12 = .ok (.ldc 84, 2) := dk_18 84 (dk_at dksX5_feed_0 12 rfl rfl)
theorem dX5_feed_14 : decode cX5_feed 14 = .ok (.ireturn, 1) := dk_172 (dk_at dksX5_feed_0 14 rfl rfl)
theorem dX5_feed_15 : decode cX5_feed 15 = .ok (.iconst 0, 1) := dk_3 (dk_at dksX5_feed_0 15 rfl rfl)
theorem dX5_feed_16 : decode cX5_feed 16 = .ok (.istore 4, 2) := dk_54 4 (dk_at dksX5_feed_0 16 rfl rfl)
theorem dX5_feed_18 : decode cX5_feed 18 = .ok (.iload 4, 2) := dk_21 4 (dk_at dksX5_feed_0 18 rfl rfl)
theorem dX5_feed_20 : decode cX5_feed 20 = .ok (.bipush 12, 2) := dk_16 12 (dk_at dksX5_feed_0 20 rfl rfl)
theorem dX5_feed_22 : decode cX5_feed 22 = .ok (.if_icmp .ge 69, 3) := dk_162 0 69 (dk_at dksX5_feed_1 0 rfl rfl)
theorem dX5_feed_25 : decode cX5_feed 25 = .ok (.iload 4, 2) := dk_21 4 (dk_at dksX5_feed_1 3 rfl rfl)
theorem dX5_feed_27 : decode cX5_feed 27 = .ok (.iconst 4, 1) := dk_7 (dk_at dksX5_feed_1 5 rfl rfl)
theorem dX5_feed_28 : decode cX5_feed 28 = .ok (.if_icmp .ge 7, 3) := dk_162 0 7 (dk_at dksX5_feed_1 6 rfl rfl)
theorem dX5_feed_31 : decode cX5_feed 31 = .ok (.iload_n 1, 1) := dk_27 (dk_at dksX5_feed_1 9 rfl rfl)
theorem dX5_feed_32 : decode cX5_feed 32 = .ok (.goto 15, 3) := dk_167 0 15 (dk_at dksX5_feed_1 10 rfl rfl)
theorem dX5_feed_35 : decode cX5_feed 35 = .ok (.iload 4, 2) := dk_21 4 (dk_at dksX5_feed_1 13 rfl rfl)
theorem dX5_feed_37 : decode cX5_feed 37 = .ok (.bipush 8, 2) := dk_16 8 (dk_at dksX5_feed_1 15 rfl rfl)
theorem dX5_feed_39 : decode cX5_feed 39 = .ok (.if_icmp .ge 7, 3) := dk_162 0 7 (dk_at dksX5_feed_1 17 rfl rfl)
theorem dX5_feed_42 : decode cX5_feed 42 = .ok (.iload_n 2, 1) := dk_28 (dk_at dksX5_feed_1 20 rfl rfl)
theorem dX5_feed_43 : decode cX5_feed 43 = .ok (.goto 4, 3) := dk_167 0 4 (dk_at dksX5_feed_1 21 rfl rfl)
theorem dX5_feed_46 : decode cX5_feed 46 = .ok (.iload_n 3, 1) := dk_29 (dk_at dksX5_feed_2 0 rfl rfl)
theorem dX5_feed_47 : decode cX5_feed 47 = .ok (.istore 5, 2) := dk_54 5 (dk_at dksX5_feed_2 1 rfl rfl)
theorem dX5_feed_49 : decode cX5_feed 49 = .ok (.aload_n 0, 1) := dk_42 (dk_at dksX5_feed_2 3 rfl rfl)
theorem dX5_feed_50 : decode cX5_feed 50 = .ok (.getfield 49, 3) := dk_180 0 49 (dk_at dksX5_feed_2 4 rfl rfl)
theorem dX5_feed_53 : decode cX5_feed 53 = .ok (.aload_n 0, 1) := dk_42 (dk_at dksX5_feed_2 7 rfl rfl)
theorem dX5_feed_54 : decode cX5_feed 54 = .ok (.getfield 191, 3) := dk_180 0 191 (dk_at dksX5_feed_2 8 rfl rfl)
theorem dX5_feed_57 : decode cX5_feed 57 = .ok (.iload 5, 2) := dk_21 5 (dk_at dksX5_feed_2 11 rfl rfl)
theorem dX5_feed_59 : decode cX5_feed 59 = .ok (.bipush 24, 2) := dk_16 24 (dk_at dksX5_feed_2 13 rfl rfl)
theorem dX5_feed_61 : decode cX5_feed 61 = .ok (.bipush 8, 2) := dk_16 8 (dk_at dksX5_feed_2 15 rfl rfl)
theorem dX5_feed_63 : decode cX5_feed 63 = .ok (.iload 4, 2) := dk_21 4 (dk_at dksX5_feed_2 17 rfl rfl)
theorem dX5_feed_65 : decode cX5_feed 65 = .ok (.iconst 4, 1) := dk_7 (dk_at dksX5_feed_2 19 rfl rfl)
theorem dX5_feed_66 : decode cX5_feed 66 = .ok (.irem, 1) := dk_112 (dk_at dksX5_feed_2 20 rfl rfl)
theorem dX5_feed_67 : decode cX5_feed 67 = .ok (.imul, 1) := dk_104 (dk_at dksX5_feed_2 21 rfl rfl)
theorem dX5_feed_68 : decode cX5_feed 68 = .ok (.isub, 1) := dk_100 (dk_at dksX5_feed_2 22 rfl rfl)
theorem dX5_feed_69 : decode cX5_feed 69 = .ok (.ishr, 1) := dk_122 (dk_at dksX5_feed_2 23 rfl rfl)
theorem dX5_feed_70 : decode cX5_feed 70 = .ok (.sipush 255, 3) := dk_17 0 255 (dk_at dksX5_feed_3 0 rfl rfl)
theorem dX5_feed_73 : decode cX5_feed 73 = .ok (.iand, 1) := dk_126 (dk_at dksX5_feed_3 3 rfl rfl)
theorem dX5_feed_74 : decode cX5_feed 74 = .ok (.iastore, 1) := dk_79 (dk_at dksX5_feed_3 4 rfl rfl)
theorem dX5_feed_75 : decode cX5_feed 75 = .ok (.aload_n 0, 1) := dk_42 (dk_at dksX5_feed_3 5 rfl rfl)
theorem dX5_feed_76 : decode cX5_feed 76 = .ok (.dup, 1) := dk_89 (dk_at dksX5_feed_3 6 rfl rfl)
theorem dX5_feed_77 : decode cX5_feed 77 = .ok (.getfield 191, 3) := dk_180 0 191 (dk_at dksX5_feed_3 7 rfl rfl)
theorem dX5_feed_80 : decode cX5_feed 80 = .ok (.iconst 1, 1) := dk_4 (dk_at dksX5_feed_3 10 rfl rfl)
theorem dX5_feed_81 : decode cX5_feed 81 = .ok (.iadd, 1) := dk_96 (dk_at dksX5_feed_3 11 rfl rfl)
theorem dX5_feed_82 : decode cX5_feed 82 = .ok (.putfield 191, 3) := dk_181 0 191 (dk_at dksX5_feed_3 12 rfl rfl)
theorem dX5_feed_85 : decode cX5_feed 85 = .ok (.iinc 4 1, 3) := dk_132 4 1 (dk_at dksX5_feed_3 15 rfl rfl)
theorem dX5_feed_88 : decode cX5_feed 88 = .ok (.goto (-70), 3) := dk_167 255 186 (dk_at dksX5_feed_3 18 rfl rfl)
theorem dX5_feed_91 : decode cX5_feed 91 = .ok (.aload_n 0, 1) := dk_42 (dk_at dksX5_feed_3 21 rfl rfl)
theorem dX5_feed_92 : decode cX5_feed 92 = .ok (.getfield 191, 3) := dk_180 0 191 (dk_at dksX5_feed_4 0 rfl rfl)
theorem dX5_feed_95 : decode cX5_feed 95 = .ok (.ireturn, 1) := dk_172 (dk_at dksX5_feed_4 3 rfl rfl)
abbrev cX5_trim : ByteArray := prog_18_method_60_code
def yX5_trim : MethodName := ⟨RX5, "trim", "(I)I"⟩
def dkwX5_trim_0 : List UInt8 := [27, 133, 9, 42, 180, 0, 191, 133, 184, 0, 68, 154, 0, 6, 18, 83, 172, 42, 27, 181, 0, 191, 27, 172]
abbrev dktX5_trim_0 : List UInt8 := dkwX5_trim_0 ++ []
theorem dksX5_trim_0 : cX5_trim.data.toList.drop 0 = dktX5_trim_0 := by decide +kernel
theorem dX5_trim_0 : decode cX5_trim 0 = .ok (.iload_n 1, 1) := dk_27 (dk_at dksX5_trim_0 0 rfl rfl)
theorem dX5_trim_1 : decode cX5_trim 1 = .ok (.i2l, 1) := dk_133 (dk_at dksX5_trim_0 1 rfl rfl)
theorem dX5_trim_2 : decode cX5_trim 2 = .ok (.lconst 0, 1) := dk_9 (dk_at dksX5_trim_0 2 rfl rfl)
theorem dX5_trim_3 : decode cX5_trim 3 = .ok (.aload_n 0, 1) := dk_42 (dk_at dksX5_trim_0 3 rfl rfl)
theorem dX5_trim_4 : decode cX5_trim 4 = .ok (.getfield 191, 3) := dk_180 0 191 (dk_at dksX5_trim_0 4 rfl rfl)
theorem dX5_trim_7 : decode cX5_trim 7 = .ok (.i2l, 1) := dk_133 (dk_at dksX5_trim_0 7 rfl rfl)
theorem dX5_trim_8 : decode cX5_trim 8 = .ok (.invokestatic 68, 3) := dk_184 0 68 (dk_at dksX5_trim_0 8 rfl rfl)
theorem dX5_trim_11 : decode cX5_trim 11 = .ok (.ifCond .ne 6, 3) := dk_154 0 6 (dk_at dksX5_trim_0 11 rfl rfl)
theorem dX5_trim_14 : decode cX5_trim 14 = .ok (.ldc 83, 2) := dk_18 83 (dk_at dksX5_trim_0 14 rfl rfl)
theorem dX5_trim_16 : decode cX5_trim 16 = .ok (.ireturn, 1) := dk_172 (dk_at dksX5_trim_0 16 rfl rfl)
theorem dX5_trim_17 : decode cX5_trim 17 = .ok (.aload_n 0, 1) := dk_42 (dk_at dksX5_trim_0 17 rfl rfl)
theorem dX5_trim_18 : decode cX5_trim 18 = .ok (.iload_n 1, 1) := dk_27 (dk_at dksX5_trim_0 18 rfl rfl)
theorem dX5_trim_19 : decode cX5_trim 19 = .ok (.putfield 191, 3) := dk_181 0 191 (dk_at dksX5_trim_0 19 rfl rfl)
theorem dX5_trim_22 : decode cX5_trim 22 = .ok (.iload_n 1, 1) := dk_27 (dk_at dksX5_trim_0 22 rfl rfl)
theorem dX5_trim_23 : decode cX5_trim 23 = .ok (.ireturn, 1) := dk_172 (dk_at dksX5_trim_0 23 rfl rfl)
abbrev cX5_text : ByteArray := prog_18_method_77_code
def yX5_text : MethodName := ⟨RX5, "text", "()I"⟩
def dkwX5_text_3 : List UInt8 := [180, 0, 235, 79, 42, 180, 0, 7, 4, 92, 46, 4, 96, 79, 42, 180, 0, 7, 4, 46, 4, 100, 172]
abbrev dktX5_text_3 : List UInt8 := dkwX5_text_3 ++ []
def dkwX5_text_2 : List UInt8 := [3, 96, 27, 79, 42, 180, 0, 7, 28, 4, 96, 42, 180, 1, 6, 79, 42, 180, 0, 7, 28, 5, 96, 42]
abbrev dktX5_text_2 : List UInt8 := dkwX5_text_2 ++ dktX5_text_3
def dkwX5_text_1 : List UInt8 := [16, 14, 160, 0, 6, 18, 84, 172, 42, 42, 180, 0, 7, 4, 46, 182, 1, 21, 61, 42, 180, 0, 7, 28]
abbrev dktX5_text_1 : List UInt8 := dkwX5_text_1 ++ dktX5_text_2
def dkwX5_text_0 : List UInt8 := [42, 182, 1, 27, 60, 27, 156, 0, 11, 16, 156, 42, 180, 0, 209, 100, 172, 42, 180, 0, 7, 4, 46]
abbrev dktX5_text_0 : List UInt8 := dkwX5_text_0 ++ dktX5_text_1
theorem dksX5_text_0 : cX5_text.data.toList.drop 0 = dktX5_text_0 := by decide +kernel
theorem dksX5_text_1 : cX5_text.data.toList.drop 23 = dktX5_text_1 := dk_seg dksX5_text_0 23 rfl rfl
theorem dksX5_text_2 : cX5_text.data.toList.drop 47 = dktX5_text_2 := dk_seg dksX5_text_1 24 rfl rfl
theorem dksX5_text_3 : cX5_text.data.toList.drop 71 = dktX5_text_3 := dk_seg dksX5_text_2 24 rfl rfl
theorem dX5_text_0 : decode cX5_text 0 = .ok (.aload_n 0, 1) := dk_42 (dk_at dksX5_text_0 0 rfl rfl)
theorem dX5_text_1 : decode cX5_text 1 = .ok (.invokevirtual 283, 3) := dk_182 1 27 (dk_at dksX5_text_0 1 rfl rfl)
theorem dX5_text_4 : decode cX5_text 4 = .ok (.istore_n 1, 1) := dk_60 (dk_at dksX5_text_0 4 rfl rfl)
theorem dX5_text_5 : decode cX5_text 5 = .ok (.iload_n 1, 1) := dk_27 (dk_at dksX5_text_0 5 rfl rfl)
theorem dX5_text_6 : decode cX5_text 6 = .ok (.ifCond .ge 11, 3) := dk_156 0 11 (dk_at dksX5_text_0 6 rfl rfl)
theorem dX5_text_9 : decode cX5_text 9 = .ok (.bipush (-100), 2) := dk_16 156 (dk_at dksX5_text_0 9 rfl rfl)
theorem dX5_text_11 : decode cX5_text 11 = .ok (.aload_n 0, 1) := dk_42 (dk_at dksX5_text_0 11 rfl rfl)
theorem dX5_text_12 : decode cX5_text 12 = .ok (.getfield 209, 3) := dk_180 0 209 (dk_at dksX5_text_0 12 rfl rfl)
theorem dX5_text_15 : decode cX5_text 15 = .ok (.isub, 1) := dk_100 (dk_at dksX5_text_0 15 rfl rfl)
theorem dX5_text_16 : decode cX5_text 16 = .ok (.ireturn, 1) := dk_172 (dk_at dksX5_text_0 16 rfl rfl)
theorem dX5_text_17 : decode cX5_text 17 = .ok (.aload_n 0, 1) := dk_42 (dk_at dksX5_text_0 17 rfl rfl)
theorem dX5_text_18 : decode cX5_text 18 = .ok (.getfield 7, 3) := dk_180 0 7 (dk_at dksX5_text_0 18 rfl rfl)
theorem dX5_text_21 : decode cX5_text 21 = .ok (.iconst 1, 1) := dk_4 (dk_at dksX5_text_0 21 rfl rfl)
theorem dX5_text_22 : decode cX5_text 22 = .ok (.iaload, 1) := dk_46 (dk_at dksX5_text_0 22 rfl rfl)
theorem dX5_text_23 : decode cX5_text 23 = .ok (.bipush 14, 2) := dk_16 14 (dk_at dksX5_text_1 0 rfl rfl)
theorem dX5_text_25 : decode cX5_text 25 = .ok (.if_icmp .ne 6, 3) := dk_160 0 6 (dk_at dksX5_text_1 2 rfl rfl)
theorem dX5_text_28 : decode cX5_text 28 = .ok (.ldc 84, 2) := dk_18 84 (dk_at dksX5_text_1 5 rfl rfl)
theorem dX5_text_30 : decode cX5_text 30 = .ok (.ireturn, 1) := dk_172 (dk_at dksX5_text_1 7 rfl rfl)
theorem dX5_text_31 : decode cX5_text 31 = .ok (.aload_n 0, 1) := dk_42 (dk_at dksX5_text_1 8 rfl rfl)
theorem dX5_text_32 : decode cX5_text 32 = .ok (.aload_n 0, 1) := dk_42 (dk_at dksX5_text_1 9 rfl rfl)
theorem dX5_text_33 : decode cX5_text 33 = .ok (.getfield 7, 3) := dk_180 0 7 (dk_at dksX5_text_1 10 rfl rfl)
theorem dX5_text_36 : decode cX5_text 36 = .ok (.iconst 1, 1) := dk_4 (dk_at dksX5_text_1 13 rfl rfl)
theorem dX5_text_37 : decode cX5_text 37 = .ok (.iaload, 1) := dk_46 (dk_at dksX5_text_1 14 rfl rfl)
theorem dX5_text_38 : decode cX5_text 38 = .ok (.invokevirtual 277, 3) := dk_182 1 21 (dk_at dksX5_text_1 15 rfl rfl)
theorem dX5_text_41 : decode cX5_text 41 = .ok (.istore_n 2, 1) := dk_61 (dk_at dksX5_text_1 18 rfl rfl)
theorem dX5_text_42 : decode cX5_text 42 = .ok (.aload_n 0, 1) := dk_42 (dk_at dksX5_text_1 19 rfl rfl)
theorem dX5_text_43 : decode cX5_text 43 = .ok (.getfield 7, 3) := dk_180 0 7 (dk_at dksX5_text_1 20 rfl rfl)
theorem dX5_text_46 : decode cX5_text 46 = .ok (.iload_n 2, 1) := dk_28 (dk_at dksX5_text_1 23 rfl rfl)
theorem dX5_text_47 : decode cX5_text 47 = .ok (.iconst 0, 1) := dk_3 (dk_at dksX5_text_2 0 rfl rfl)
theorem dX5_text_48 : decode cX5_text 48 = .ok (.iadd, 1) := dk_96 (dk_at dksX5_text_2 1 rfl rfl)
theorem dX5_text_49 : decode cX5_text 49 = .ok (.iload_n 1, 1) := dk_27 (dk_at dksX5_text_2 2 rfl rfl)
theorem dX5_text_50 : decode cX5_text 50 = .ok (.iastore, 1) := dk_79 (dk_at dksX5_text_2 3 rfl rfl)
theorem dX5_text_51 : decode cX5_text 51 = .ok (.aload_n 0, 1) := dk_42 (dk_at dksX5_text_2 4 rfl rfl)
theorem dX5_text_52 : decode cX5_text 52 = .ok (.getfield 7, 3) := dk_180 0 7 (dk_at dksX5_text_2 5 rfl rfl)
theorem dX5_text_55 : decode cX5_text 55 = .ok (.iload_n 2, 1) := dk_28 (dk_at dksX5_text_2 8 rfl rfl)
theorem dX5_text_56 : decode cX5_text 56 = .ok (.iconst 1, 1) := dk_4 (dk_at dksX5_text_2 9 rfl rfl)
theorem dX5_text_57 : decode cX5_text 57 = .ok (.iadd, 1) := dk_96 (dk_at dksX5_text_2 10 rfl rfl)
theorem dX5_text_58 : decode cX5_text 58 = .ok (.aload_n 0, 1) := dk_42 (dk_at dksX5_text_2 11 rfl rfl)
theorem dX5_text_59 : decode cX5_text 59 = .ok (.getfield 262, 3) := dk_180 1 6 (dk_at dksX5_text_2 12 rfl rfl)
theorem dX5_text_62 : decode cX5_text 62 = .ok (.iastore, 1) := dk_79 (dk_at dksX5_text_2 15 rfl rfl)
theorem dX5_text_63 : decode cX5_text 63 = .ok (.aload_n 0, 1) := dk_42 (dk_at dksX5_text_2 16 rfl rfl)
theorem dX5_text_64 : decode cX5_text 64 = .ok (.getfield 7, 3) := dk_180 0 7 (dk_at dksX5_text_2 17 rfl rfl)
theorem dX5_text_67 : decode cX5_text 67 = .ok (.iload_n 2, 1) := dk_28 (dk_at dksX5_text_2 20 rfl rfl)
theorem dX5_text_68 : decode cX5_text 68 = .ok (.iconst 2, 1) := dk_5 (dk_at dksX5_text_2 21 rfl rfl)
theorem dX5_text_69 : decode cX5_text 69 = .ok (.iadd, 1) := dk_96 (dk_at dksX5_text_2 22 rfl rfl)
theorem dX5_text_70 : decode cX5_text 70 = .ok (.aload_n 0, 1) := dk_42 (dk_at dksX5_text_2 23 rfl rfl)
theorem dX5_text_71 : decode cX5_text 71 = .ok (.getfield 235, 3) := dk_180 0 235 (dk_at dksX5_text_3 0 rfl rfl)
theorem dX5_text_74 : decode cX5_text 74 = .ok (.iastore, 1) := dk_79 (dk_at dksX5_text_3 3 rfl rfl)
theorem dX5_text_75 : decode cX5_text 75 = .ok (.aload_n 0, 1) := dk_42 (dk_at dksX5_text_3 4 rfl rfl)
theorem dX5_text_76 : decode cX5_text 76 = .ok (.getfield 7, 3) := dk_180 0 7 (dk_at dksX5_text_3 5 rfl rfl)
theorem dX5_text_79 : decode cX5_text 79 = .ok (.iconst 1, 1) := dk_4 (dk_at dksX5_text_3 8 rfl rfl)
theorem dX5_text_80 : decode cX5_text 80 = .ok (.dup2, 1) := dk_92 (dk_at dksX5_text_3 9 rfl rfl)
theorem dX5_text_81 : decode cX5_text 81 = .ok (.iaload, 1) := dk_46 (dk_at dksX5_text_3 10 rfl rfl)
theorem dX5_text_82 : decode cX5_text 82 = .ok (.iconst 1, 1) := dk_4 (dk_at dksX5_text_3 11 rfl rfl)
theorem dX5_text_83 : decode cX5_text 83 = .ok (.iadd, 1) := dk_96 (dk_at dksX5_text_3 12 rfl rfl)
theorem dX5_text_84 : decode cX5_text 84 = .ok (.iastore, 1) := dk_79 (dk_at dksX5_text_3 13 rfl rfl)
theorem dX5_text_85 : decode cX5_text 85 = .ok (.aload_n 0, 1) := dk_42 (dk_at dksX5_text_3 14 rfl rfl)
theorem dX5_text_86 : decode cX5_text 86 = .ok (.getfield 7, 3) := dk_180 0 7 (dk_at dksX5_text_3 15 rfl rfl)
theorem dX5_text_89 : decode cX5_text 89 = .ok (.iconst 1, 1) := dk_4 (dk_at dksX5_text_3 18 rfl rfl)
theorem dX5_text_90 : decode cX5_text 90 = .ok (.iaload, 1) := dk_46 (dk_at dksX5_text_3 19 rfl rfl)
theorem dX5_text_91 : decode cX5_text 91 = .ok (.iconst 1, 1) := dk_4 (dk_at dksX5_text_3 20 rfl rfl)
theorem dX5_text_92 : decode cX5_text 92 = .ok (.isub, 1) := dk_100 (dk_at dksX5_text_3 21 rfl rfl)
theorem dX5_text_93 : decode cX5_text 93 = .ok (.ireturn, 1) := dk_172 (dk_at dksX5_text_3 22 rfl rfl)
abbrev cX5_parse : ByteArray := prog_18_method_76_code
def yX5_parse : MethodName := ⟨RX5, "parse", "()I"⟩
def dkwX5_parse_5 : List UInt8 := [28, 153, 0, 7, 27, 167, 0, 4, 2, 172]
abbrev dktX5_parse_5 : List UInt8 := dkwX5_parse_5 ++ []
def dkwX5_parse_4 : List UInt8 := [182, 1, 18, 153, 0, 14, 42, 180, 0, 206, 154, 0, 7, 4, 167, 0, 4, 3, 61, 42, 3, 181, 0, 191]
abbrev dktX5_parse_4 : List UInt8 := dkwX5_parse_4 ++ dktX5_parse_5
def dkwX5_parse_3 : List UInt8 := [182, 1, 24, 60, 27, 155, 0, 7, 4, 167, 0, 4, 3, 61, 28, 153, 0, 28, 42, 182, 0, 244, 42, 27]
abbrev dktX5_parse_3 : List UInt8 := dkwX5_parse_3 ++ dktX5_parse_4
def dkwX5_parse_2 : List UInt8 := [180, 0, 7, 4, 46, 182, 1, 21, 7, 96, 167, 0, 6, 17, 11, 24, 181, 0, 232, 42, 182, 0, 244, 42]
abbrev dktX5_parse_2 : List UInt8 := dkwX5_parse_2 ++ dktX5_parse_3
def dkwX5_parse_1 : List UInt8 := [181, 0, 235, 42, 3, 181, 1, 6, 42, 42, 180, 0, 7, 4, 46, 16, 14, 162, 0, 18, 42, 42]
abbrev dktX5_parse_1 : List UInt8 := dkwX5_parse_1 ++ dktX5_parse_2
def dkwX5_parse_0 : List UInt8 := [42, 3, 181, 0, 203, 42, 6, 181, 0, 206, 42, 3, 181, 1, 15, 42, 3, 181, 1, 12, 42, 3]
abbrev dktX5_parse_0 : List UInt8 := dkwX5_parse_0 ++ dktX5_parse_1
theorem dksX5_parse_0 : cX5_parse.data.toList.drop 0 = dktX5_parse_0 := by decide +kernel
theorem dksX5_parse_1 : cX5_parse.data.toList.drop 22 = dktX5_parse_1 := dk_seg dksX5_parse_0 22 rfl rfl
theorem dksX5_parse_2 : cX5_parse.data.toList.drop 44 = dktX5_parse_2 := dk_seg dksX5_parse_1 22 rfl rfl
theorem dksX5_parse_3 : cX5_parse.data.toList.drop 68 = dktX5_parse_3 := dk_seg dksX5_parse_2 24 rfl rfl
theorem dksX5_parse_4 : cX5_parse.data.toList.drop 92 = dktX5_parse_4 := dk_seg dksX5_parse_3 24 rfl rfl
theorem dksX5_parse_5 : cX5_parse.data.toList.drop 116 = dktX5_parse_5 := dk_seg dksX5_parse_4 24 rfl rfl
theorem dX5_parse_0 : decode cX5_parse 0 = .ok (.aload_n 0, 1) := dk_42 (dk_at dksX5_parse_0 0 rfl rfl)
theorem dX5_parse_1 : decode cX5_parse 1 = .ok (.iconst 0, 1) := dk_3 (dk_at dksX5_parse_0 1 rfl rfl)
theorem dX5_parse_2 : decode cX5_parse 2 = .ok (.putfield 203, 3) := dk_181 0 203 (dk_at dksX5_parse_0 2 rfl rfl)
theorem dX5_parse_5 : decode cX5_parse 5 = .ok (.aload_n 0, 1) := dk_42 (dk_at dksX5_parse_0 5 rfl rfl)
theorem dX5_parse_6 : decode cX5_parse 6 = .ok (.iconst 3, 1) := dk_6 (dk_at dksX5_parse_0 6 rfl rfl)
theorem dX5_parse_7 : decode cX5_parse 7 = .ok (.putfield 206, 3) := dk_181 0 206 (dk_at dksX5_parse_0 7 rfl rfl)
theorem dX5_parse_10 : decode cX5_parse 10 = .ok (.aload_n 0, 1) := dk_42 (dk_at dksX5_parse_0 10 rfl rfl)
theorem dX5_parse_11 : decode cX5_parse 11 = .ok (.iconst 0, 1) := dk_3 (dk_at dksX5_parse_0 11 rfl rfl)
theorem dX5_parse_12 : decode cX5_parse 12 = .ok (.putfield 271, 3) := dk_181 1 15 (dk_at dksX5_parse_0 12 rfl rfl)
theorem dX5_parse_15 : decode cX5_parse 15 = .ok (.aload_n 0, 1) := dk_42 (dk_at dksX5_parse_0 15 rfl rfl)
theorem dX5_parse_16 : decode cX5_parse 16 = .ok (.iconst 0, 1) := dk_3 (dk_at dksX5_parse_0 16 rfl rfl)
theorem dX5_parse_17 : decode cX5_parse 17 = .ok (.putfield 268, 3) := dk_181 1 12 (dk_at dksX5_parse_0 17 rfl rfl)
theorem dX5_parse_20 : decode cX5_parse 20 = .ok (.aload_n 0, 1) := dk_42 (dk_at dksX5_parse_0 20 rfl rfl)
theorem dX5_parse_21 : decode cX5_parse 21 = .ok (.iconst 0, 1) := dk_3 (dk_at dksX5_parse_0 21 rfl rfl)
theorem dX5_parse_22 : decode cX5_parse 22 = .ok (.putfield 235, 3) := dk_181 0 235 (dk_at dksX5_parse_1 0 rfl rfl)
theorem dX5_parse_25 : decode cX5_parse 25 = .ok (.aload_n 0, 1) := dk_42 (dk_at dksX5_parse_1 3 rfl rfl)
theorem dX5_parse_26 : decode cX5_parse 26 = .ok (.iconst 0, 1) := dk_3 (dk_at dksX5_parse_1 4 rfl rfl)
theorem dX5_parse_27 : decode cX5_parse 27 = .ok (.putfield 262, 3) := dk_181 1 6 (dk_at dksX5_parse_1 5 rfl rfl)
theorem dX5_parse_30 : decode cX5_parse 30 = .ok (.aload_n 0, 1) := dk_42 (dk_at dksX5_parse_1 8 rfl rfl)
theorem dX5_parse_31 : decode cX5_parse 31 = .ok (.aload_n 0, 1) := dk_42 (dk_at dksX5_parse_1 9 rfl rfl)
theorem dX5_parse_32 : decode cX5_parse 32 = .ok (.getfield 7, 3) := dk_180 0 7 (dk_at dksX5_parse_1 10 rfl rfl)
theorem dX5_parse_35 : decode cX5_parse 35 = .ok (.iconst 1, 1) := dk_4 (dk_at dksX5_parse_1 13 rfl rfl)
theorem dX5_parse_36 : decode cX5_parse 36 = .ok (.iaload, 1) := dk_46 (dk_at dksX5_parse_1 14 rfl rfl)
theorem dX5_parse_37 : decode cX5_parse 37 = .ok (.bipush 14, 2) := dk_16 14 (dk_at dksX5_parse_1 15 rfl rfl)
theorem dX5_parse_39 : decode cX5_parse 39 = .ok (.if_icmp .ge 18, 3) := dk_162 0 18 (dk_at dksX5_parse_1 17 rfl rfl)
theorem dX5_parse_42 : decode cX5_parse 42 = .ok (.aload_n 0, 1) := dk_42 (dk_at dksX5_parse_1 20 rfl rfl)
theorem dX5_parse_43 : decode cX5_parse 43 = .ok (.aload_n 0, 1) := dk_42 (dk_at dksX5_parse_1 21 rfl rfl)
theorem dX5_parse_44 : decode cX5_parse 44 = .ok (.getfield 7, 3) := dk_180 0 7 (dk_at dksX5_parse_2 0 rfl rfl)
theorem dX5_parse_47 : decode cX5_parse 47 = .ok (.iconst 1, 1) := dk_4 (dk_at dksX5_parse_2 3 rfl rfl)
theorem dX5_parse_48 : decode cX5_parse 48 = .ok (.iaload, 1) := dk_46 (dk_at dksX5_parse_2 4 rfl rfl)
theorem dX5_parse_49 : decode cX5_parse 49 = .ok (.invokevirtual 277, 3) := dk_182 1 21 (dk_at dksX5_parse_2 5 rfl rfl)
theorem dX5_parse_52 : decode cX5_parse 52 = .ok (.iconst 4, 1) := dk_7 (dk_at dksX5_parse_2 8 rfl rfl)
theorem dX5_parse_53 : decode cX5_parse 53 = .ok (.iadd, 1) := dk_96 (dk_at dksX5_parse_2 9 rfl rfl)
theorem dX5_parse_54 : decode cX5_parse 54 = .ok (.goto 6, 3) := dk_167 0 6 (dk_at dksX5_parse_2 10 rfl rfl)
theorem dX5_parse_57 : decode cX5_parse 57 = .ok (.sipush 2840, 3) := dk_17 11 24 (dk_at dksX5_parse_2 13 rfl rfl)
theorem dX5_parse_60 : decode cX5_parse 60 = .ok (.putfield 232, 3) := dk_181 0 232 (dk_at dksX5_parse_2 16 rfl rfl)
theorem dX5_parse_63 : decode cX5_parse 63 = .ok (.aload_n 0, 1) := dk_42 (dk_at dksX5_parse_2 19 rfl rfl)
theorem dX5_parse_64 : decode cX5_parse 64 = .ok (.invokevirtual 244, 3) := dk_182 0 244 (dk_at dksX5_parse_2 20 rfl rfl)
theorem dX5_parse_67 : decode cX5_parse 67 = .ok (.aload_n 0, 1) := dk_42 (dk_at dksX5_parse_2 23 rfl rfl)
theorem dX5_parse_68 : decode cX5_parse 68 = .ok (.invokevirtual 280, 3) := dk_182 1 24 (dk_at dksX5_parse_3 0 rfl rfl)
theorem dX5_parse_71 : decode cX5_parse 71 = .ok (.istore_n 1, 1) := dk_60 (dk_at dksX5_parse_3 3 rfl rfl)
theorem dX5_parse_72 : decode cX5_parse 72 = .ok (.iload_n 1, 1) := dk_27 (dk_at dksX5_parse_3 4 rfl rfl)
theorem dX5_parse_73 : decode cX5_parse 73 = .ok (.ifCond .lt 7, 3) := dk_155 0 7 (dk_at dksX5_parse_3 5 rfl rfl)
theorem dX5_parse_76 : decode cX5_parse 76 = .ok (.iconst 1, 1) := dk_4 (dk_at dksX5_parse_3 8 rfl rfl)
theorem dX5_parse_77 : decode cX5_parse 77 = .ok (.goto 4, 3) := dk_167 0 4 (dk_at dksX5_parse_3 9 rfl rfl)
theorem dX5_parse_80 : decode cX5_parse 80 = .ok (.iconst 0, 1) := dk_3 (dk_at dksX5_parse_3 12 rfl rfl)
theorem dX5_parse_81 : decode cX5_parse 81 = .ok (.istore_n 2, 1) := dk_61 (dk_at dksX5_parse_3 13 rfl rfl)
theorem dX5_parse_82 : decode cX5_parse 82 = .ok (.iload_n 2, 1) := dk_28 (dk_at dksX5_parse_3 14 rfl rfl)
theorem dX5_parse_83 : decode cX5_parse 83 = .ok (.ifCond .eq 28, 3) := dk_153 0 28 (dk_at dksX5_parse_3 15 rfl rfl)
theorem dX5_parse_86 : decode cX5_parse 86 = .ok (.aload_n 0, 1) := dk_42 (dk_at dksX5_parse_3 18 rfl rfl)
theorem dX5_parse_87 : decode cX5_parse 87 = .ok (.invokevirtual 244, 3) := dk_182 0 244 (dk_at dksX5_parse_3 19 rfl rfl)
theorem dX5_parse_90 : decode cX5_parse 90 = .ok (.aload_n 0, 1) := dk_42 (dk_at dksX5_parse_3 22 rfl rfl)
theorem dX5_parse_91 : decode cX5_parse 91 = .ok (.iload_n 1, 1) := dk_27 (dk_at dksX5_parse_3 23 rfl rfl)
theorem dX5_parse_92 : decode cX5_parse 92 = .ok (.invokevirtual 274, 3) := dk_182 1 18 (dk_at dksX5_parse_4 0 rfl rfl)
theorem dX5_parse_95 : decode cX5_parse 95 = .ok (.ifCond .eq 14, 3) := dk_153 0 14 (dk_at dksX5_parse_4 3 rfl rfl)
theorem dX5_parse_98 : decode cX5_parse 98 = .ok (.aload_n 0, 1) := dk_42 (dk_at dksX5_parse_4 6 rfl rfl)
theorem dX5_parse_99 : decode cX5_parse 99 = .ok (.getfield 206, 3) := dk_180 0 206 (dk_at dksX5_parse_4 7 rfl rfl)
theorem dX5_parse_102 : decode cX5_parse 102 = .ok (.ifCond .ne 7, 3) := dk_154 0 7 (dk_at dksX5_parse_4 10 rfl rfl)
theorem dX5_parse_105 : decode cX5_parse 105 = .ok (.iconst 1, 1) := dk_4 (dk_at dksX5_parse_4 13 rfl rfl)
theorem dX5_parse_106 : decode cX5_parse 106 = .ok (.goto 4, 3) := dk_167 0 4 (dk_at dksX5_parse_4 14 rfl rfl)
theorem dX5_parse_109 : decode cX5_parse 109 = .ok (.iconst 0, 1) := dk_3 (dk_at dksX5_parse_4 17 rfl rfl)
theorem dX5_parse_110 : decode cX5_parse 110 = .ok (.istore_n 2, 1) := dk_61 (dk_at dksX5_parse_4 18 rfl rfl)
theorem dX5_parse_111 : decode cX5_parse 111 = .ok (.aload_n 0, 1) := dk_42 (dk_at dksX5_parse_4 19 rfl rfl)
theorem dX5_parse_112 : decode cX5_parse 112 = .ok (.iconst 0, 1) := dk_3 (dk_at dksX5_parse_4 20 rfl rfl)
theorem dX5_parse_113 : decode cX5_parse 113 = .ok (.putfield 191, 3) := dk_181 0 191 (dk_at dksX5_parse_4 21 rfl rfl)
theorem dX5_parse_116 : decode cX5_parse 116 = .ok (.iload_n 2, 1) := dk_28 (dk_at dksX5_parse_5 0 rfl rfl)
theorem dX5_parse_117 : decode cX5_parse 117 = .ok (.ifCond .eq 7, 3) := dk_153 0 7 (dk_at dksX5_parse_5 1 rfl rfl)
theorem dX5_parse_120 : decode cX5_parse 120 = .ok (.iload_n 1, 1) := dk_27 (dk_at dksX5_parse_5 4 rfl rfl)
theorem dX5_parse_121 : decode cX5_parse 121 = .ok (.goto 4, 3) := dk_167 0 4 (dk_at dksX5_parse_5 5 rfl rfl)
theorem dX5_parse_124 : decode cX5_parse 124 = .ok (.iconst (-1), 1) := dk_2 (dk_at dksX5_parse_5 8 rfl rfl)
theorem dX5_parse_125 : decode cX5_parse 125 = .ok (.ireturn, 1) := dk_172 (dk_at dksX5_parse_5 9 rfl rfl)
abbrev cX5_nextToken : ByteArray := prog_18_method_63_code
def yX5_nextToken : MethodName := ⟨RX5, "nextToken", "()V"⟩
def dkwX5_nextToken_14 : List UInt8 := [42, 180, 0, 209, 46, 181, 0, 215, 42, 89, 180, 0, 203, 4, 96, 181, 0, 203, 177]
abbrev dktX5_nextToken_14 : List UInt8 := dkwX5_nextToken_14 ++ []
def dkwX5_nextToken_13 : List UInt8 := [164, 0, 7, 7, 167, 0, 4, 5, 181, 0, 206, 167, 0, 31, 42, 6, 181, 0, 206, 42, 42, 180, 0, 49]
abbrev dktX5_nextToken_13 : List UInt8 := dkwX5_nextToken_13 ++ dktX5_nextToken_14
def dkwX5_nextToken_12 : List UInt8 := [96, 181, 0, 203, 167, 255, 191, 42, 27, 154, 0, 16, 42, 180, 0, 203, 42, 180, 0, 209, 100, 7]
abbrev dktX5_nextToken_12 : List UInt8 := dkwX5_nextToken_12 ++ dktX5_nextToken_13
def dkwX5_nextToken_11 : List UInt8 := [180, 0, 203, 46, 96, 16, 48, 100, 167, 0, 7, 42, 180, 0, 221, 181, 0, 221, 42, 89, 180, 0, 203, 4]
abbrev dktX5_nextToken_11 : List UInt8 := dkwX5_nextToken_11 ++ dktX5_nextToken_12
def dkwX5_nextToken_10 : List UInt8 := [180, 0, 203, 42, 180, 0, 209, 100, 7, 162, 0, 26, 16, 10, 42, 180, 0, 221, 104, 42, 180, 0, 49, 42]
abbrev dktX5_nextToken_10 : List UInt8 := dkwX5_nextToken_10 ++ dktX5_nextToken_11
def dkwX5_nextToken_9 : List UInt8 := [182, 0, 218, 153, 0, 105, 42, 3, 181, 0, 221, 42, 42, 180, 0, 203, 182, 0, 218, 153, 0, 60, 42, 42]
abbrev dktX5_nextToken_9 : List UInt8 := dkwX5_nextToken_9 ++ dktX5_nextToken_10
def dkwX5_nextToken_8 : List UInt8 := [180, 0, 49, 42, 180, 0, 209, 46, 167, 0, 4, 3, 181, 0, 215, 167, 0, 144, 42, 42, 180, 0, 209]
abbrev dktX5_nextToken_8 : List UInt8 := dkwX5_nextToken_8 ++ dktX5_nextToken_9
def dkwX5_nextToken_7 : List UInt8 := [167, 0, 4, 4, 181, 0, 206, 42, 42, 180, 0, 203, 42, 180, 0, 209, 100, 4, 160, 0, 15, 42]
abbrev dktX5_nextToken_7 : List UInt8 := dkwX5_nextToken_7 ++ dktX5_nextToken_8
def dkwX5_nextToken_6 : List UInt8 := [153, 0, 16, 42, 89, 180, 0, 203, 4, 96, 181, 0, 203, 167, 255, 235, 42, 27, 153, 0, 7, 7]
abbrev dktX5_nextToken_6 : List UInt8 := dkwX5_nextToken_6 ++ dktX5_nextToken_7
def dkwX5_nextToken_5 : List UInt8 := [167, 0, 225, 42, 42, 180, 0, 209, 182, 0, 212, 153, 0, 73, 42, 42, 180, 0, 203, 182, 0, 212]
abbrev dktX5_nextToken_5 : List UInt8 := dkwX5_nextToken_5 ++ dktX5_nextToken_6
def dkwX5_nextToken_4 : List UInt8 := [180, 0, 203, 181, 0, 209, 42, 180, 0, 209, 42, 180, 0, 191, 160, 0, 11, 42, 3, 181, 0, 206]
abbrev dktX5_nextToken_4 : List UInt8 := dkwX5_nextToken_4 ++ dktX5_nextToken_5
def dkwX5_nextToken_3 : List UInt8 := [167, 255, 221, 27, 153, 0, 15, 28, 42, 180, 0, 203, 160, 0, 7, 4, 167, 0, 4, 3, 60, 42, 42]
abbrev dktX5_nextToken_3 : List UInt8 := dkwX5_nextToken_3 ++ dktX5_nextToken_4
def dkwX5_nextToken_2 : List UInt8 := [180, 0, 49, 42, 180, 0, 203, 46, 16, 32, 160, 0, 16, 42, 89, 180, 0, 203, 4, 96, 181, 0, 203]
abbrev dktX5_nextToken_2 : List UInt8 := dkwX5_nextToken_2 ++ dktX5_nextToken_3
def dkwX5_nextToken_1 : List UInt8 := [167, 0, 4, 3, 60, 42, 180, 0, 203, 61, 42, 180, 0, 203, 42, 180, 0, 191, 162, 0, 30, 42]
abbrev dktX5_nextToken_1 : List UInt8 := dkwX5_nextToken_1 ++ dktX5_nextToken_2
def dkwX5_nextToken_0 : List UInt8 := [42, 180, 0, 203, 158, 0, 23, 42, 180, 0, 206, 4, 159, 0, 11, 42, 180, 0, 206, 5, 160, 0, 7, 4]
abbrev dktX5_nextToken_0 : List UInt8 := dkwX5_nextToken_0 ++ dktX5_nextToken_1
theorem dksX5_nextToken_0 : cX5_nextToken.data.toList.drop 0 = dktX5_nextToken_0 := by decide +kernel
theorem dksX5_nextToken_1 : cX5_nextToken.data.toList.drop 24 = dktX5_nextToken_1 := dk_seg dksX5_nextToken_0 24 rfl rfl
theorem dksX5_nextToken_2 : cX5_nextToken.data.toList.drop 46 = dktX5_nextToken_2 := dk_seg dksX5_nextToken_1 22 rfl rfl
theorem dksX5_nextToken_3 : cX5_nextToken.data.toList.drop 69 = dktX5_nextToken_3 := dk_seg dksX5_nextToken_2 23 rfl rfl
theorem dksX5_nextToken_4 : cX5_nextToken.data.toList.drop 92 = dktX5_nextToken_4 := dk_seg dksX5_nextToken_3 23 rfl rfl
theorem dksX5_nextToken_5 : cX5_nextToken.data.toList.drop 114 = dktX5_nextToken_5 := dk_seg dksX5_nextToken_4 22 rfl rfl
theorem dksX5_nextToken_6 : cX5_nextToken.data.toList.drop 136 = dktX5_nextToken_6 := dk_seg dksX5_nextToken_5 22 rfl rfl
theorem dksX5_nextToken_7 : cX5_nextToken.data.toList.drop 158 = dktX5_nextToken_7 := dk_seg dksX5_nextToken_6 22 rfl rfl
theorem dksX5_nextToken_8 : cX5_nextToken.data.toList.drop 180 = dktX5_nextToken_8 := dk_seg dksX5_nextToken_7 22 rfl rfl
theorem dksX5_nextToken_9 : cX5_nextToken.data.toList.drop 203 = dktX5_nextToken_9 := dk_seg dksX5_nextToken_8 23 rfl rfl
theorem dksX5_nextToken_10 : cX5_nextToken.data.toList.drop 227 = dktX5_nextToken_10 := dk_seg dksX5_nextToken_9 24 rfl rfl
theorem dksX5_nextToken_11 : cX5_nextToken.data.toList.drop 251 = dktX5_nextToken_11 := dk_seg dksX5_nextToken_10 24 rfl rfl
theorem dksX5_nextToken_12 : cX5_nextToken.data.toList.drop 275 = dktX5_nextToken_12 := dk_seg dksX5_nextToken_11 24 rfl rfl
theorem dksX5_nextToken_13 : cX5_nextToken.data.toList.drop 297 = dktX5_nextToken_13 := dk_seg dksX5_nextToken_12 22 rfl rfl
theorem dksX5_nextToken_14 : cX5_nextToken.data.toList.drop 321 = dktX5_nextToken_14 := dk_seg dksX5_nextToken_13 24 rfl rfl
theorem dX5_nextToken_0 : decode cX5_nextToken 0 = .ok (.aload_n 0, 1) := dk_42 (dk_at dksX5_nextToken_0 0 rfl rfl)
theorem dX5_nextToken_1 : decode cX5_nextToken 1 = .ok (.getfield 203, 3) := dk_180 0 203 (dk_at dksX5_nextToken_0 1 rfl rfl)
theorem dX5_nextToken_4 : decode cX5_nextToken 4 = .ok (.ifCond .le 23, 3) := dk_158 0 23 (dk_at dksX5_nextToken_0 4 rfl rfl)
theorem dX5_nextToken_7 : decode cX5_nextToken 7 = .ok (.aload_n 0, 1) := dk_42 (dk_at dksX5_nextToken_0 7 rfl rfl)
theorem dX5_nextToken_8 : decode cX5_nextToken 8 = .ok (.getfield 206, 3) := dk_180 0 206 (dk_at dksX5_nextToken_0 8 rfl rfl)
theorem dX5_nextToken_11 : decode cX5_nextToken 11 = .ok (.iconst 1, 1) := dk_4 (dk_at dksX5_nextToken_0 11 rfl rfl)
theorem dX5_nextToken_12 : decode cX5_nextToken 12 = .ok (.if_icmp .eq 11, 3) := dk_159 0 11 (dk_at dksX5_nextToken_0 12 rfl rfl)
theorem dX5_nextToken_15 : decode cX5_nextToken 15 = .ok (.aload_n 0, 1) := dk_42 (dk_at dksX5_nextToken_0 15 rfl rfl)
theorem dX5_nextToken_16 : decode cX5_nextToken 16 = .ok (.getfield 206, 3) := dk_180 0 206 (dk_at dksX5_nextToken_0 16 rfl rfl)
theorem dX5_nextToken_19 : decode cX5_nextToken 19 = .ok (.iconst 2, 1) := dk_5 (dk_at dksX5_nextToken_0 19 rfl rfl)
theorem dX5_nextToken_20 : decode cX5_nextToken 20 = .ok (.if_icmp .ne 7, 3) := dk_160 0 7 (dk_at dksX5_nextToken_0 20 rfl rfl)
theorem dX5_nextToken_23 : decode cX5_nextToken 23 = .ok (.iconst 1, 1) := dk_4 (dk_at dksX5_nextToken_0 23 rfl rfl)
theorem dX5_nextToken_24 : decode cX5_nextToken 24 = .ok (.goto 4, 3) := dk_167 0 4 (dk_at dksX5_nextToken_1 0 rfl rfl)
theorem dX5_nextToken_27 : decode cX5_nextToken 27 = .ok (.iconst 0, 1) := dk_3 (dk_at dksX5_nextToken_1 3 rfl rfl)
theorem dX5_nextToken_28 : decode cX5_nextToken 28 = .ok (.istore_n 1, 1) := dk_60 (dk_at dksX5_nextToken_1 4 rfl rfl)
theorem dX5_nextToken_29 : decode cX5_nextToken 29 = .ok (.aload_n 0, 1) := dk_42 (dk_at dksX5_nextToken_1 5 rfl rfl)
theorem dX5_nextToken_30 : decode cX5_nextToken 30 = .ok (.getfield 203, 3) := dk_180 0 203 (dk_at dksX5_nextToken_1 6 rfl rfl)
theorem dX5_nextToken_33 : decode cX5_nextToken 33 = .ok (.istore_n 2, 1) := dk_61 (dk_at dksX5_nextToken_1 9 rfl rfl)
theorem dX5_nextToken_34 : decode cX5_nextToken 34 = .ok (.aload_n 0, 1) := dk_42 (dk_at dksX5_nextToken_1 10 rfl rfl)
theorem dX5_nextToken_35 : decode cX5_nextToken 35 = .ok (.getfield 203, 3) := dk_180 0 203 (dk_at dksX5_nextToken_1 11 rfl rfl)
theorem dX5_nextToken_38 : decode cX5_nextToken 38 = .ok (.aload_n 0, 1) := dk_42 (dk_at dksX5_nextToken_1 14 rfl rfl)
theorem dX5_nextToken_39 : decode cX5_nextToken 39 = .ok (.getfield 191, 3) := dk_180 0 191 (dk_at dksX5_nextToken_1 15 rfl rfl)
theorem dX5_nextToken_42 : decode cX5_nextToken 42 = .ok (.if_icmp .ge 30, 3) := dk_162 0 30 (dk_at dksX5_nextToken_1 18 rfl rfl)
theorem dX5_nextToken_45 : decode cX5_nextToken 45 = .ok (.aload_n 0, 1) := dk_42 (dk_at dksX5_nextToken_1 21 rfl rfl)
theorem dX5_nextToken_46 : decode cX5_nextToken 46 = .ok (.getfield 49, 3) := dk_180 0 49 (dk_at dksX5_nextToken_2 0 rfl rfl)
theorem dX5_nextToken_49 : decode cX5_nextToken 49 = .ok (.aload_n 0, 1) := dk_42 (dk_at dksX5_nextToken_2 3 rfl rfl)
theorem dX5_nextToken_50 : decode cX5_nextToken 50 = .ok (.getfield 203, 3) := dk_180 0 203 (dk_at dksX5_nextToken_2 4 rfl rfl)
theorem dX5_nextToken_53 : decode cX5_nextToken 53 = .ok (.iaload, 1) := dk_46 (dk_at dksX5_nextToken_2 7 rfl rfl)
theorem dX5_nextToken_54 : decode cX5_nextToken 54 = .ok (.bipush 32, 2) := dk_16 32 (dk_at dksX5_nextToken_2 8 rfl rfl)
theorem dX5_nextToken_56 : decode cX5_nextToken 56 = .ok (.if_icmp .ne 16, 3) := dk_160 0 16 (dk_at dksX5_nextToken_2 10 rfl rfl)
theorem dX5_nextToken_59 : decode cX5_nextToken 59 = .ok (.aload_n 0, 1) := dk_42 (dk_at dksX5_nextToken_2 13 rfl rfl)
theorem dX5_nextToken_60 : decode cX5_nextToken 60 = .ok (.dup, 1) := dk_89 (dk_at dksX5_nextToken_2 14 rfl rfl)
theorem dX5_nextToken_61 : decode cX5_nextToken 61 = .ok (.getfield 203, 3) := dk_180 0 203 (dk_at dksX5_nextToken_2 15 rfl rfl)
theorem dX5_nextToken_64 : decode cX5_nextToken 64 = .ok (.iconst 1, 1) := dk_4 (dk_at dksX5_nextToken_2 18 rfl rfl)
theorem dX5_nextToken_65 : decode cX5_nextToken 65 = .ok (.iadd, 1) := dk_96 (dk_at dksX5_nextToken_2 19 rfl rfl)
theorem dX5_nextToken_66 : decode cX5_nextToken 66 = .ok (.putfield 203, 3) := dk_181 0 203 (dk_at dksX5_nextToken_2 20 rfl rfl)
theorem dX5_nextToken_69 : decode cX5_nextToken 69 = .ok (.goto (-35), 3) := dk_167 255 221 (dk_at dksX5_nextToken_3 0 rfl rfl)
theorem dX5_nextToken_72 : decode cX5_nextToken 72 = .ok (.iload_n 1, 1) := dk_27 (dk_at dksX5_nextToken_3 3 rfl rfl)
theorem dX5_nextToken_73 : decode cX5_nextToken 73 = .ok (.ifCond .eq 15, 3) := dk_153 0 15 (dk_at dksX5_nextToken_3 4 rfl rfl)
theorem dX5_nextToken_76 : decode cX5_nextToken 76 = .ok (.iload_n 2, 1) := dk_28 (dk_at dksX5_nextToken_3 7 rfl rfl)
theorem dX5_nextToken_77 : decode cX5_nextToken 77 = .ok (.aload_n 0, 1) := dk_42 (dk_at dksX5_nextToken_3 8 rfl rfl)
theorem dX5_nextToken_78 : decode cX5_nextToken 78 = .ok (.getfield 203, 3) := dk_180 0 203 (dk_at dksX5_nextToken_3 9 rfl rfl)
theorem dX5_nextToken_81 : decode cX5_nextToken 81 = .ok (.if_icmp .ne 7, 3) := dk_160 0 7 (dk_at dksX5_nextToken_3 12 rfl rfl)
theorem dX5_nextToken_84 : decode cX5_nextToken 84 = .ok (.iconst 1, 1) := dk_4 (dk_at dksX5_nextToken_3 15 rfl rfl)
theorem dX5_nextToken_85 : decode cX5_nextToken 85 = .ok (.goto 4, 3) := dk_167 0 4 (dk_at dksX5_nextToken_3 16 rfl rfl)
theorem dX5_nextToken_88 : decode cX5_nextToken 88 = .ok (.iconst 0, 1) := dk_3 (dk_at dksX5_nextToken_3 19 rfl rfl)
theorem dX5_nextToken_89 : decode cX5_nextToken 89 = .ok (.istore_n 1, 1) := dk_60 (dk_at dksX5_nextToken_3 20 rfl rfl)
theorem dX5_nextToken_90 : decode cX5_nextToken 90 = .ok (.aload_n 0, 1) := dk_42 (dk_at dksX5_nextToken_3 21 rfl rfl)
theorem dX5_nextToken_91 : decode cX5_nextToken 91 = .ok (.aload_n 0, 1) := dk_42 (dk_at dksX5_nextToken_3 22 rfl rfl)
theorem dX5_nextToken_92 : decode cX5_nextToken 92 = .ok (.getfield 203, 3) := dk_180 0 203 (dk_at dksX5_nextToken_4 0 rfl rfl)
theorem dX5_nextToken_95 : decode cX5_nextToken 95 = .ok (.putfield 209, 3) := dk_181 0 209 (dk_at dksX5_nextToken_4 3 rfl rfl)
theorem dX5_nextToken_98 : decode cX5_nextToken 98 = .ok (.aload_n 0, 1) := dk_42 (dk_at dksX5_nextToken_4 6 rfl rfl)
theorem dX5_nextToken_99 : decode cX5_nextToken 99 = .ok (.getfield 209, 3) := dk_180 0 209 (dk_at dksX5_nextToken_4 7 rfl rfl)
theorem dX5_nextToken_102 : decode cX5_nextToken 102 = .ok (.aload_n 0, 1) := dk_42 (dk_at dksX5_nextToken_4 10 rfl rfl)
theorem dX5_nextToken_103 : decode cX5_nextToken 103 = .ok (.getfield 191, 3) := dk_180 0 191 (dk_at dksX5_nextToken_4 11 rfl rfl)
theorem dX5_nextToken_106 : decode cX5_nextToken 106 = .ok (.if_icmp .ne 11, 3) := dk_160 0 11 (dk_at dksX5_nextToken_4 14 rfl rfl)
theorem dX5_nextToken_109 : decode cX5_nextToken 109 = .ok (.aload_n 0, 1) := dk_42 (dk_at dksX5_nextToken_4 17 rfl rfl)
theorem dX5_nextToken_110 : decode cX5_nextToken 110 = .ok (.iconst 0, 1) := dk_3 (dk_at dksX5_nextToken_4 18 rfl rfl)
theorem dX5_nextToken_111 : decode cX5_nextToken 111 = .ok (.putfield 206, 3) := dk_181 0 206 (dk_at dksX5_nextToken_4 19 rfl rfl)
theorem dX5_nextToken_114 : decode cX5_nextToken 114 = .ok (.goto 225, 3) := dk_167 0 225 (dk_at dksX5_nextToken_5 0 rfl rfl)
theorem dX5_nextToken_117 : decode cX5_nextToken 117 = .ok (.aload_n 0, 1) := dk_42 (dk_at dksX5_nextToken_5 3 rfl rfl)
theorem dX5_nextToken_118 : decode cX5_nextToken 118 = .ok (.aload_n 0, 1) := dk_42 (dk_at dksX5_nextToken_5 4 rfl rfl)
theorem dX5_nextToken_119 : decode cX5_nextToken 119 = .ok (.getfield 209, 3) := dk_180 0 209 (dk_at dksX5_nextToken_5 5 rfl rfl)
theorem dX5_nextToken_122 : decode cX5_nextToken 122 = .ok (.invokevirtual 212, 3) := dk_182 0 212 (dk_at dksX5_nextToken_5 8 rfl rfl)
theorem dX5_nextToken_125 : decode cX5_nextToken 125 = .ok (.ifCond .eq 73, 3) := dk_153 0 73 (dk_at dksX5_nextToken_5 11 rfl rfl)
theorem dX5_nextToken_128 : decode cX5_nextToken 128 = .ok (.aload_n 0, 1) := dk_42 (dk_at dksX5_nextToken_5 14 rfl rfl)
theorem dX5_nextToken_129 : decode cX5_nextToken 129 = .ok (.aload_n 0, 1) := dk_42 (dk_at dksX5_nextToken_5 15 rfl rfl)
theorem dX5_nextToken_130 : decode cX5_nextToken 130 = .ok (.getfield 203, 3) := dk_180 0 203 (dk_at dksX5_nextToken_5 16 rfl rfl)
theorem dX5_nextToken_133 : decode cX5_nextToken 133 = .ok (.invokevirtual 212, 3) := dk_182 0 212 (dk_at dksX5_nextToken_5 19 rfl rfl)
theorem dX5_nextToken_136 : decode cX5_nextToken 136 = .ok (.ifCond .eq 16, 3) := dk_153 0 16 (dk_at dksX5_nextToken_6 0 rfl rfl)
theorem dX5_nextToken_139 : decode cX5_nextToken 139 = .ok (.aload_n 0, 1) := dk_42 (dk_at dksX5_nextToken_6 3 rfl rfl)
theorem dX5_nextToken_140 : decode cX5_nextToken 140 = .ok (.dup, 1) := dk_89 (dk_at dksX5_nextToken_6 4 rfl rfl)
theorem dX5_nextToken_141 : decode cX5_nextToken 141 = .ok (.getfield 203, 3) := dk_180 0 203 (dk_at dksX5_nextToken_6 5 rfl rfl)
theorem dX5_nextToken_144 : decode cX5_nextToken 144 = .ok (.iconst 1, 1) := dk_4 (dk_at dksX5_nextToken_6 8 rfl rfl)
theorem dX5_nextToken_145 : decode cX5_nextToken 145 = .ok (.iadd, 1) := dk_96 (dk_at dksX5_nextToken_6 9 rfl rfl)
theorem dX5_nextToken_146 : decode cX5_nextToken 146 = .ok (.putfield 203, 3) := dk_181 0 203 (dk_at dksX5_nextToken_6 10 rfl rfl)
theorem dX5_nextToken_149 : decode cX5_nextToken 149 = .ok (.goto (-21), 3) := dk_167 255 235 (dk_at dksX5_nextToken_6 13 rfl rfl)
theorem dX5_nextToken_152 : decode cX5_nextToken 152 = .ok (.aload_n 0, 1) := dk_42 (dk_at dksX5_nextToken_6 16 rfl rfl)
theorem dX5_nextToken_153 : decode cX5_nextToken 153 = .ok (.iload_n 1, 1) := dk_27 (dk_at dksX5_nextToken_6 17 rfl rfl)
theorem dX5_nextToken_154 : decode cX5_nextToken 154 = .ok (.ifCond .eq 7, 3) := dk_153 0 7 (dk_at dksX5_nextToken_6 18 rfl rfl)
theorem dX5_nextToken_157 : decode cX5_nextToken 157 = .ok (.iconst 4, 1) := dk_7 (dk_at dksX5_nextToken_6 21 rfl rfl)
theorem dX5_nextToken_158 : decode cX5_nextToken 158 = .ok (.goto 4, 3) := dk_167 0 4 (dk_at dksX5_nextToken_7 0 rfl rfl)
theorem dX5_nextToken_161 : decode cX5_nextToken 161 = .ok (.iconst 1, 1) := dk_4 (dk_at dksX5_nextToken_7 3 rfl rfl)
theorem dX5_nextToken_162 : decode cX5_nextToken 162 = .ok (.putfield 206, 3) := dk_181 0 206 (dk_at dksX5_nextToken_7 4 rfl rfl)
theorem dX5_nextToken_165 : decode cX5_nextToken 165 = .ok (.aload_n 0, 1) := dk_42 (dk_at dksX5_nextToken_7 7 rfl rfl)
theorem dX5_nextToken_166 : decode cX5_nextToken 166 = .ok (.aload_n 0, 1) := dk_42 (dk_at dksX5_nextToken_7 8 rfl rfl)
theorem dX5_nextToken_167 : decode cX5_nextToken 167 = .ok (.getfield 203, 3) := dk_180 0 203 (dk_at dksX5_nextToken_7 9 rfl rfl)
theorem dX5_nextToken_170 : decode cX5_nextToken 170 = .ok (.aload_n 0, 1) := dk_42 (dk_at dksX5_nextToken_7 12 rfl rfl)
theorem dX5_nextToken_171 : decode cX5_nextToken 171 = .ok (.getfield 209, 3) := dk_180 0 209 (dk_at dksX5_nextToken_7 13 rfl rfl)
theorem dX5_nextToken_174 : decode cX5_nextToken 174 = .ok (.isub, 1) := dk_100 (dk_at dksX5_nextToken_7 16 rfl rfl)
theorem dX5_nextToken_175 : decode cX5_nextToken 175 = .ok (.iconst 1, 1) := dk_4 (dk_at dksX5_nextToken_7 17 rfl rfl)
theorem dX5_nextToken_176 : decode cX5_nextToken 176 = .ok (.if_icmp .ne 15, 3) := dk_160 0 15 (dk_at dksX5_nextToken_7 18 rfl rfl)
theorem dX5_nextToken_179 : decode cX5_nextToken 179 = .ok (.aload_n 0, 1) := dk_42 (dk_at dksX5_nextToken_7 21 rfl rfl)
theorem dX5_nextToken_180 : decode cX5_nextToken 180 = .ok (.getfield 49, 3) := dk_180 0 49 (dk_at dksX5_nextToken_8 0 rfl rfl)
theorem dX5_nextToken_183 : decode cX5_nextToken 183 = .ok (.aload_n 0, 1) := dk_42 (dk_at dksX5_nextToken_8 3 rfl rfl)
theorem dX5_nextToken_184 : decode cX5_nextToken 184 = .ok (.getfield 209, 3) := dk_180 0 209 (dk_at dksX5_nextToken_8 4 rfl rfl)
theorem dX5_nextToken_187 : decode cX5_nextToken 187 = .ok (.iaload, 1) := dk_46 (dk_at dksX5_nextToken_8 7 rfl rfl)
theorem dX5_nextToken_188 : decode cX5_nextToken 188 = .ok (.goto 4, 3) := dk_167 0 4 (dk_at dksX5_nextToken_8 8 rfl rfl)
theorem dX5_nextToken_191 : decode cX5_nextToken 191 = .ok (.iconst 0, 1) := dk_3 (dk_at dksX5_nextToken_8 11 rfl rfl)
theorem dX5_nextToken_192 : decode cX5_nextToken 192 = .ok (.putfield 215, 3) := dk_181 0 215 (dk_at dksX5_nextToken_8 12 rfl rfl)
theorem dX5_nextToken_195 : decode cX5_nextToken 195 = .ok (.goto 144, 3) := dk_167 0 144 (dk_at dksX5_nextToken_8 15 rfl rfl)
theorem dX5_nextToken_198 : decode cX5_nextToken 198 = .ok (.aload_n 0, 1) := dk_42 (dk_at dksX5_nextToken_8 18 rfl rfl)
theorem dX5_nextToken_199 : decode cX5_nextToken 199 = .ok (.aload_n 0, 1) := dk_42 (dk_at dksX5_nextToken_8 19 rfl rfl)
theorem dX5_nextToken_200 : decode cX5_nextToken 200 = .ok (.getfield 209, 3) := dk_180 0 209 (dk_at dksX5_nextToken_8 20 rfl rfl)
theorem dX5_nextToken_203 : decode cX5_nextToken 203 = .ok (.invokevirtual 218, 3) := dk_182 0 218 (dk_at dksX5_nextToken_9 0 rfl rfl)
theorem dX5_nextToken_206 : decode cX5_nextToken 206 = .ok (.ifCond .eq 105, 3) := dk_153 0 105 (dk_at dksX5_nextToken_9 3 rfl rfl)
theorem dX5_nextToken_209 : decode cX5_nextToken 209 = .ok (.aload_n 0, 1) := dk_42 (dk_at dksX5_nextToken_9 6 rfl rfl)
theorem dX5_nextToken_210 : decode cX5_nextToken 210 = .ok (.iconst 0, 1) := dk_3 (dk_at dksX5_nextToken_9 7 rfl rfl)
theorem dX5_nextToken_211 : decode cX5_nextToken 211 = .ok (.putfield 221, 3) := dk_181 0 221 (dk_at dksX5_nextToken_9 8 rfl rfl)
theorem dX5_nextToken_214 : decode cX5_nextToken 214 = .ok (.aload_n 0, 1) := dk_42 (dk_at dksX5_nextToken_9 11 rfl rfl)
theorem dX5_nextToken_215 : decode cX5_nextToken 215 = .ok (.aload_n 0, 1) := dk_42 (dk_at dksX5_nextToken_9 12 rfl rfl)
theorem dX5_nextToken_216 : decode cX5_nextToken 216 = .ok (.getfield 203, 3) := dk_180 0 203 (dk_at dksX5_nextToken_9 13 rfl rfl)
theorem dX5_nextToken_219 : decode cX5_nextToken 219 = .ok (.invokevirtual 218, 3) := dk_182 0 218 (dk_at dksX5_nextToken_9 16 rfl rfl)
theorem dX5_nextToken_222 : decode cX5_nextToken 222 = .ok (.ifCond .eq 60, 3) := dk_153 0 60 (dk_at dksX5_nextToken_9 19 rfl rfl)
theorem dX5_nextToken_225 : decode cX5_nextToken 225 = .ok (.aload_n 0, 1) := dk_42 (dk_at dksX5_nextToken_9 22 rfl rfl)
theorem dX5_nextToken_226 : decode cX5_nextToken 226 = .ok (.aload_n 0, 1) := dk_42 (dk_at dksX5_nextToken_9 23 rfl rfl)
theorem dX5_nextToken_227 : decode cX5_nextToken 227 = .ok (.getfield 203, 3) := dk_180 0 203 (dk_at dksX5_nextToken_10 0 rfl rfl)
theorem dX5_nextToken_230 : decode cX5_nextToken 230 = .ok (.aload_n 0, 1) := dk_42 (dk_at dksX5_nextToken_10 3 rfl rfl)
theorem dX5_nextToken_231 : decode cX5_nextToken 231 = .ok (.getfield 209, 3) := dk_180 0 209 (dk_at dksX5_nextToken_10 4 rfl rfl)
theorem dX5_nextToken_234 : decode cX5_nextToken 234 = .ok (.isub, 1) := dk_100 (dk_at dksX5_nextToken_10 7 rfl rfl)
theorem dX5_nextToken_235 : decode cX5_nextToken 235 = .ok (.iconst 4, 1) := dk_7 (dk_at dksX5_nextToken_10 8 rfl rfl)
theorem dX5_nextToken_236 : decode cX5_nextToken 236 = .ok (.if_icmp .ge 26, 3) := dk_162 0 26 (dk_at dksX5_nextToken_10 9 rfl rfl)
theorem dX5_nextToken_239 : decode cX5_nextToken 239 = .ok (.bipush 10, 2) := dk_16 10 (dk_at dksX5_nextToken_10 12 rfl rfl)
theorem dX5_nextToken_241 : decode cX5_nextToken 241 = .ok (.aload_n 0, 1) := dk_42 (dk_at dksX5_nextToken_10 14 rfl rfl)
theorem dX5_nextToken_242 : decode cX5_nextToken 242 = .ok (.getfield 221, 3) := dk_180 0 221 (dk_at dksX5_nextToken_10 15 rfl rfl)
theorem dX5_nextToken_245 : decode cX5_nextToken 245 = .ok (.imul, 1) := dk_104 (dk_at dksX5_nextToken_10 18 rfl rfl)
theorem dX5_nextToken_246 : decode cX5_nextToken 246 = .ok (.aload_n 0, 1) := dk_42 (dk_at dksX5_nextToken_10 19 rfl rfl)
theorem dX5_nextToken_247 : decode cX5_nextToken 247 = .ok (.getfield 49, 3) := dk_180 0 49 (dk_at dksX5_nextToken_10 20 rfl rfl)
theorem dX5_nextToken_250 : decode cX5_nextToken 250 = .ok (.aload_n 0, 1) := dk_42 (dk_at dksX5_nextToken_10 23 rfl rfl)
theorem dX5_nextToken_251 : decode cX5_nextToken 251 = .ok (.getfield 203, 3) := dk_180 0 203 (dk_at dksX5_nextToken_11 0 rfl rfl)
theorem dX5_nextToken_254 : decode cX5_nextToken 254 = .ok (.iaload, 1) := dk_46 (dk_at dksX5_nextToken_11 3 rfl rfl)
theorem dX5_nextToken_255 : decode cX5_nextToken 255 = .ok (.iadd, 1) := dk_96 (dk_at dksX5_nextToken_11 4 rfl rfl)
theorem dX5_nextToken_256 : decode cX5_nextToken 256 = .ok (.bipush 48, 2) := dk_16 48 (dk_at dksX5_nextToken_11 5 rfl rfl)
theorem dX5_nextToken_258 : decode cX5_nextToken 258 = .ok (.isub, 1) := dk_100 (dk_at dksX5_nextToken_11 7 rfl rfl)
theorem dX5_nextToken_259 : decode cX5_nextToken 259 = .ok (.goto 7, 3) := dk_167 0 7 (dk_at dksX5_nextToken_11 8 rfl rfl)
theorem dX5_nextToken_262 : decode cX5_nextToken 262 = .ok (.aload_n 0, 1) := dk_42 (dk_at dksX5_nextToken_11 11 rfl rfl)
theorem dX5_nextToken_263 : decode cX5_nextToken 263 = .ok (.getfield 221, 3) := dk_180 0 221 (dk_at dksX5_nextToken_11 12 rfl rfl)
theorem dX5_nextToken_266 : decode cX5_nextToken 266 = .ok (.putfield 221, 3) := dk_181 0 221 (dk_at dksX5_nextToken_11 15 rfl rfl)
theorem dX5_nextToken_269 : decode cX5_nextToken 269 = .ok (.aload_n 0, 1) := dk_42 (dk_at dksX5_nextToken_11 18 rfl rfl)
theorem dX5_nextToken_270 : decode cX5_nextToken 270 = .ok (.dup, 1) := dk_89 (dk_at dksX5_nextToken_11 19 rfl rfl)
theorem dX5_nextToken_271 : decode cX5_nextToken 271 = .ok (.getfield 203, 3) := dk_180 0 203 (dk_at dksX5_nextToken_11 20 rfl rfl)
theorem dX5_nextToken_274 : decode cX5_nextToken 274 = .ok (.iconst 1, 1) := dk_4 (dk_at dksX5_nextToken_11 23 rfl rfl)
theorem dX5_nextToken_275 : decode cX5_nextToken 275 = .ok (.iadd, 1) := dk_96 (dk_at dksX5_nextToken_12 0 rfl rfl)
theorem dX5_nextToken_276 : decode cX5_nextToken 276 = .ok (.putfield 203, 3) := dk_181 0 203 (dk_at dksX5_nextToken_12 1 rfl rfl)
theorem dX5_nextToken_279 : decode cX5_nextToken 279 = .ok (.goto (-65), 3) := dk_167 255 191 (dk_at dksX5_nextToken_12 4 rfl rfl)
theorem dX5_nextToken_282 : decode cX5_nextToken 282 = .ok (.aload_n 0, 1) := dk_42 (dk_at dksX5_nextToken_12 7 rfl rfl)
theorem dX5_nextToken_283 : decode cX5_nextToken 283 = .ok (.iload_n 1, 1) := dk_27 (dk_at dksX5_nextToken_12 8 rfl rfl)
theorem dX5_nextToken_284 : decode cX5_nextToken 284 = .ok (.ifCond .ne 16, 3) := dk_154 0 16 (dk_at dksX5_nextToken_12 9 rfl rfl)
theorem dX5_nextToken_287 : decode cX5_nextToken 287 = .ok (.aload_n 0, 1) := dk_42 (dk_at dksX5_nextToken_12 12 rfl rfl)
theorem dX5_nextToken_288 : decode cX5_nextToken 288 = .ok (.getfield 203, 3) := dk_180 0 203 (dk_at dksX5_nextToken_12 13 rfl rfl)
theorem dX5_nextToken_291 : decode cX5_nextToken 291 = .ok (.aload_n 0, 1) := dk_42 (dk_at dksX5_nextToken_12 16 rfl rfl)
theorem dX5_nextToken_292 : decode cX5_nextToken 292 = .ok (.getfield 209, 3) := dk_180 0 209 (dk_at dksX5_nextToken_12 17 rfl rfl)
theorem dX5_nextToken_295 : decode cX5_nextToken 295 = .ok (.isub, 1) := dk_100 (dk_at dksX5_nextToken_12 20 rfl rfl)
theorem dX5_nextToken_296 : decode cX5_nextToken 296 = .ok (.iconst 4, 1) := dk_7 (dk_at dksX5_nextToken_12 21 rfl rfl)
theorem dX5_nextToken_297 : decode cX5_nextToken 297 = .ok (.if_icmp .le 7, 3) := dk_164 0 7 (dk_at dksX5_nextToken_13 0 rfl rfl)
theorem dX5_nextToken_300 : decode cX5_nextToken 300 = .ok (.iconst 4, 1) := dk_7 (dk_at dksX5_nextToken_13 3 rfl rfl)
theorem dX5_nextToken_301 : decode cX5_nextToken 301 = .ok (.goto 4, 3) := dk_167 0 4 (dk_at dksX5_nextToken_13 4 rfl rfl)
theorem dX5_nextToken_304 : decode cX5_nextToken 304 = .ok (.iconst 2, 1) := dk_5 (dk_at dksX5_nextToken_13 7 rfl rfl)
theorem dX5_nextToken_305 : decode cX5_nextToken 305 = .ok (.putfield 206, 3) := dk_181 0 206 (dk_at dksX5_nextToken_13 8 rfl rfl)
theorem dX5_nextToken_308 : decode cX5_nextToken 308 = .ok (.goto 31, 3) := dk_167 0 31 (dk_at dksX5_nextToken_13 11 rfl rfl)
theorem dX5_nextToken_311 : decode cX5_nextToken 311 = .ok (.aload_n 0, 1) := dk_42 (dk_at dksX5_nextToken_13 14 rfl rfl)
theorem dX5_nextToken_312 : decode cX5_nextToken 312 = .ok (.iconst 3, 1) := dk_6 (dk_at dksX5_nextToken_13 15 rfl rfl)
theorem dX5_nextToken_313 : decode cX5_nextToken 313 = .ok (.putfield 206, 3) := dk_181 0 206 (dk_at dksX5_nextToken_13 16 rfl rfl)
theorem dX5_nextToken_316 : decode cX5_nextToken 316 = .ok (.aload_n 0, 1) := dk_42 (dk_at dksX5_nextToken_13 19 rfl rfl)
theorem dX5_nextToken_317 : decode cX5_nextToken 317 = .ok (.aload_n 0, 1) := dk_42 (dk_at dksX5_nextToken_13 20 rfl rfl)
theorem dX5_nextToken_318 : decode cX5_nextToken 318 = .ok (.getfield 49, 3) := dk_180 0 49 (dk_at dksX5_nextToken_13 21 rfl rfl)
theorem dX5_nextToken_321 : decode cX5_nextToken 321 = .ok (.aload_n 0, 1) := dk_42 (dk_at dksX5_nextToken_14 0 rfl rfl)
theorem dX5_nextToken_322 : decode cX5_nextToken 322 = .ok (.getfield 209, 3) := dk_180 0 209 (dk_at dksX5_nextToken_14 1 rfl rfl)
theorem dX5_nextToken_325 : decode cX5_nextToken 325 = .ok (.iaload, 1) := dk_46 (dk_at dksX5_nextToken_14 4 rfl rfl)
theorem dX5_nextToken_326 : decode cX5_nextToken 326 = .ok (.putfield 215, 3) := dk_181 0 215 (dk_at dksX5_nextToken_14 5 rfl rfl)
theorem dX5_nextToken_329 : decode cX5_nextToken 329 = .ok (.aload_n 0, 1) := dk_42 (dk_at dksX5_nextToken_14 8 rfl rfl)
theorem dX5_nextToken_330 : decode cX5_nextToken 330 = .ok (.dup, 1) := dk_89 (dk_at dksX5_nextToken_14 9 rfl rfl)
theorem dX5_nextToken_331 : decode cX5_nextToken 331 = .ok (.getfield 203, 3) := dk_180 0 203 (dk_at dksX5_nextToken_14 10 rfl rfl)
theorem dX5_nextToken_334 : decode cX5_nextToken 334 = .ok (.iconst 1, 1) := dk_4 (dk_at dksX5_nextToken_14 13 rfl rfl)
theorem dX5_nextToken_335 : decode cX5_nextToken 335 = .ok (.iadd, 1) := dk_96 (dk_at dksX5_nextToken_14 14 rfl rfl)
theorem dX5_nextToken_336 : decode cX5_nextToken 336 = .ok (.putfield 203, 3) := dk_181 0 203 (dk_at dksX5_nextToken_14 15 rfl rfl)
theorem dX5_nextToken_339 : decode cX5_nextToken 339 = .ok (.return_, 1) := dk_177 (dk_at dksX5_nextToken_14 18 rfl rfl)
abbrev cX5_isLetter : ByteArray := prog_18_method_61_code
def yX5_isLetter : MethodName := ⟨RX5, "isLetter", "(I)Z"⟩
def dkwX5_isLetter_1 : List UInt8 := [153, 0, 7, 4, 167, 0, 4, 3, 172]
abbrev dktX5_isLetter_1 : List UInt8 := dkwX5_isLetter_1 ++ []
def dkwX5_isLetter_0 : List UInt8 := [27, 42, 180, 0, 191, 162, 0, 26, 42, 180, 0, 49, 27, 46, 133, 20, 0, 195, 20, 0, 197, 184, 0, 68]
abbrev dktX5_isLetter_0 : List UInt8 := dkwX5_isLetter_0 ++ dktX5_isLetter_1
theorem dksX5_isLetter_0 : cX5_isLetter.data.toList.drop 0 = dktX5_isLetter_0 := by decide +kernel
theorem dksX5_isLetter_1 : cX5_isLetter.data.toList.drop 24 = dktX5_isLetter_1 := dk_seg dksX5_isLetter_0 24 rfl rfl
theorem dX5_isLetter_0 : decode cX5_isLetter 0 = .ok (.iload_n 1, 1) := dk_27 (dk_at dksX5_isLetter_0 0 rfl rfl)
theorem dX5_isLetter_1 : decode cX5_isLetter 1 = .ok (.aload_n 0, 1) := dk_42 (dk_at dksX5_isLetter_0 1 rfl rfl)
theorem dX5_isLetter_2 : decode cX5_isLetter 2 = .ok (.getfield 191, 3) := dk_180 0 191 (dk_at dksX5_isLetter_0 2 rfl rfl)
theorem dX5_isLetter_5 : decode cX5_isLetter 5 = .ok (.if_icmp .ge 26, 3) := dk_162 0 26 (dk_at dksX5_isLetter_0 5 rfl rfl)
theorem dX5_isLetter_8 : decode cX5_isLetter 8 = .ok (.aload_n 0, 1) := dk_42 (dk_at dksX5_isLetter_0 8 rfl rfl)
theorem dX5_isLetter_9 : decode cX5_isLetter 9 = .ok (.getfield 49, 3) := dk_180 0 49 (dk_at dksX5_isLetter_0 9 rfl rfl)
theorem dX5_isLetter_12 : decode cX5_isLetter 12 = .ok (.iload_n 1, 1) := dk_27 (dk_at dksX5_isLetter_0 12 rfl rfl)
theorem dX5_isLetter_13 : decode cX5_isLetter 13 = .ok (.iaload, 1) := dk_46 (dk_at dksX5_isLetter_0 13 rfl rfl)
theorem dX5_isLetter_14 : decode cX5_isLetter 14 = .ok (.i2l, 1) := dk_133 (dk_at dksX5_isLetter_0 14 rfl rfl)
theorem dX5_isLetter_15 : decode cX5_isLetter 15 = .ok (.ldc2_w 195, 3) := dk_20 0 195 (dk_at dksX5_isLetter_0 15 rfl rfl)
theorem dX5_isLetter_18 : decode cX5_isLetter 18 = .ok (.ldc2_w 197, 3) := dk_20 0 197 (dk_at dksX5_isLetter_0 18 rfl rfl)
theorem dX5_isLetter_21 : decode cX5_isLetter 21 = .ok (.invokestatic 68, 3) := dk_184 0 68 (dk_at dksX5_isLetter_0 21 rfl rfl)
theorem dX5_isLetter_24 : decode cX5_isLetter 24 = .ok (.ifCond .eq 7, 3) := dk_153 0 7 (dk_at dksX5_isLetter_1 0 rfl rfl)
theorem dX5_isLetter_27 : decode cX5_isLetter 27 = .ok (.iconst 1, 1) := dk_4 (dk_at dksX5_isLetter_1 3 rfl rfl)
theorem dX5_isLetter_28 : decode cX5_isLetter 28 = .ok (.goto 4, 3) := dk_167 0 4 (dk_at dksX5_isLetter_1 4 rfl rfl)
theorem dX5_isLetter_31 : decode cX5_isLetter 31 = .ok (.iconst 0, 1) := dk_3 (dk_at dksX5_isLetter_1 7 rfl rfl)
theorem dX5_isLetter_32 : decode cX5_isLetter 32 = .ok (.ireturn, 1) := dk_172 (dk_at dksX5_isLetter_1 8 rfl rfl)
abbrev cX5_isDigit : ByteArray := prog_18_method_62_code
def yX5_isDigit : MethodName := ⟨RX5, "isDigit", "(I)Z"⟩
def dkwX5_isDigit_1 : List UInt8 := [153, 0, 7, 4, 167, 0, 4, 3, 172]
abbrev dktX5_isDigit_1 : List UInt8 := dkwX5_isDigit_1 ++ []
def dkwX5_isDigit_0 : List UInt8 := [27, 42, 180, 0, 191, 162, 0, 26, 42, 180, 0, 49, 27, 46, 133, 20, 0, 199, 20, 0, 201, 184, 0, 68]
abbrev dktX5_isDigit_0 : List UInt8 := dkwX5_isDigit_0 ++ dktX5_isDigit_1
theorem dksX5_isDigit_0 : cX5_isDigit.data.toList.drop 0 = dktX5_isDigit_0 := by decide +kernel
theorem dksX5_isDigit_1 : cX5_isDigit.data.toList.drop 24 = dktX5_isDigit_1 := dk_seg dksX5_isDigit_0 24 rfl rfl
theorem dX5_isDigit_0 : decode cX5_isDigit 0 = .ok (.iload_n 1, 1) := dk_27 (dk_at dksX5_isDigit_0 0 rfl rfl)
theorem dX5_isDigit_1 : decode cX5_isDigit 1 = .ok (.aload_n 0, 1) := dk_42 (dk_at dksX5_isDigit_0 1 rfl rfl)
theorem dX5_isDigit_2 : decode cX5_isDigit 2 = .ok (.getfield 191, 3) := dk_180 0 191 (dk_at dksX5_isDigit_0 2 rfl rfl)
theorem dX5_isDigit_5 : decode cX5_isDigit 5 = .ok (.if_icmp .ge 26, 3) := dk_162 0 26 (dk_at dksX5_isDigit_0 5 rfl rfl)
theorem dX5_isDigit_8 : decode cX5_isDigit 8 = .ok (.aload_n 0, 1) := dk_42 (dk_at dksX5_isDigit_0 8 rfl rfl)
theorem dX5_isDigit_9 : decode cX5_isDigit 9 = .ok (.getfield 49, 3) := dk_180 0 49 (dk_at dksX5_isDigit_0 9 rfl rfl)
theorem dX5_isDigit_12 : decode cX5_isDigit 12 = .ok (.iload_n 1, 1) := dk_27 (dk_at dksX5_isDigit_0 12 rfl rfl)
theorem dX5_isDigit_13 : decode cX5_isDigit 13 = .ok (.iaload, 1) := dk_46 (dk_at dksX5_isDigit_0 13 rfl rfl)
theorem dX5_isDigit_14 : decode cX5_isDigit 14 = .ok (.i2l, 1) := dk_133 (dk_at dksX5_isDigit_0 14 rfl rfl)
theorem dX5_isDigit_15 : decode cX5_isDigit 15 = .ok (.ldc2_w 199, 3) := dk_20 0 199 (dk_at dksX5_isDigit_0 15 rfl rfl)
theorem dX5_isDigit_18 : decode cX5_isDigit 18 = .ok (.ldc2_w 201, 3) := dk_20 0 201 (dk_at dksX5_isDigit_0 18 rfl rfl)
theorem dX5_isDigit_21 : decode cX5_isDigit 21 = .ok (.invokestatic 68, 3) := dk_184 0 68 (dk_at dksX5_isDigit_0 21 rfl rfl)
theorem dX5_isDigit_24 : decode cX5_isDigit 24 = .ok (.ifCond .eq 7, 3) := dk_153 0 7 (dk_at dksX5_isDigit_1 0 rfl rfl)
theorem dX5_isDigit_27 : decode cX5_isDigit 27 = .ok (.iconst 1, 1) := dk_4 (dk_at dksX5_isDigit_1 3 rfl rfl)
theorem dX5_isDigit_28 : decode cX5_isDigit 28 = .ok (.goto 4, 3) := dk_167 0 4 (dk_at dksX5_isDigit_1 4 rfl rfl)
theorem dX5_isDigit_31 : decode cX5_isDigit 31 = .ok (.iconst 0, 1) := dk_3 (dk_at dksX5_isDigit_1 7 rfl rfl)
theorem dX5_isDigit_32 : decode cX5_isDigit 32 = .ok (.ireturn, 1) := dk_172 (dk_at dksX5_isDigit_1 8 rfl rfl)
abbrev cX5_key : ByteArray := prog_18_method_67_code
def yX5_key : MethodName := ⟨RX5, "key", "()I"⟩
def dkwX5_key_2 : List UInt8 := [182, 0, 228, 153, 0, 7, 5, 167, 0, 4, 2, 172]
abbrev dktX5_key_2 : List UInt8 := dkwX5_key_2 ++ []
def dkwX5_key_1 : List UInt8 := [16, 101, 16, 101, 3, 182, 0, 228, 153, 0, 5, 4, 172, 42, 16, 102, 16, 105, 16, 110, 16, 101]
abbrev dktX5_key_1 : List UInt8 := dkwX5_key_1 ++ dktX5_key_2
def dkwX5_key_0 : List UInt8 := [42, 16, 97, 16, 103, 16, 97, 16, 105, 16, 110, 3, 182, 0, 224, 153, 0, 5, 3, 172, 42, 16, 102]
abbrev dktX5_key_0 : List UInt8 := dkwX5_key_0 ++ dktX5_key_1
theorem dksX5_key_0 : cX5_key.data.toList.drop 0 = dktX5_key_0 := by decide +kernel
theorem dksX5_key_1 : cX5_key.data.toList.drop 23 = dktX5_key_1 := dk_seg dksX5_key_0 23 rfl rfl
theorem dksX5_key_2 : cX5_key.data.toList.drop 45 = dktX5_key_2 := dk_seg dksX5_key_1 22 rfl rfl
theorem dX5_key_0 : decode cX5_key 0 = .ok (.aload_n 0, 1) := dk_42 (dk_at dksX5_key_0 0 rfl rfl)
theorem dX5_key_1 : decode cX5_key 1 = .ok (.bipush 97, 2) := dk_16 97 (dk_at dksX5_key_0 1 rfl rfl)
theorem dX5_key_3 : decode cX5_key 3 = .ok (.bipush 103, 2) := dk_16 103 (dk_at dksX5_key_0 3 rfl rfl)
theorem dX5_key_5 : decode cX5_key 5 = .ok (.bipush 97, 2) := dk_16 97 (dk_at dksX5_key_0 5 rfl rfl)
theorem dX5_key_7 : decode cX5_key 7 = .ok (.bipush 105, 2) := dk_16 105 (dk_at dksX5_key_0 7 rfl rfl)
theorem dX5_key_9 : decode cX5_key 9 = .ok (.bipush 110, 2) := dk_16 110 (dk_at dksX5_key_0 9 rfl rfl)
theorem dX5_key_11 : decode cX5_key 11 = .ok (.iconst 0, 1) := dk_3 (dk_at dksX5_key_0 11 rfl rfl)
theorem dX5_key_12 : decode cX5_key 12 = .ok (.invokevirtual 224, 3) := dk_182 0 224 (dk_at dksX5_key_0 12 rfl rfl)
theorem dX5_key_15 : decode cX5_key 15 = .ok (.ifCond .eq 5, 3) := dk_153 0 5 (dk_at dksX5_key_0 15 rfl rfl)
theorem dX5_key_18 : decode cX5_key 18 = .ok (.iconst 0, 1) := dk_3 (dk_at dksX5_key_0 18 rfl rfl)
theorem dX5_key_19 : decode cX5_key 19 = .ok (.ireturn, 1) := dk_172 (dk_at dksX5_key_0 19 rfl rfl)
theorem dX5_key_20 : decode cX5_key 20 = .ok (.aload_n 0, 1) := dk_42 (dk_at dksX5_key_0 20 rfl rfl)
theorem dX5_key_21 : decode cX5_key 21 = .ok (.bipush 102, 2) := dk_16 102 (dk_at dksX5_key_0 21 rfl rfl)
theorem dX5_key_23 : decode cX5_key 23 = .ok (.bipush 101, 2) := dk_16 101 (dk_at dksX5_key_1 0 rfl rfl)
theorem dX5_key_25 : decode cX5_key 25 = .ok (.bipush 101, 2) := dk_16 101 (dk_at dksX5_key_1 2 rfl rfl)
theorem dX5_key_27 : decode cX5_key 27 = .ok (.iconst 0, 1) := dk_3 (dk_at dksX5_key_1 4 rfl rfl)
theorem dX5_key_28 : decode cX5_key 28 = .ok (.invokevirtual 228, 3) := dk_182 0 228 (dk_at dksX5_key_1 5 rfl rfl)
theorem dX5_key_31 : decode cX5_key 31 = .ok (.ifCond .eq 5, 3) := dk_153 0 5 (dk_at dksX5_key_1 8 rfl rfl)
theorem dX5_key_34 : decode cX5_key 34 = .ok (.iconst 1, 1) := dk_4 (dk_at dksX5_key_1 11 rfl rfl)
theorem dX5_key_35 : decode cX5_key 35 = .ok (.ireturn, 1) := dk_172 (dk_at dksX5_key_1 12 rfl rfl)
theorem dX5_key_36 : decode cX5_key 36 = .ok (.aload_n 0, 1) := dk_42 (dk_at dksX5_key_1 13 rfl rfl)
theorem dX5_key_37 : decode cX5_key 37 = .ok (.bipush 102, 2) := dk_16 102 (dk_at dksX5_key_1 14 rfl rfl)
theorem dX5_key_39 : decode cX5_key 39 = .ok (.bipush 105, 2) := dk_16 105 (dk_at dksX5_key_1 16 rfl rfl)
theorem dX5_key_41 : decode cX5_key 41 = .ok (.bipush 110, 2) := dk_16 110 (dk_at dksX5_key_1 18 rfl rfl)
theorem dX5_key_43 : decode cX5_key 43 = .ok (.bipush 101, 2) := dk_16 101 (dk_at dksX5_key_1 20 rfl rfl)
theorem dX5_key_45 : decode cX5_key 45 = .ok (.invokevirtual 228, 3) := dk_182 0 228 (dk_at dksX5_key_2 0 rfl rfl)
theorem dX5_key_48 : decode cX5_key 48 = .ok (.ifCond .eq 7, 3) := dk_153 0 7 (dk_at dksX5_key_2 3 rfl rfl)
theorem dX5_key_51 : decode cX5_key 51 = .ok (.iconst 2, 1) := dk_5 (dk_at dksX5_key_2 6 rfl rfl)
theorem dX5_key_52 : decode cX5_key 52 = .ok (.goto 4, 3) := dk_167 0 4 (dk_at dksX5_key_2 7 rfl rfl)
theorem dX5_key_55 : decode cX5_key 55 = .ok (.iconst (-1), 1) := dk_2 (dk_at dksX5_key_2 10 rfl rfl)
theorem dX5_key_56 : decode cX5_key 56 = .ok (.ireturn, 1) := dk_172 (dk_at dksX5_key_2 11 rfl rfl)
abbrev cX5_isLong : ByteArray := prog_18_method_66_code
def yX5_isLong : MethodName := ⟨RX5, "isLong", "(IIIIII)Z"⟩
def dkwX5_isLong_5 : List UInt8 := [42, 180, 0, 49, 42, 180, 0, 209, 8, 96, 46, 21, 6, 160, 0, 7, 4, 167, 0, 4, 3, 172]
abbrev dktX5_isLong_5 : List UInt8 := dkwX5_isLong_5 ++ []
def dkwX5_isLong_4 : List UInt8 := [160, 0, 44, 42, 180, 0, 49, 42, 180, 0, 209, 7, 96, 46, 21, 5, 160, 0, 28, 21, 6, 153, 0, 19]
abbrev dktX5_isLong_4 : List UInt8 := dkwX5_isLong_4 ++ dktX5_isLong_5
def dkwX5_isLong_3 : List UInt8 := [180, 0, 209, 5, 96, 46, 29, 160, 0, 60, 42, 180, 0, 49, 42, 180, 0, 209, 6, 96, 46, 21, 4]
abbrev dktX5_isLong_3 : List UInt8 := dkwX5_isLong_3 ++ dktX5_isLong_4
def dkwX5_isLong_2 : List UInt8 := [160, 0, 90, 42, 180, 0, 49, 42, 180, 0, 209, 4, 96, 46, 28, 160, 0, 75, 42, 180, 0, 49, 42]
abbrev dktX5_isLong_2 : List UInt8 := dkwX5_isLong_2 ++ dktX5_isLong_3
def dkwX5_isLong_1 : List UInt8 := [180, 0, 203, 42, 180, 0, 209, 100, 21, 7, 160, 0, 103, 42, 180, 0, 49, 42, 180, 0, 209, 46, 27]
abbrev dktX5_isLong_1 : List UInt8 := dkwX5_isLong_1 ++ dktX5_isLong_2
def dkwX5_isLong_0 : List UInt8 := [21, 6, 154, 0, 7, 8, 167, 0, 5, 16, 6, 54, 7, 42, 180, 0, 206, 4, 160, 0, 117, 42]
abbrev dktX5_isLong_0 : List UInt8 := dkwX5_isLong_0 ++ dktX5_isLong_1
theorem dksX5_isLong_0 : cX5_isLong.data.toList.drop 0 = dktX5_isLong_0 := by decide +kernel
theorem dksX5_isLong_1 : cX5_isLong.data.toList.drop 22 = dktX5_isLong_1 := dk_seg dksX5_isLong_0 22 rfl rfl
theorem dksX5_isLong_2 : cX5_isLong.data.toList.drop 45 = dktX5_isLong_2 := dk_seg dksX5_isLong_1 23 rfl rfl
theorem dksX5_isLong_3 : cX5_isLong.data.toList.drop 68 = dktX5_isLong_3 := dk_seg dksX5_isLong_2 23 rfl rfl
theorem dksX5_isLong_4 : cX5_isLong.data.toList.drop 91 = dktX5_isLong_4 := dk_seg dksX5_isLong_3 23 rfl rfl
theorem dksX5_isLong_5 : cX5_isLong.data.toList.drop 115 = dktX5_isLong_5 := dk_seg dksX5_isLong_4 24 rfl rfl
theorem dX5_isLong_0 : decode cX5_isLong 0 = .ok (.iload 6, 2) := dk_21 6 (dk_at dksX5_isLong_0 0 rfl rfl)
theorem dX5_isLong_2 : decode cX5_isLong 2 = .ok (.ifCond .ne 7, 3) := dk_154 0 7 (dk_at dksX5_isLong_0 2 rfl rfl)
theorem dX5_isLong_5 : decode cX5_isLong 5 = .ok (.iconst 5, 1) := dk_8 (dk_at dksX5_isLong_0 5 rfl rfl)
theorem dX5_isLong_6 : decode cX5_isLong 6 = .ok (.goto 5, 3) := dk_167 0 5 (dk_at dksX5_isLong_0 6 rfl rfl)
theorem dX5_isLong_9 : decode cX5_isLong 9 = .ok (.bipush 6, 2) := dk_16 6 (dk_at dksX5_isLong_0 9 rfl rfl)
theorem dX5_isLong_11 : decode cX5_isLong 11 = .ok (.istore 7, 2) := dk_54 7 (dk_at dksX5_isLong_0 11 rfl rfl)
theorem dX5_isLong_13 : decode cX5_isLong 13 = .ok (.aload_n 0, 1) := dk_42 (dk_at dksX5_isLong_0 13 rfl rfl)
theorem dX5_isLong_14 : decode cX5_isLong 14 = .ok (.getfield 206, 3) := dk_180 0 206 (dk_at dksX5_isLong_0 14 rfl rfl)
theorem dX5_isLong_17 : decode cX5_isLong 17 = .ok (.iconst 1, 1) := dk_4 (dk_at dksX5_isLong_0 17 rfl rfl)
theorem dX5_isLong_18 : decode cX5_isLong 18 = .ok (.if_icmp .ne 117, 3) := dk_160 0 117 (dk_at dksX5_isLong_0 18 rfl rfl)
theorem dX5_isLong_21 : decode cX5_isLong 21 = .ok (.aload_n 0, 1) := dk_42 (dk_at dksX5_isLong_0 21 rfl rfl)
theorem dX5_isLong_22 : decode cX5_isLong 22 = .ok (.getfield 203, 3) := dk_180 0 203 (dk_at dksX5_isLong_1 0 rfl rfl)
theorem dX5_isLong_25 : decode cX5_isLong 25 = .ok (.aload_n 0, 1) := dk_42 (dk_at dksX5_isLong_1 3 rfl rfl)
theorem dX5_isLong_26 : decode cX5_isLong 26 = .ok (.getfield 209, 3) := dk_180 0 209 (dk_at dksX5_isLong_1 4 rfl rfl)
theorem dX5_isLong_29 : decode cX5_isLong 29 = .ok (.isub, 1) := dk_100 (dk_at dksX5_isLong_1 7 rfl rfl)
theorem dX5_isLong_30 : decode cX5_isLong 30 = .ok (.iload 7, 2) := dk_21 7 (dk_at dksX5_isLong_1 8 rfl rfl)
theorem dX5_isLong_32 : decode cX5_isLong 32 = .ok (.if_icmp .ne 103, 3) := dk_160 0 103 (dk_at dksX5_isLong_1 10 rfl rfl)
theorem dX5_isLong_35 : decode cX5_isLong 35 = .ok (.aload_n 0, 1) := dk_42 (dk_at dksX5_isLong_1 13 rfl rfl)
theorem dX5_isLong_36 : decode cX5_isLong 36 = .ok (.getfield 49, 3) := dk_180 0 49 (dk_at dksX5_isLong_1 14 rfl rfl)
theorem dX5_isLong_39 : decode cX5_isLong 39 = .ok (.aload_n 0, 1) := dk_42 (dk_at dksX5_isLong_1 17 rfl rfl)
theorem dX5_isLong_40 : decode cX5_isLong 40 = .ok (.getfield 209, 3) := dk_180 0 209 (dk_at dksX5_isLong_1 18 rfl rfl)
theorem dX5_isLong_43 : decode cX5_isLong 43 = .ok (.iaload, 1) := dk_46 (dk_at dksX5_isLong_1 21 rfl rfl)
theorem dX5_isLong_44 : decode cX5_isLong 44 = .ok (.iload_n 1, 1) := dk_27 (dk_at dksX5_isLong_1 22 rfl rfl)
theorem dX5_isLong_45 : decode cX5_isLong 45 = .ok (.if_icmp .ne 90, 3) := dk_160 0 90 (dk_at dksX5_isLong_2 0 rfl rfl)
theorem dX5_isLong_48 : decode cX5_isLong 48 = .ok (.aload_n 0, 1) := dk_42 (dk_at dksX5_isLong_2 3 rfl rfl)
theorem dX5_isLong_49 : decode cX5_isLong 49 = .ok (.getfield 49, 3) := dk_180 0 49 (dk_at dksX5_isLong_2 4 rfl rfl)
theorem dX5_isLong_52 : decode cX5_isLong 52 = .ok (.aload_n 0, 1) := dk_42 (dk_at dksX5_isLong_2 7 rfl rfl)
theorem dX5_isLong_53 : decode cX5_isLong 53 = .ok (.getfield 209, 3) := dk_180 0 209 (dk_at dksX5_isLong_2 8 rfl rfl)
theorem dX5_isLong_56 : decode cX5_isLong 56 = .ok (.iconst 1, 1) := dk_4 (dk_at dksX5_isLong_2 11 rfl rfl)
theorem dX5_isLong_57 : decode cX5_isLong 57 = .ok (.iadd, 1) := dk_96 (dk_at dksX5_isLong_2 12 rfl rfl)
theorem dX5_isLong_58 : decode cX5_isLong 58 = .ok (.iaload, 1) := dk_46 (dk_at dksX5_isLong_2 13 rfl rfl)
theorem dX5_isLong_59 : decode cX5_isLong 59 = .ok (.iload_n 2, 1) := dk_28 (dk_at dksX5_isLong_2 14 rfl rfl)
theorem dX5_isLong_60 : decode cX5_isLong 60 = .ok (.if_icmp .ne 75, 3) := dk_160 0 75 (dk_at dksX5_isLong_2 15 rfl rfl)
theorem dX5_isLong_63 : decode cX5_isLong 63 = .ok (.aload_n 0, 1) := dk_42 (dk_at dksX5_isLong_2 18 rfl rfl)
theorem dX5_isLong_64 : decode cX5_isLong 64 = .ok (.getfield 49, 3) := dk_180 0 49 (dk_at dksX5_isLong_2 19 rfl rfl)
theorem dX5_isLong_67 : decode cX5_isLong 67 = .ok (.aload_n 0, 1) := dk_42 (dk_at dksX5_isLong_2 22 rfl rfl)
theorem dX5_isLong_68 : decode cX5_isLong 68 = .ok (.getfield 209, 3) := dk_180 0 209 (dk_at dksX5_isLong_3 0 rfl rfl)
theorem dX5_isLong_71 : decode cX5_isLong 71 = .ok (.iconst 2, 1) := dk_5 (dk_at dksX5_isLong_3 3 rfl rfl)
theorem dX5_isLong_72 : decode cX5_isLong 72 = .ok (.iadd, 1) := dk_96 (dk_at dksX5_isLong_3 4 rfl rfl)
theorem dX5_isLong_73 : decode cX5_isLong 73 = .ok (.iaload, 1) := dk_46 (dk_at dksX5_isLong_3 5 rfl rfl)
theorem dX5_isLong_74 : decode cX5_isLong 74 = .ok (.iload_n 3, 1) := dk_29 (dk_at dksX5_isLong_3 6 rfl rfl)
theorem dX5_isLong_75 : decode cX5_isLong 75 = .ok (.if_icmp .ne 60, 3) := dk_160 0 60 (dk_at dksX5_isLong_3 7 rfl rfl)
theorem dX5_isLong_78 : decode cX5_isLong 78 = .ok (.aload_n 0, 1) := dk_42 (dk_at dksX5_isLong_3 10 rfl rfl)
theorem dX5_isLong_79 : decode cX5_isLong 79 = .ok (.getfield 49, 3) := dk_180 0 49 (dk_at dksX5_isLong_3 11 rfl rfl)
theorem dX5_isLong_82 : decode cX5_isLong 82 = .ok (.aload_n 0, 1) := dk_42 (dk_at dksX5_isLong_3 14 rfl rfl)
theorem dX5_isLong_83 : decode cX5_isLong 83 = .ok (.getfield 209, 3) := dk_180 0 209 (dk_at dksX5_isLong_3 15 rfl rfl)
theorem dX5_isLong_86 : decode cX5_isLong 86 = .ok (.iconst 3, 1) := dk_6 (dk_at dksX5_isLong_3 18 rfl rfl)
theorem dX5_isLong_87 : decode cX5_isLong 87 = .ok (.iadd, 1) := dk_96 (dk_at dksX5_isLong_3 19 rfl rfl)
theorem dX5_isLong_88 : decode cX5_isLong 88 = .ok (.iaload, 1) := dk_46 (dk_at dksX5_isLong_3 20 rfl rfl)
theorem dX5_isLong_89 : decode cX5_isLong 89 = .ok (.iload 4, 2) := dk_21 4 (dk_at dksX5_isLong_3 21 rfl rfl)
theorem dX5_isLong_91 : decode cX5_isLong 91 = .ok (.if_icmp .ne 44, 3) := dk_160 0 44 (dk_at dksX5_isLong_4 0 rfl rfl)
theorem dX5_isLong_94 : decode cX5_isLong 94 = .ok (.aload_n 0, 1) := dk_42 (dk_at dksX5_isLong_4 3 rfl rfl)
theorem dX5_isLong_95 : decode cX5_isLong 95 = .ok (.getfield 49, 3) := dk_180 0 49 (dk_at dksX5_isLong_4 4 rfl rfl)
theorem dX5_isLong_98 : decode cX5_isLong 98 = .ok (.aload_n 0, 1) := dk_42 (dk_at dksX5_isLong_4 7 rfl rfl)
theorem dX5_isLong_99 : decode cX5_isLong 99 = .ok (.getfield 209, 3) := dk_180 0 209 (dk_at dksX5_isLong_4 8 rfl rfl)
theorem dX5_isLong_102 : decode cX5_isLong 102 = .ok (.iconst 4, 1) := dk_7 (dk_at dksX5_isLong_4 11 rfl rfl)
theorem dX5_isLong_103 : decode cX5_isLong 103 = .ok (.iadd, 1) := dk_96 (dk_at dksX5_isLong_4 12 rfl rfl)
theorem dX5_isLong_104 : decode cX5_isLong 104 = .ok (.iaload, 1) := dk_46 (dk_at dksX5_isLong_4 13 rfl rfl)
theorem dX5_isLong_105 : decode cX5_isLong 105 = .ok (.iload 5, 2) := dk_21 5 (dk_at dksX5_isLong_4 14 rfl rfl)
theorem dX5_isLong_107 : decode cX5_isLong 107 = .ok (.if_icmp .ne 28, 3) := dk_160 0 28 (dk_at dksX5_isLong_4 16 rfl rfl)
theorem dX5_isLong_110 : decode cX5_isLong 110 = .ok (.iload 6, 2) := dk_21 6 (dk_at dksX5_isLong_4 19 rfl rfl)
theorem dX5_isLong_112 : decode cX5_isLong 112 = .ok (.ifCond .eq 19, 3) := dk_153 0 19 (dk_at dksX5_isLong_4 21 rfl rfl)
theorem dX5_isLong_115 : decode cX5_isLong 115 = .ok (.aload_n 0, 1) := dk_42 (dk_at dksX5_isLong_5 0 rfl rfl)
theorem dX5_isLong_116 : decode cX5_isLong 116 = .ok (.getfield 49, 3) := dk_180 0 49 (dk_at dksX5_isLong_5 1 rfl rfl)
theorem dX5_isLong_119 : decode cX5_isLong 119 = .ok (.aload_n 0, 1) := dk_42 (dk_at dksX5_isLong_5 4 rfl rfl)
theorem dX5_isLong_120 : decode cX5_isLong 120 = .ok (.getfield 209, 3) := dk_180 0 209 (dk_at dksX5_isLong_5 5 rfl rfl)
theorem dX5_isLong_123 : decode cX5_isLong 123 = .ok (.iconst 5, 1) := dk_8 (dk_at dksX5_isLong_5 8 rfl rfl)
theorem dX5_isLong_124 : decode cX5_isLong 124 = .ok (.iadd, 1) := dk_96 (dk_at dksX5_isLong_5 9 rfl rfl)
theorem dX5_isLong_125 : decode cX5_isLong 125 = .ok (.iaload, 1) := dk_46 (dk_at dksX5_isLong_5 10 rfl rfl)
theorem dX5_isLong_126 : decode cX5_isLong 126 = .ok (.iload 6, 2) := dk_21 6 (dk_at dksX5_isLong_5 11 rfl rfl)
theorem dX5_isLong_128 : decode cX5_isLong 128 = .ok (.if_icmp .ne 7, 3) := dk_160 0 7 (dk_at dksX5_isLong_5 13 rfl rfl)
theorem dX5_isLong_131 : decode cX5_isLong 131 = .ok (.iconst 1, 1) := dk_4 (dk_at dksX5_isLong_5 16 rfl rfl)
theorem dX5_isLong_132 : decode cX5_isLong 132 = .ok (.goto 4, 3) := dk_167 0 4 (dk_at dksX5_isLong_5 17 rfl rfl)
theorem dX5_isLong_135 : decode cX5_isLong 135 = .ok (.iconst 0, 1) := dk_3 (dk_at dksX5_isLong_5 20 rfl rfl)
theorem dX5_isLong_136 : decode cX5_isLong 136 = .ok (.ireturn, 1) := dk_172 (dk_at dksX5_isLong_5 21 rfl rfl)
abbrev cX5_isWordAt : ByteArray := prog_18_method_65_code
def yX5_isWordAt : MethodName := ⟨RX5, "isWordAt", "(IIII)Z"⟩
def dkwX5_isWordAt_4 : List UInt8 := [160, 0, 7, 4, 167, 0, 4, 3, 172]
abbrev dktX5_isWordAt_4 : List UInt8 := dkwX5_isWordAt_4 ++ []
def dkwX5_isWordAt_3 : List UInt8 := [46, 29, 160, 0, 28, 21, 4, 153, 0, 19, 42, 180, 0, 49, 42, 180, 0, 209, 6, 96, 46, 21, 4]
abbrev dktX5_isWordAt_3 : List UInt8 := dkwX5_isWordAt_3 ++ dktX5_isWordAt_4
def dkwX5_isWordAt_2 : List UInt8 := [180, 0, 49, 42, 180, 0, 209, 4, 96, 46, 28, 160, 0, 43, 42, 180, 0, 49, 42, 180, 0, 209, 5, 96]
abbrev dktX5_isWordAt_2 : List UInt8 := dkwX5_isWordAt_2 ++ dktX5_isWordAt_3
def dkwX5_isWordAt_1 : List UInt8 := [42, 180, 0, 209, 100, 21, 5, 160, 0, 71, 42, 180, 0, 49, 42, 180, 0, 209, 46, 27, 160, 0, 58, 42]
abbrev dktX5_isWordAt_1 : List UInt8 := dkwX5_isWordAt_1 ++ dktX5_isWordAt_2
def dkwX5_isWordAt_0 : List UInt8 := [21, 4, 154, 0, 7, 6, 167, 0, 4, 7, 54, 5, 42, 180, 0, 206, 4, 160, 0, 85, 42, 180, 0, 203]
abbrev dktX5_isWordAt_0 : List UInt8 := dkwX5_isWordAt_0 ++ dktX5_isWordAt_1
theorem dksX5_isWordAt_0 : cX5_isWordAt.data.toList.drop 0 = dktX5_isWordAt_0 := by decide +kernel
theorem dksX5_isWordAt_1 : cX5_isWordAt.data.toList.drop 24 = dktX5_isWordAt_1 := dk_seg dksX5_isWordAt_0 24 rfl rfl
theorem dksX5_isWordAt_2 : cX5_isWordAt.data.toList.drop 48 = dktX5_isWordAt_2 := dk_seg dksX5_isWordAt_1 24 rfl rfl
theorem dksX5_isWordAt_3 : cX5_isWordAt.data.toList.drop 72 = dktX5_isWordAt_3 := dk_seg dksX5_isWordAt_2 24 rfl rfl
theorem dksX5_isWordAt_4 : cX5_isWordAt.data.toList.drop 95 = dktX5_isWordAt_4 := dk_seg dksX5_isWordAt_3 23 rfl rfl
theorem dX5_isWordAt_0 : decode cX5_isWordAt 0 = .ok (.iload 4, 2) := dk_21 4 (dk_at dksX5_isWordAt_0 0 rfl rfl)
theorem dX5_isWordAt_2 : decode cX5_isWordAt 2 = .ok (.ifCond .ne 7, 3) := dk_154 0 7 (dk_at dksX5_isWordAt_0 2 rfl rfl)
theorem dX5_isWordAt_5 : decode cX5_isWordAt 5 = .ok (.iconst 3, 1) := dk_6 (dk_at dksX5_isWordAt_0 5 rfl rfl)
theorem dX5_isWordAt_6 : decode cX5_isWordAt 6 = .ok (.goto 4, 3) := dk_167 0 4 (dk_at dksX5_isWordAt_0 6 rfl rfl)
theorem dX5_isWordAt_9 : decode cX5_isWordAt 9 = .ok (.iconst 4, 1) := dk_7 (dk_at dksX5_isWordAt_0 9 rfl rfl)
theorem dX5_isWordAt_10 : decode cX5_isWordAt 10 = .ok (.istore 5, 2) := dk_54 5 (dk_at dksX5_isWordAt_0 10 rfl rfl)
theorem dX5_isWordAt_12 : decode cX5_isWordAt 12 = .ok (.aload_n 0, 1) := dk_42 (dk_at dksX5_isWordAt_0 12 rfl rfl)
theorem dX5_isWordAt_13 : decode cX5_isWordAt 13 = .ok (.getfield 206, 3) := dk_180 0 206 (dk_at dksX5_isWordAt_0 13 rfl rfl)
theorem dX5_isWordAt_16 : decode cX5_isWordAt 16 = .ok (.iconst 1, 1) := dk_4 (dk_at dksX5_isWordAt_0 16 rfl rfl)
theorem dX5_isWordAt_17 : decode cX5_isWordAt 17 = .ok (.if_icmp .ne 85, 3) := dk_160 0 85 (dk_at dksX5_isWordAt_0 17 rfl rfl)
theorem dX5_isWordAt_20 : decode cX5_isWordAt 20 = .ok (.aload_n 0, 1) := dk_42 (dk_at dksX5_isWordAt_0 20 rfl rfl)
theorem dX5_isWordAt_21 : decode cX5_isWordAt 21 = .ok (.getfield 203, 3) := dk_180 0 203 (dk_at dksX5_isWordAt_0 21 rfl rfl)
theorem dX5_isWordAt_24 : decode cX5_isWordAt 24 = .ok (.aload_n 0, 1) := dk_42 (dk_at dksX5_isWordAt_1 0 rfl rfl)
theorem dX5_isWordAt_25 : decode cX5_isWordAt 25 = .ok (.getfield 209, 3) := dk_180 0 209 (dk_at dksX5_isWordAt_1 1 rfl rfl)
theorem dX5_isWordAt_28 : decode cX5_isWordAt 28 = .ok (.isub, 1) := dk_100 (dk_at dksX5_isWordAt_1 4 rfl rfl)
theorem dX5_isWordAt_29 : decode cX5_isWordAt 29 = .ok (.iload 5, 2) := dk_21 5 (dk_at dksX5_isWordAt_1 5 rfl rfl)
theorem dX5_isWordAt_31 : decode cX5_isWordAt 31 = .ok (.if_icmp .ne 71, 3) := dk_160 0 71 (dk_at dksX5_isWordAt_1 7 rfl rfl)
theorem dX5_isWordAt_34 : decode cX5_isWordAt 34 = .ok (.aload_n 0, 1) := dk_42 (dk_at dksX5_isWordAt_1 10 rfl rfl)
theorem dX5_isWordAt_35 : decode cX5_isWordAt 35 = .ok (.getfield 49, 3) := dk_180 0 49 (dk_at dksX5_isWordAt_1 11 rfl rfl)
theorem dX5_isWordAt_38 : decode cX5_isWordAt 38 = .ok (.aload_n 0, 1) := dk_42 (dk_at dksX5_isWordAt_1 14 rfl rfl)
theorem dX5_isWordAt_39 : decode cX5_isWordAt 39 = .ok (.getfield 209, 3) := dk_180 0 209 (dk_at dksX5_isWordAt_1 15 rfl rfl)
theorem dX5_isWordAt_42 : decode cX5_isWordAt 42 = .ok (.iaload, 1) := dk_46 (dk_at dksX5_isWordAt_1 18 rfl rfl)
theorem dX5_isWordAt_43 : decode cX5_isWordAt 43 = .ok (.iload_n 1, 1) := dk_27 (dk_at dksX5_isWordAt_1 19 rfl rfl)
theorem dX5_isWordAt_44 : decode cX5_isWordAt 44 = .ok (.if_icmp .ne 58, 3) := dk_160 0 58 (dk_at dksX5_isWordAt_1 20 rfl rfl)
theorem dX5_isWordAt_47 : decode cX5_isWordAt 47 = .ok (.aload_n 0, 1) := dk_42 (dk_at dksX5_isWordAt_1 23 rfl rfl)
theorem dX5_isWordAt_48 : decode cX5_isWordAt 48 = .ok (.getfield 49, 3) := dk_180 0 49 (dk_at dksX5_isWordAt_2 0 rfl rfl)
theorem dX5_isWordAt_51 : decode cX5_isWordAt 51 = .ok (.aload_n 0, 1) := dk_42 (dk_at dksX5_isWordAt_2 3 rfl rfl)
theorem dX5_isWordAt_52 : decode cX5_isWordAt 52 = .ok (.getfield 209, 3) := dk_180 0 209 (dk_at dksX5_isWordAt_2 4 rfl rfl)
theorem dX5_isWordAt_55 : decode cX5_isWordAt 55 = .ok (.iconst 1, 1) := dk_4 (dk_at dksX5_isWordAt_2 7 rfl rfl)
theorem dX5_isWordAt_56 : decode cX5_isWordAt 56 = .ok (.iadd, 1) := dk_96 (dk_at dksX5_isWordAt_2 8 rfl rfl)
theorem dX5_isWordAt_57 : decode cX5_isWordAt 57 = .ok (.iaload, 1) := dk_46 (dk_at dksX5_isWordAt_2 9 rfl rfl)
theorem dX5_isWordAt_58 : decode cX5_isWordAt 58 = .ok (.iload_n 2, 1) := dk_28 (dk_at dksX5_isWordAt_2 10 rfl rfl)
theorem dX5_isWordAt_59 : decode cX5_isWordAt 59 = .ok (.if_icmp .ne 43, 3) := dk_160 0 43 (dk_at dksX5_isWordAt_2 11 rfl rfl)
theorem dX5_isWordAt_62 : decode cX5_isWordAt 62 = .ok (.aload_n 0, 1) := dk_42 (dk_at dksX5_isWordAt_2 14 rfl rfl)
theorem dX5_isWordAt_63 : decode cX5_isWordAt 63 = .ok (.getfield 49, 3) := dk_180 0 49 (dk_at dksX5_isWordAt_2 15 rfl rfl)
theorem dX5_isWordAt_66 : decode cX5_isWordAt 66 = .ok (.aload_n 0, 1) := dk_42 (dk_at dksX5_isWordAt_2 18 rfl rfl)
theorem dX5_isWordAt_67 : decode cX5_isWordAt 67 = .ok (.getfield 209, 3) := dk_180 0 209 (dk_at dksX5_isWordAt_2 19 rfl rfl)
theorem dX5_isWordAt_70 : decode cX5_isWordAt 70 = .ok (.iconst 2, 1) := dk_5 (dk_at dksX5_isWordAt_2 22 rfl rfl)
theorem dX5_isWordAt_71 : decode cX5_isWordAt 71 = .ok (.iadd, 1) := dk_96 (dk_at dksX5_isWordAt_2 23 rfl rfl)
theorem dX5_isWordAt_72 : decode cX5_isWordAt 72 = .ok (.iaload, 1) := dk_46 (dk_at dksX5_isWordAt_3 0 rfl rfl)
theorem dX5_isWordAt_73 : decode cX5_isWordAt 73 = .ok (.iload_n 3, 1) := dk_29 (dk_at dksX5_isWordAt_3 1 rfl rfl)
theorem dX5_isWordAt_74 : decode cX5_isWordAt 74 = .ok (.if_icmp .ne 28, 3) := dk_160 0 28 (dk_at dksX5_isWordAt_3 2 rfl rfl)
theorem dX5_isWordAt_77 : decode cX5_isWordAt 77 = .ok (.iload 4, 2) := dk_21 4 (dk_at dksX5_isWordAt_3 5 rfl rfl)
theorem dX5_isWordAt_79 : decode cX5_isWordAt 79 = .ok (.ifCond .eq 19, 3) := dk_153 0 19 (dk_at dksX5_isWordAt_3 7 rfl rfl)
theorem dX5_isWordAt_82 : decode cX5_isWordAt 82 = .ok (.aload_n 0, 1) := dk_42 (dk_at dksX5_isWordAt_3 10 rfl rfl)
theorem dX5_isWordAt_83 : decode cX5_isWordAt 83 = .ok (.getfield 49, 3) := dk_180 0 49 (dk_at dksX5_isWordAt_3 11 rfl rfl)
theorem dX5_isWordAt_86 : decode cX5_isWordAt 86 = .ok (.aload_n 0, 1) := dk_42 (dk_at dksX5_isWordAt_3 14 rfl rfl)
theorem dX5_isWordAt_87 : decode cX5_isWordAt 87 = .ok (.getfield 209, 3) := dk_180 0 209 (dk_at dksX5_isWordAt_3 15 rfl rfl)
theorem dX5_isWordAt_90 : decode cX5_isWordAt 90 = .ok (.iconst 3, 1) := dk_6 (dk_at dksX5_isWordAt_3 18 rfl rfl)
theorem dX5_isWordAt_91 : decode cX5_isWordAt 91 = .ok (.iadd, 1) := dk_96 (dk_at dksX5_isWordAt_3 19 rfl rfl)
theorem dX5_isWordAt_92 : decode cX5_isWordAt 92 = .ok (.iaload, 1) := dk_46 (dk_at dksX5_isWordAt_3 20 rfl rfl)
theorem dX5_isWordAt_93 : decode cX5_isWordAt 93 = .ok (.iload 4, 2) := dk_21 4 (dk_at dksX5_isWordAt_3 21 rfl rfl)
theorem dX5_isWordAt_95 : decode cX5_isWordAt 95 = .ok (.if_icmp .ne 7, 3) := dk_160 0 7 (dk_at dksX5_isWordAt_4 0 rfl rfl)
theorem dX5_isWordAt_98 : decode cX5_isWordAt 98 = .ok (.iconst 1, 1) := dk_4 (dk_at dksX5_isWordAt_4 3 rfl rfl)
theorem dX5_isWordAt_99 : decode cX5_isWordAt 99 = .ok (.goto 4, 3) := dk_167 0 4 (dk_at dksX5_isWordAt_4 4 rfl rfl)
theorem dX5_isWordAt_102 : decode cX5_isWordAt 102 = .ok (.iconst 0, 1) := dk_3 (dk_at dksX5_isWordAt_4 7 rfl rfl)
theorem dX5_isWordAt_103 : decode cX5_isWordAt 103 = .ok (.ireturn, 1) := dk_172 (dk_at dksX5_isWordAt_4 8 rfl rfl)
abbrev cX5_either : ByteArray := prog_18_method_70_code
def yX5_either : MethodName := ⟨RX5, "either", "(I)Z"⟩
def dkwX5_either_1 : List UInt8 := [27, 182, 0, 238, 154, 0, 5, 3, 172, 42, 5, 16, 124, 182, 0, 247, 167, 255, 226, 4, 172]
abbrev dktX5_either_1 : List UInt8 := dkwX5_either_1 ++ []
def dkwX5_either_0 : List UInt8 := [42, 27, 182, 0, 238, 154, 0, 5, 3, 172, 42, 16, 124, 182, 0, 241, 153, 0, 27, 42, 182, 0, 244, 42]
abbrev dktX5_either_0 : List UInt8 := dkwX5_either_0 ++ dktX5_either_1
theorem dksX5_either_0 : cX5_either.data.toList.drop 0 = dktX5_either_0 := by decide +kernel
theorem dksX5_either_1 : cX5_either.data.toList.drop 24 = dktX5_either_1 := dk_seg dksX5_either_0 24 rfl rfl
theorem dX5_either_0 : decode cX5_either 0 = .ok (.aload_n 0, 1) := dk_42 (dk_at dksX5_either_0 0 rfl rfl)
theorem dX5_either_1 : decode cX5_either 1 = .ok (.iload_n 1, 1) := dk_27 (dk_at dksX5_either_0 1 rfl rfl)
theorem dX5_either_2 : decode cX5_either 2 = .ok (.invokevirtual 238, 3) := dk_182 0 238 (dk_at dksX5_either_0 2 rfl rfl)
theorem dX5_either_5 : decode cX5_either 5 = .ok (.ifCond .ne 5, 3) := dk_154 0 5 (dk_at dksX5_either_0 5 rfl rfl)
theorem dX5_either_8 : decode cX5_either 8 = .ok (.iconst 0, 1) := dk_3 (dk_at dksX5_either_0 8 rfl rfl)
theorem dX5_either_9 : decode cX5_either 9 = .ok (.ireturn, 1) := dk_172 (dk_at dksX5_either_0 9 rfl rfl)
theorem dX5_either_10 : decode cX5_either 10 = .ok (.aload_n 0, 1) := dk_42 (dk_at dksX5_either_0 10 rfl rfl)
theorem dX5_either_11 : decode cX5_either 11 = .ok (.bipush 124, 2) := dk_16 124 (dk_at dksX5_either_0 11 rfl rfl)
theorem dX5_either_13 : decode cX5_either 13 = .ok (.invokevirtual 241, 3) := dk_182 0 241 (dk_at dksX5_either_0 13 rfl rfl)
theorem dX5_either_16 : decode cX5_either 16 = .ok (.ifCond .eq 27, 3) := dk_153 0 27 (dk_at dksX5_either_0 16 rfl rfl)
theorem dX5_either_19 : decode cX5_either 19 = .ok (.aload_n 0, 1) := dk_42 (dk_at dksX5_either_0 19 rfl rfl)
theorem dX5_either_20 : decode cX5_either 20 = .ok (.invokevirtual 244, 3) := dk_182 0 244 (dk_at dksX5_either_0 20 rfl rfl)
theorem dX5_either_23 : decode cX5_either 23 = .ok (.aload_n 0, 1) := dk_42 (dk_at dksX5_either_0 23 rfl rfl)
theorem dX5_either_24 : decode cX5_either 24 = .ok (.iload_n 1, 1) := dk_27 (dk_at dksX5_either_1 0 rfl rfl)
theorem dX5_either_25 : decode cX5_either 25 = .ok (.invokevirtual 238, 3) := dk_182 0 238 (dk_at dksX5_either_1 1 rfl rfl)
theorem dX5_either_28 : decode cX5_either 28 = .ok (.ifCond .ne 5, 3) := dk_154 0 5 (dk_at dksX5_either_1 4 rfl rfl)
theorem dX5_either_31 : decode cX5_either 31 = .ok (.iconst 0, 1) := dk_3 (dk_at dksX5_either_1 7 rfl rfl)
theorem dX5_either_32 : decode cX5_either 32 = .ok (.ireturn, 1) := dk_172 (dk_at dksX5_either_1 8 rfl rfl)
theorem dX5_either_33 : decode cX5_either 33 = .ok (.aload_n 0, 1) := dk_42 (dk_at dksX5_either_1 9 rfl rfl)
theorem dX5_either_34 : decode cX5_either 34 = .ok (.iconst 2, 1) := dk_5 (dk_at dksX5_either_1 10 rfl rfl)
theorem dX5_either_35 : decode cX5_either 35 = .ok (.bipush 124, 2) := dk_16 124 (dk_at dksX5_either_1 11 rfl rfl)
theorem dX5_either_37 : decode cX5_either 37 = .ok (.invokevirtual 247, 3) := dk_182 0 247 (dk_at dksX5_either_1 13 rfl rfl)
theorem dX5_either_40 : decode cX5_either 40 = .ok (.goto (-30), 3) := dk_167 255 226 (dk_at dksX5_either_1 16 rfl rfl)
theorem dX5_either_43 : decode cX5_either 43 = .ok (.iconst 1, 1) := dk_4 (dk_at dksX5_either_1 19 rfl rfl)
theorem dX5_either_44 : decode cX5_either 44 = .ok (.ireturn, 1) := dk_172 (dk_at dksX5_either_1 20 rfl rfl)
abbrev cX5_both : ByteArray := prog_18_method_71_code
def yX5_both : MethodName := ⟨RX5, "both", "(I)Z"⟩
def dkwX5_both_1 : List UInt8 := [27, 182, 0, 250, 154, 0, 5, 3, 172, 42, 5, 16, 38, 182, 0, 247, 167, 255, 226, 4, 172]
abbrev dktX5_both_1 : List UInt8 := dkwX5_both_1 ++ []
def dkwX5_both_0 : List UInt8 := [42, 27, 182, 0, 250, 154, 0, 5, 3, 172, 42, 16, 38, 182, 0, 241, 153, 0, 27, 42, 182, 0, 244, 42]
abbrev dktX5_both_0 : List UInt8 := dkwX5_both_0 ++ dktX5_both_1
theorem dksX5_both_0 : cX5_both.data.toList.drop 0 = dktX5_both_0 := by decide +kernel
theorem dksX5_both_1 : cX5_both.data.toList.drop 24 = dktX5_both_1 := dk_seg dksX5_both_0 24 rfl rfl
theorem dX5_both_0 : decode cX5_both 0 = .ok (.aload_n 0, 1) := dk_42 (dk_at dksX5_both_0 0 rfl rfl)
theorem dX5_both_1 : decode cX5_both 1 = .ok (.iload_n 1, 1) := dk_27 (dk_at dksX5_both_0 1 rfl rfl)
theorem dX5_both_2 : decode cX5_both 2 = .ok (.invokevirtual 250, 3) := dk_182 0 250 (dk_at dksX5_both_0 2 rfl rfl)
theorem dX5_both_5 : decode cX5_both 5 = .ok (.ifCond .ne 5, 3) := dk_154 0 5 (dk_at dksX5_both_0 5 rfl rfl)
theorem dX5_both_8 : decode cX5_both 8 = .ok (.iconst 0, 1) := dk_3 (dk_at dksX5_both_0 8 rfl rfl)
theorem dX5_both_9 : decode cX5_both 9 = .ok (.ireturn, 1) := dk_172 (dk_at dksX5_both_0 9 rfl rfl)
theorem dX5_both_10 : decode cX5_both 10 = .ok (.aload_n 0, 1) := dk_42 (dk_at dksX5_both_0 10 rfl rfl)
theorem dX5_both_11 : decode cX5_both 11 = .ok (.bipush 38, 2) := dk_16 38 (dk_at dksX5_both_0 11 rfl rfl)
theorem dX5_both_13 : decode cX5_both 13 = .ok (.invokevirtual 241, 3) := dk_182 0 241 (dk_at dksX5_both_0 13 rfl rfl)
theorem dX5_both_16 : decode cX5_both 16 = .ok (.ifCond .eq 27, 3) := dk_153 0 27 (dk_at dksX5_both_0 16 rfl rfl)
theorem dX5_both_19 : decode cX5_both 19 = .ok (.aload_n 0, 1) := dk_42 (dk_at dksX5_both_0 19 rfl rfl)
theorem dX5_both_20 : decode cX5_both 20 = .ok (.invokevirtual 244, 3) := dk_182 0 244 (dk_at dksX5_both_0 20 rfl rfl)
theorem dX5_both_23 : decode cX5_both 23 = .ok (.aload_n 0, 1) := dk_42 (dk_at dksX5_both_0 23 rfl rfl)
theorem dX5_both_24 : decode cX5_both 24 = .ok (.iload_n 1, 1) := dk_27 (dk_at dksX5_both_1 0 rfl rfl)
theorem dX5_both_25 : decode cX5_both 25 = .ok (.invokevirtual 250, 3) := dk_182 0 250 (dk_at dksX5_both_1 1 rfl rfl)
theorem dX5_both_28 : decode cX5_both 28 = .ok (.ifCond .ne 5, 3) := dk_154 0 5 (dk_at dksX5_both_1 4 rfl rfl)
theorem dX5_both_31 : decode cX5_both 31 = .ok (.iconst 0, 1) := dk_3 (dk_at dksX5_both_1 7 rfl rfl)
theorem dX5_both_32 : decode cX5_both 32 = .ok (.ireturn, 1) := dk_172 (dk_at dksX5_both_1 8 rfl rfl)
theorem dX5_both_33 : decode cX5_both 33 = .ok (.aload_n 0, 1) := dk_42 (dk_at dksX5_both_1 9 rfl rfl)
theorem dX5_both_34 : decode cX5_both 34 = .ok (.iconst 2, 1) := dk_5 (dk_at dksX5_both_1 10 rfl rfl)
theorem dX5_both_35 : decode cX5_both 35 = .ok (.bipush 38, 2) := dk_16 38 (dk_at dksX5_both_1 11 rfl rfl)
theorem dX5_both_37 : decode cX5_both 37 = .ok (.invokevirtual 247, 3) := dk_182 0 247 (dk_at dksX5_both_1 13 rfl rfl)
theorem dX5_both_40 : decode cX5_both 40 = .ok (.goto (-30), 3) := dk_167 255 226 (dk_at dksX5_both_1 16 rfl rfl)
theorem dX5_both_43 : decode cX5_both 43 = .ok (.iconst 1, 1) := dk_4 (dk_at dksX5_both_1 19 rfl rfl)
theorem dX5_both_44 : decode cX5_both 44 = .ok (.ireturn, 1) := dk_172 (dk_at dksX5_both_1 20 rfl rfl)
abbrev cX5_test : ByteArray := prog_18_method_72_code
def yX5_test : MethodName := ⟨RX5, "test", "(I)Z"⟩
def dkwX5_test_2 : List UInt8 := [42, 27, 182, 0, 253, 154, 0, 5, 3, 172, 42, 5, 28, 182, 0, 247, 4, 172]
abbrev dktX5_test_2 : List UInt8 := dkwX5_test_2 ++ []
def dkwX5_test_1 : List UInt8 := [182, 0, 241, 154, 0, 12, 42, 16, 62, 182, 0, 241, 153, 0, 28, 42, 180, 0, 215, 61, 42, 182, 0, 244]
abbrev dktX5_test_1 : List UInt8 := dkwX5_test_1 ++ dktX5_test_2
def dkwX5_test_0 : List UInt8 := [42, 27, 182, 0, 253, 154, 0, 5, 3, 172, 42, 16, 60, 182, 0, 241, 154, 0, 21, 42, 16, 61]
abbrev dktX5_test_0 : List UInt8 := dkwX5_test_0 ++ dktX5_test_1
theorem dksX5_test_0 : cX5_test.data.toList.drop 0 = dktX5_test_0 := by decide +kernel
theorem dksX5_test_1 : cX5_test.data.toList.drop 22 = dktX5_test_1 := dk_seg dksX5_test_0 22 rfl rfl
theorem dksX5_test_2 : cX5_test.data.toList.drop 46 = dktX5_test_2 := dk_seg dksX5_test_1 24 rfl rfl
theorem dX5_test_0 : decode cX5_test 0 = .ok (.aload_n 0, 1) := dk_42 (dk_at dksX5_test_0 0 rfl rfl)
theorem dX5_test_1 : decode cX5_test 1 = .ok (.iload_n 1, 1) := dk_27 (dk_at dksX5_test_0 1 rfl rfl)
theorem dX5_test_2 : decode cX5_test 2 = .ok (.invokevirtual 253, 3) := dk_182 0 253 (dk_at dksX5_test_0 2 rfl rfl)
theorem dX5_test_5 : decode cX5_test 5 = .ok (.ifCond .ne 5, 3) := dk_154 0 5 (dk_at dksX5_test_0 5 rfl rfl)
theorem dX5_test_8 : decode cX5_test 8 = .ok (.iconst 0, 1) := dk_3 (dk_at dksX5_test_0 8 rfl rfl)
theorem dX5_test_9 : decode cX5_test 9 = .ok (.ireturn, 1) := dk_172 (dk_at dksX5_test_0 9 rfl rfl)
theorem dX5_test_10 : decode cX5_test 10 = .ok (.aload_n 0, 1) := dk_42 (dk_at dksX5_test_0 10 rfl rfl)
theorem dX5_test_11 : decode cX5_test 11 = .ok (.bipush 60, 2) := dk_16 60 (dk_at dksX5_test_0 11 rfl rfl)
theorem dX5_test_13 : decode cX5_test 13 = .ok (.invokevirtual 241, 3) := dk_182 0 241 (dk_at dksX5_test_0 13 rfl rfl)
theorem dX5_test_16 : decode cX5_test 16 = .ok (.ifCond .ne 21, 3) := dk_154 0 21 (dk_at dksX5_test_0 16 rfl rfl)
theorem dX5_test_19 : decode cX5_test 19 = .ok (.aload_n 0, 1) := dk_42 (dk_at dksX5_test_0 19 rfl rfl)
theorem dX5_test_20 : decode cX5_test 20 = .ok (.bipush 61, 2) := dk_16 61 (dk_at dksX5_test_0 20 rfl rfl)
theorem dX5_test_22 : decode cX5_test 22 = .ok (.invokevirtual 241, 3) := dk_182 0 241 (dk_at dksX5_test_1 0 rfl rfl)
theorem dX5_test_25 : decode cX5_test 25 = .ok (.ifCond .ne 12, 3) := dk_154 0 12 (dk_at dksX5_test_1 3 rfl rfl)
theorem dX5_test_28 : decode cX5_test 28 = .ok (.aload_n 0, 1) := dk_42 (dk_at dksX5_test_1 6 rfl rfl)
theorem dX5_test_29 : decode cX5_test 29 = .ok (.bipush 62, 2) := dk_16 62 (dk_at dksX5_test_1 7 rfl rfl)
theorem dX5_test_31 : decode cX5_test 31 = .ok (.invokevirtual 241, 3) := dk_182 0 241 (dk_at dksX5_test_1 9 rfl rfl)
theorem dX5_test_34 : decode cX5_test 34 = .ok (.ifCond .eq 28, 3) := dk_153 0 28 (dk_at dksX5_test_1 12 rfl rfl)
theorem dX5_test_37 : decode cX5_test 37 = .ok (.aload_n 0, 1) := dk_42 (dk_at dksX5_test_1 15 rfl rfl)
theorem dX5_test_38 : decode cX5_test 38 = .ok (.getfield 215, 3) := dk_180 0 215 (dk_at dksX5_test_1 16 rfl rfl)
theorem dX5_test_41 : decode cX5_test 41 = .ok (.istore_n 2, 1) := dk_61 (dk_at dksX5_test_1 19 rfl rfl)
theorem dX5_test_42 : decode cX5_test 42 = .ok (.aload_n 0, 1) := dk_42 (dk_at dksX5_test_1 20 rfl rfl)
theorem dX5_test_43 : decode cX5_test 43 = .ok (.invokevirtual 244, 3) := dk_182 0 244 (dk_at dksX5_test_1 21 rfl rfl)
theorem dX5_test_46 : decode cX5_test 46 = .ok (.aload_n 0, 1) := dk_42 (dk_at dksX5_test_2 0 rfl rfl)
theorem dX5_test_47 : decode cX5_test 47 = .ok (.iload_n 1, 1) := dk_27 (dk_at dksX5_test_2 1 rfl rfl)
theorem dX5_test_48 : decode cX5_test 48 = .ok (.invokevirtual 253, 3) := dk_182 0 253 (dk_at dksX5_test_2 2 rfl rfl)
theorem dX5_test_51 : decode cX5_test 51 = .ok (.ifCond .ne 5, 3) := dk_154 0 5 (dk_at dksX5_test_2 5 rfl rfl)
theorem dX5_test_54 : decode cX5_test 54 = .ok (.iconst 0, 1) := dk_3 (dk_at dksX5_test_2 8 rfl rfl)
theorem dX5_test_55 : decode cX5_test 55 = .ok (.ireturn, 1) := dk_172 (dk_at dksX5_test_2 9 rfl rfl)
theorem dX5_test_56 : decode cX5_test 56 = .ok (.aload_n 0, 1) := dk_42 (dk_at dksX5_test_2 10 rfl rfl)
theorem dX5_test_57 : decode cX5_test 57 = .ok (.iconst 2, 1) := dk_5 (dk_at dksX5_test_2 11 rfl rfl)
theorem dX5_test_58 : decode cX5_test 58 = .ok (.iload_n 2, 1) := dk_28 (dk_at dksX5_test_2 12 rfl rfl)
theorem dX5_test_59 : decode cX5_test 59 = .ok (.invokevirtual 247, 3) := dk_182 0 247 (dk_at dksX5_test_2 13 rfl rfl)
theorem dX5_test_62 : decode cX5_test 62 = .ok (.iconst 1, 1) := dk_4 (dk_at dksX5_test_2 16 rfl rfl)
theorem dX5_test_63 : decode cX5_test 63 = .ok (.ireturn, 1) := dk_172 (dk_at dksX5_test_2 17 rfl rfl)
abbrev cX5_sum : ByteArray := prog_18_method_73_code
def yX5_sum : MethodName := ⟨RX5, "sum", "(I)Z"⟩
def dkwX5_sum_2 : List UInt8 := [172, 42, 5, 28, 182, 0, 247, 167, 255, 213, 4, 172]
abbrev dktX5_sum_2 : List UInt8 := dkwX5_sum_2 ++ []
def dkwX5_sum_1 : List UInt8 := [182, 0, 241, 153, 0, 31, 42, 180, 0, 215, 61, 42, 182, 0, 244, 42, 27, 182, 1, 0, 154, 0, 5, 3]
abbrev dktX5_sum_1 : List UInt8 := dkwX5_sum_1 ++ dktX5_sum_2
def dkwX5_sum_0 : List UInt8 := [42, 27, 182, 1, 0, 154, 0, 5, 3, 172, 42, 16, 43, 182, 0, 241, 154, 0, 12, 42, 16, 45]
abbrev dktX5_sum_0 : List UInt8 := dkwX5_sum_0 ++ dktX5_sum_1
theorem dksX5_sum_0 : cX5_sum.data.toList.drop 0 = dktX5_sum_0 := by decide +kernel
theorem dksX5_sum_1 : cX5_sum.data.toList.drop 22 = dktX5_sum_1 := dk_seg dksX5_sum_0 22 rfl rfl
theorem dksX5_sum_2 : cX5_sum.data.toList.drop 46 = dktX5_sum_2 := dk_seg dksX5_sum_1 24 rfl rfl
theorem dX5_sum_0 : decode cX5_sum 0 = .ok (.aload_n 0, 1) := dk_42 (dk_at dksX5_sum_0 0 rfl rfl)
theorem dX5_sum_1 : decode cX5_sum 1 = .ok (.iload_n 1, 1) := dk_27 (dk_at dksX5_sum_0 1 rfl rfl)
theorem dX5_sum_2 : decode cX5_sum 2 = .ok (.invokevirtual 256, 3) := dk_182 1 0 (dk_at dksX5_sum_0 2 rfl rfl)
theorem dX5_sum_5 : decode cX5_sum 5 = .ok (.ifCond .ne 5, 3) := dk_154 0 5 (dk_at dksX5_sum_0 5 rfl rfl)
theorem dX5_sum_8 : decode cX5_sum 8 = .ok (.iconst 0, 1) := dk_3 (dk_at dksX5_sum_0 8 rfl rfl)
theorem dX5_sum_9 : decode cX5_sum 9 = .ok (.ireturn, 1) := dk_172 (dk_at dksX5_sum_0 9 rfl rfl)
theorem dX5_sum_10 : decode cX5_sum 10 = .ok (.aload_n 0, 1) := dk_42 (dk_at dksX5_sum_0 10 rfl rfl)
theorem dX5_sum_11 : decode cX5_sum 11 = .ok (.bipush 43, 2) := dk_16 43 (dk_at dksX5_sum_0 11 rfl rfl)
theorem dX5_sum_13 : decode cX5_sum 13 = .ok (.invokevirtual 241, 3) := dk_182 0 241 (dk_at dksX5_sum_0 13 rfl rfl)
theorem dX5_sum_16 : decode cX5_sum 16 = .ok (.ifCond .ne 12, 3) := dk_154 0 12 (dk_at dksX5_sum_0 16 rfl rfl)
theorem dX5_sum_19 : decode cX5_sum 19 = .ok (.aload_n 0, 1) := dk_42 (dk_at dksX5_sum_0 19 rfl rfl)
theorem dX5_sum_20 : decode cX5_sum 20 = .ok (.bipush 45, 2) := dk_16 45 (dk_at dksX5_sum_0 20 rfl rfl)
theorem dX5_sum_22 : decode cX5_sum 22 = .ok (.invokevirtual 241, 3) := dk_182 0 241 (dk_at dksX5_sum_1 0 rfl rfl)
theorem dX5_sum_25 : decode cX5_sum 25 = .ok (.ifCond .eq 31, 3) := dk_153 0 31 (dk_at dksX5_sum_1 3 rfl rfl)
theorem dX5_sum_28 : decode cX5_sum 28 = .ok (.aload_n 0, 1) := dk_42 (dk_at dksX5_sum_1 6 rfl rfl)
theorem dX5_sum_29 : decode cX5_sum 29 = .ok (.getfield 215, 3) := dk_180 0 215 (dk_at dksX5_sum_1 7 rfl rfl)
theorem dX5_sum_32 : decode cX5_sum 32 = .ok (.istore_n 2, 1) := dk_61 (dk_at dksX5_sum_1 10 rfl rfl)
theorem dX5_sum_33 : decode cX5_sum 33 = .ok (.aload_n 0, 1) := dk_42 (dk_at dksX5_sum_1 11 rfl rfl)
theorem dX5_sum_34 : decode cX5_sum 34 = .ok (.invokevirtual 244, 3) := dk_182 0 244 (dk_at dksX5_sum_1 12 rfl rfl)
theorem dX5_sum_37 : decode cX5_sum 37 = .ok (.aload_n 0, 1) := dk_42 (dk_at dksX5_sum_1 15 rfl rfl)
theorem dX5_sum_38 : decode cX5_sum 38 = .ok (.iload_n 1, 1) := dk_27 (dk_at dksX5_sum_1 16 rfl rfl)
theorem dX5_sum_39 : decode cX5_sum 39 = .ok (.invokevirtual 256, 3) := dk_182 1 0 (dk_at dksX5_sum_1 17 rfl rfl)
theorem dX5_sum_42 : decode cX5_sum 42 = .ok (.ifCond .ne 5, 3) := dk_154 0 5 (dk_at dksX5_sum_1 20 rfl rfl)
theorem dX5_sum_45 : decode cX5_sum 45 = .ok (.iconst 0, 1) := dk_3 (dk_at dksX5_sum_1 23 rfl rfl)
theorem dX5_sum_46 : decode cX5_sum 46 = .ok (.ireturn, 1) := dk_172 (dk_at dksX5_sum_2 0 rfl rfl)
theorem dX5_sum_47 : decode cX5_sum 47 = .ok (.aload_n 0, 1) := dk_42 (dk_at dksX5_sum_2 1 rfl rfl)
theorem dX5_sum_48 : decode cX5_sum 48 = .ok (.iconst 2, 1) := dk_5 (dk_at dksX5_sum_2 2 rfl rfl)
theorem dX5_sum_49 : decode cX5_sum 49 = .ok (.iload_n 2, 1) := dk_28 (dk_at dksX5_sum_2 3 rfl rfl)
theorem dX5_sum_50 : decode cX5_sum 50 = .ok (.invokevirtual 247, 3) := dk_182 0 247 (dk_at dksX5_sum_2 4 rfl rfl)
theorem dX5_sum_53 : decode cX5_sum 53 = .ok (.goto (-43), 3) := dk_167 255 213 (dk_at dksX5_sum_2 7 rfl rfl)
theorem dX5_sum_56 : decode cX5_sum 56 = .ok (.iconst 1, 1) := dk_4 (dk_at dksX5_sum_2 10 rfl rfl)
theorem dX5_sum_57 : decode cX5_sum 57 = .ok (.ireturn, 1) := dk_172 (dk_at dksX5_sum_2 11 rfl rfl)
abbrev cX5_term : ByteArray := prog_18_method_74_code
def yX5_term : MethodName := ⟨RX5, "term", "(I)Z"⟩
def dkwX5_term_2 : List UInt8 := [172, 42, 5, 28, 182, 0, 247, 167, 255, 213, 4, 172]
abbrev dktX5_term_2 : List UInt8 := dkwX5_term_2 ++ []
def dkwX5_term_1 : List UInt8 := [182, 0, 241, 153, 0, 31, 42, 180, 0, 215, 61, 42, 182, 0, 244, 42, 27, 182, 1, 3, 154, 0, 5, 3]
abbrev dktX5_term_1 : List UInt8 := dkwX5_term_1 ++ dktX5_term_2
def dkwX5_term_0 : List UInt8 := [42, 27, 182, 1, 3, 154, 0, 5, 3, 172, 42, 16, 42, 182, 0, 241, 154, 0, 12, 42, 16, 47]
abbrev dktX5_term_0 : List UInt8 := dkwX5_term_0 ++ dktX5_term_1
theorem dksX5_term_0 : cX5_term.data.toList.drop 0 = dktX5_term_0 := by decide +kernel
theorem dksX5_term_1 : cX5_term.data.toList.drop 22 = dktX5_term_1 := dk_seg dksX5_term_0 22 rfl rfl
theorem dksX5_term_2 : cX5_term.data.toList.drop 46 = dktX5_term_2 := dk_seg dksX5_term_1 24 rfl rfl
theorem dX5_term_0 : decode cX5_term 0 = .ok (.aload_n 0, 1) := dk_42 (dk_at dksX5_term_0 0 rfl rfl)
theorem dX5_term_1 : decode cX5_term 1 = .ok (.iload_n 1, 1) := dk_27 (dk_at dksX5_term_0 1 rfl rfl)
theorem dX5_term_2 : decode cX5_term 2 = .ok (.invokevirtual 259, 3) := dk_182 1 3 (dk_at dksX5_term_0 2 rfl rfl)
theorem dX5_term_5 : decode cX5_term 5 = .ok (.ifCond .ne 5, 3) := dk_154 0 5 (dk_at dksX5_term_0 5 rfl rfl)
theorem dX5_term_8 : decode cX5_term 8 = .ok (.iconst 0, 1) := dk_3 (dk_at dksX5_term_0 8 rfl rfl)
theorem dX5_term_9 : decode cX5_term 9 = .ok (.ireturn, 1) := dk_172 (dk_at dksX5_term_0 9 rfl rfl)
theorem dX5_term_10 : decode cX5_term 10 = .ok (.aload_n 0, 1) := dk_42 (dk_at dksX5_term_0 10 rfl rfl)
theorem dX5_term_11 : decode cX5_term 11 = .ok (.bipush 42, 2) := dk_16 42 (dk_at dksX5_term_0 11 rfl rfl)
theorem dX5_term_13 : decode cX5_term 13 = .ok (.invokevirtual 241, 3) := dk_182 0 241 (dk_at dksX5_term_0 13 rfl rfl)
theorem dX5_term_16 : decode cX5_term 16 = .ok (.ifCond .ne 12, 3) := dk_154 0 12 (dk_at dksX5_term_0 16 rfl rfl)
theorem dX5_term_19 : decode cX5_term 19 = .ok (.aload_n 0, 1) := dk_42 (dk_at dksX5_term_0 19 rfl rfl)
theorem dX5_term_20 : decode cX5_term 20 = .ok (.bipush 47, 2) := dk_16 47 (dk_at dksX5_term_0 20 rfl rfl)
theorem dX5_term_22 : decode cX5_term 22 = .ok (.invokevirtual 241, 3) := dk_182 0 241 (dk_at dksX5_term_1 0 rfl rfl)
theorem dX5_term_25 : decode cX5_term 25 = .ok (.ifCond .eq 31, 3) := dk_153 0 31 (dk_at dksX5_term_1 3 rfl rfl)
theorem dX5_term_28 : decode cX5_term 28 = .ok (.aload_n 0, 1) := dk_42 (dk_at dksX5_term_1 6 rfl rfl)
theorem dX5_term_29 : decode cX5_term 29 = .ok (.getfield 215, 3) := dk_180 0 215 (dk_at dksX5_term_1 7 rfl rfl)
theorem dX5_term_32 : decode cX5_term 32 = .ok (.istore_n 2, 1) := dk_61 (dk_at dksX5_term_1 10 rfl rfl)
theorem dX5_term_33 : decode cX5_term 33 = .ok (.aload_n 0, 1) := dk_42 (dk_at dksX5_term_1 11 rfl rfl)
theorem dX5_term_34 : decode cX5_term 34 = .ok (.invokevirtual 244, 3) := dk_182 0 244 (dk_at dksX5_term_1 12 rfl rfl)
theorem dX5_term_37 : decode cX5_term 37 = .ok (.aload_n 0, 1) := dk_42 (dk_at dksX5_term_1 15 rfl rfl)
theorem dX5_term_38 : decode cX5_term 38 = .ok (.iload_n 1, 1) := dk_27 (dk_at dksX5_term_1 16 rfl rfl)
theorem dX5_term_39 : decode cX5_term 39 = .ok (.invokevirtual 259, 3) := dk_182 1 3 (dk_at dksX5_term_1 17 rfl rfl)
theorem dX5_term_42 : decode cX5_term 42 = .ok (.ifCond .ne 5, 3) := dk_154 0 5 (dk_at dksX5_term_1 20 rfl rfl)
theorem dX5_term_45 : decode cX5_term 45 = .ok (.iconst 0, 1) := dk_3 (dk_at dksX5_term_1 23 rfl rfl)
theorem dX5_term_46 : decode cX5_term 46 = .ok (.ireturn, 1) := dk_172 (dk_at dksX5_term_2 0 rfl rfl)
theorem dX5_term_47 : decode cX5_term 47 = .ok (.aload_n 0, 1) := dk_42 (dk_at dksX5_term_2 1 rfl rfl)
theorem dX5_term_48 : decode cX5_term 48 = .ok (.iconst 2, 1) := dk_5 (dk_at dksX5_term_2 2 rfl rfl)
theorem dX5_term_49 : decode cX5_term 49 = .ok (.iload_n 2, 1) := dk_28 (dk_at dksX5_term_2 3 rfl rfl)
theorem dX5_term_50 : decode cX5_term 50 = .ok (.invokevirtual 247, 3) := dk_182 0 247 (dk_at dksX5_term_2 4 rfl rfl)
theorem dX5_term_53 : decode cX5_term 53 = .ok (.goto (-43), 3) := dk_167 255 213 (dk_at dksX5_term_2 7 rfl rfl)
theorem dX5_term_56 : decode cX5_term 56 = .ok (.iconst 1, 1) := dk_4 (dk_at dksX5_term_2 10 rfl rfl)
theorem dX5_term_57 : decode cX5_term 57 = .ok (.ireturn, 1) := dk_172 (dk_at dksX5_term_2 11 rfl rfl)
abbrev cX5_part0 : ByteArray := prog_18_method_75_code
def yX5_part0 : MethodName := ⟨RX5, "part0", "(I)Z"⟩
def dkwX5_part0_9 : List UInt8 := [4, 172]
abbrev dktX5_part0_9 : List UInt8 := dkwX5_part0_9 ++ []
def dkwX5_part0_8 : List UInt8 := [16, 41, 182, 0, 241, 154, 0, 5, 3, 172, 42, 89, 180, 1, 15, 4, 100, 181, 1, 15, 42, 182, 0, 244]
abbrev dktX5_part0_8 : List UInt8 := dkwX5_part0_8 ++ dktX5_part0_9
def dkwX5_part0_7 : List UInt8 := [172, 42, 89, 180, 1, 15, 4, 96, 181, 1, 15, 42, 182, 0, 244, 42, 27, 182, 1, 18, 153, 0, 12, 42]
abbrev dktX5_part0_7 : List UInt8 := dkwX5_part0_7 ++ dktX5_part0_8
def dkwX5_part0_6 : List UInt8 := [182, 0, 247, 4, 172, 42, 16, 40, 182, 0, 241, 153, 0, 12, 42, 180, 1, 15, 16, 8, 160, 0, 5, 3]
abbrev dktX5_part0_6 : List UInt8 := dkwX5_part0_6 ++ dktX5_part0_7
def dkwX5_part0_5 : List UInt8 := [182, 1, 3, 154, 0, 5, 3, 172, 42, 89, 180, 1, 12, 4, 100, 181, 1, 12, 42, 5, 16, 33]
abbrev dktX5_part0_5 : List UInt8 := dkwX5_part0_5 ++ dktX5_part0_6
def dkwX5_part0_4 : List UInt8 := [180, 1, 12, 16, 8, 162, 0, 46, 42, 89, 180, 1, 12, 4, 96, 181, 1, 12, 42, 182, 0, 244, 42, 27]
abbrev dktX5_part0_4 : List UInt8 := dkwX5_part0_4 ++ dktX5_part0_5
def dkwX5_part0_3 : List UInt8 := [180, 1, 6, 4, 96, 181, 1, 6, 42, 182, 0, 244, 4, 172, 42, 16, 33, 182, 0, 241, 153, 0, 55, 42]
abbrev dktX5_part0_3 : List UInt8 := dkwX5_part0_3 ++ dktX5_part0_4
def dkwX5_part0_2 : List UInt8 := [27, 42, 180, 0, 215, 184, 1, 9, 153, 0, 28, 42, 4, 42, 180, 0, 215, 182, 0, 247, 42, 89]
abbrev dktX5_part0_2 : List UInt8 := dkwX5_part0_2 ++ dktX5_part0_3
def dkwX5_part0_1 : List UInt8 := [181, 1, 6, 42, 182, 0, 244, 4, 172, 42, 180, 0, 206, 4, 160, 0, 46, 42, 180, 0, 215, 153, 0, 39]
abbrev dktX5_part0_1 : List UInt8 := dkwX5_part0_1 ++ dktX5_part0_2
def dkwX5_part0_0 : List UInt8 := [42, 180, 0, 206, 5, 160, 0, 28, 42, 3, 42, 180, 0, 221, 182, 0, 247, 42, 89, 180, 1, 6, 4, 96]
abbrev dktX5_part0_0 : List UInt8 := dkwX5_part0_0 ++ dktX5_part0_1
theorem dksX5_part0_0 : cX5_part0.data.toList.drop 0 = dktX5_part0_0 := by decide +kernel
theorem dksX5_part0_1 : cX5_part0.data.toList.drop 24 = dktX5_part0_1 := dk_seg dksX5_part0_0 24 rfl rfl
theorem dksX5_part0_2 : cX5_part0.data.toList.drop 48 = dktX5_part0_2 := dk_seg dksX5_part0_1 24 rfl rfl
theorem dksX5_part0_3 : cX5_part0.data.toList.drop 70 = dktX5_part0_3 := dk_seg dksX5_part0_2 22 rfl rfl
theorem dksX5_part0_4 : cX5_part0.data.toList.drop 94 = dktX5_part0_4 := dk_seg dksX5_part0_3 24 rfl rfl
theorem dksX5_part0_5 : cX5_part0.data.toList.drop 118 = dktX5_part0_5 := dk_seg dksX5_part0_4 24 rfl rfl
theorem dksX5_part0_6 : cX5_part0.data.toList.drop 140 = dktX5_part0_6 := dk_seg dksX5_part0_5 22 rfl rfl
theorem dksX5_part0_7 : cX5_part0.data.toList.drop 164 = dktX5_part0_7 := dk_seg dksX5_part0_6 24 rfl rfl
theorem dksX5_part0_8 : cX5_part0.data.toList.drop 188 = dktX5_part0_8 := dk_seg dksX5_part0_7 24 rfl rfl
theorem dksX5_part0_9 : cX5_part0.data.toList.drop 212 = dktX5_part0_9 := dk_seg dksX5_part0_8 24 rfl rfl
theorem dX5_part0_0 : decode cX5_part0 0 = .ok (.aload_n 0, 1) := dk_42 (dk_at dksX5_part0_0 0 rfl rfl)
theorem dX5_part0_1 : decode cX5_part0 1 = .ok (.getfield 206, 3) := dk_180 0 206 (dk_at dksX5_part0_0 1 rfl rfl)
theorem dX5_part0_4 : decode cX5_part0 4 = .ok (.iconst 2, 1) := dk_5 (dk_at dksX5_part0_0 4 rfl rfl)
theorem dX5_part0_5 : decode cX5_part0 5 = .ok (.if_icmp .ne 28, 3) := dk_160 0 28 (dk_at dksX5_part0_0 5 rfl rfl)
theorem dX5_part0_8 : decode cX5_part0 8 = .ok (.aload_n 0, 1) := dk_42 (dk_at dksX5_part0_0 8 rfl rfl)
theorem dX5_part0_9 : decode cX5_part0 9 = .ok (.iconst 0, 1) := dk_3 (dk_at dksX5_part0_0 9 rfl rfl)
theorem dX5_part0_10 : decode cX5_part0 10 = .ok (.aload_n 0, 1) := dk_42 (dk_at dksX5_part0_0 10 rfl rfl)
theorem dX5_part0_11 : decode cX5_part0 11 = .ok (.getfield 221, 3) := dk_180 0 221 (dk_at dksX5_part0_0 11 rfl rfl)
theorem dX5_part0_14 : decode cX5_part0 14 = .ok (.invokevirtual 247, 3) := dk_182 0 247 (dk_at dksX5_part0_0 14 rfl rfl)
theorem dX5_part0_17 : decode cX5_part0 17 = .ok (.aload_n 0, 1) := dk_42 (dk_at dksX5_part0_0 17 rfl rfl)
theorem dX5_part0_18 : decode cX5_part0 18 = .ok (.dup, 1) := dk_89 (dk_at dksX5_part0_0 18 rfl rfl)
theorem dX5_part0_19 : decode cX5_part0 19 = .ok (.getfield 262, 3) := dk_180 1 6 (dk_at dksX5_part0_0 19 rfl rfl)
theorem dX5_part0_22 : decode cX5_part0 22 = .ok (.iconst 1, 1) := dk_4 (dk_at dksX5_part0_0 22 rfl rfl)
theorem dX5_part0_23 : decode cX5_part0 23 = .ok (.iadd, 1) := dk_96 (dk_at dksX5_part0_0 23 rfl rfl)
theorem dX5_part0_24 : decode cX5_part0 24 = .ok (.putfield 262, 3) := dk_181 1 6 (dk_at dksX5_part0_1 0 rfl rfl)
theorem dX5_part0_27 : decode cX5_part0 27 = .ok (.aload_n 0, 1) := dk_42 (dk_at dksX5_part0_1 3 rfl rfl)
theorem dX5_part0_28 : decode cX5_part0 28 = .ok (.invokevirtual 244, 3) := dk_182 0 244 (dk_at dksX5_part0_1 4 rfl rfl)
theorem dX5_part0_31 : decode cX5_part0 31 = .ok (.iconst 1, 1) := dk_4 (dk_at dksX5_part0_1 7 rfl rfl)
theorem dX5_part0_32 : decode cX5_part0 32 = .ok (.ireturn, 1) := dk_172 (dk_at dksX5_part0_1 8 rfl rfl)
theorem dX5_part0_33 : decode cX5_part0 33 = .ok (.aload_n 0, 1) := dk_42 (dk_at dksX5_part0_1 9 rfl rfl)
theorem dX5_part0_34 : decode cX5_part0 34 = .ok (.getfield 206, 3) := dk_180 0 206 (dk_at dksX5_part0_1 10 rfl rfl)
theorem dX5_part0_37 : decode cX5_part0 37 = .ok (.iconst 1, 1) := dk_4 (dk_at dksX5_part0_1 13 rfl rfl)
theorem dX5_part0_38 : decode cX5_part0 38 = .ok (.if_icmp .ne 46, 3) := dk_160 0 46 (dk_at dksX5_part0_1 14 rfl rfl)
theorem dX5_part0_41 : decode cX5_part0 41 = .ok (.aload_n 0, 1) := dk_42 (dk_at dksX5_part0_1 17 rfl rfl)
theorem dX5_part0_42 : decode cX5_part0 42 = .ok (.getfield 215, 3) := dk_180 0 215 (dk_at dksX5_part0_1 18 rfl rfl)
theorem dX5_part0_45 : decode cX5_part0 45 = .ok (.ifCond .eq 39, 3) := dk_153 0 39 (dk_at dksX5_part0_1 21 rfl rfl)
theorem dX5_part0_48 : decode cX5_part0 48 = .ok (.iload_n 1, 1) := dk_27 (dk_at dksX5_part0_2 0 rfl rfl)
theorem dX5_part0_49 : decode cX5_part0 49 = .ok (.aload_n 0, 1) := dk_42 (dk_at dksX5_part0_2 1 rfl rfl)
theorem dX5_part0_50 : decode cX5_part0 50 = .ok (.getfield 215, 3) := dk_180 0 215 (dk_at dksX5_part0_2 2 rfl rfl)
theorem dX5_part0_53 : decode cX5_part0 53 = .ok (.invokestatic 265, 3) := dk_184 1 9 (dk_at dksX5_part0_2 5 rfl rfl)
theorem dX5_part0_56 : decode cX5_part0 56 = .ok (.ifCond .eq 28, 3) := dk_153 0 28 (dk_at dksX5_part0_2 8 rfl rfl)
theorem dX5_part0_59 : decode cX5_part0 59 = .ok (.aload_n 0, 1) := dk_42 (dk_at dksX5_part0_2 11 rfl rfl)
theorem dX5_part0_60 : decode cX5_part0 60 = .ok (.iconst 1, 1) := dk_4 (dk_at dksX5_part0_2 12 rfl rfl)
theorem dX5_part0_61 : decode cX5_part0 61 = .ok (.aload_n 0, 1) := dk_42 (dk_at dksX5_part0_2 13 rfl rfl)
theorem dX5_part0_62 : decode cX5_part0 62 = .ok (.getfield 215, 3) := dk_180 0 215 (dk_at dksX5_part0_2 14 rfl rfl)
theorem dX5_part0_65 : decode cX5_part0 65 = .ok (.invokevirtual 247, 3) := dk_182 0 247 (dk_at dksX5_part0_2 17 rfl rfl)
theorem dX5_part0_68 : decode cX5_part0 68 = .ok (.aload_n 0, 1) := dk_42 (dk_at dksX5_part0_2 20 rfl rfl)
theorem dX5_part0_69 : decode cX5_part0 69 = .ok (.dup, 1) := dk_89 (dk_at dksX5_part0_2 21 rfl rfl)
theorem dX5_part0_70 : decode cX5_part0 70 = .ok (.getfield 262, 3) := dk_180 1 6 (dk_at dksX5_part0_3 0 rfl rfl)
theorem dX5_part0_73 : decode cX5_part0 73 = .ok (.iconst 1, 1) := dk_4 (dk_at dksX5_part0_3 3 rfl rfl)
theorem dX5_part0_74 : decode cX5_part0 74 = .ok (.iadd, 1) := dk_96 (dk_at dksX5_part0_3 4 rfl rfl)
theorem dX5_part0_75 : decode cX5_part0 75 = .ok (.putfield 262, 3) := dk_181 1 6 (dk_at dksX5_part0_3 5 rfl rfl)
theorem dX5_part0_78 : decode cX5_part0 78 = .ok (.aload_n 0, 1) := dk_42 (dk_at dksX5_part0_3 8 rfl rfl)
theorem dX5_part0_79 : decode cX5_part0 79 = .ok (.invokevirtual 244, 3) := dk_182 0 244 (dk_at dksX5_part0_3 9 rfl rfl)
theorem dX5_part0_82 : decode cX5_part0 82 = .ok (.iconst 1, 1) := dk_4 (dk_at dksX5_part0_3 12 rfl rfl)
theorem dX5_part0_83 : decode cX5_part0 83 = .ok (.ireturn, 1) := dk_172 (dk_at dksX5_part0_3 13 rfl rfl)
theorem dX5_part0_84 : decode cX5_part0 84 = .ok (.aload_n 0, 1) := dk_42 (dk_at dksX5_part0_3 14 rfl rfl)
theorem dX5_part0_85 : decode cX5_part0 85 = .ok (.bipush 33, 2) := dk_16 33 (dk_at dksX5_part0_3 15 rfl rfl)
theorem dX5_part0_87 : decode cX5_part0 87 = .ok (.invokevirtual 241, 3) := dk_182 0 241 (dk_at dksX5_part0_3 17 rfl rfl)
theorem dX5_part0_90 : decode cX5_part0 90 = .ok (.ifCond .eq 55, 3) := dk_153 0 55 (dk_at dksX5_part0_3 20 rfl rfl)
theorem dX5_part0_93 : decode cX5_part0 93 = .ok (.aload_n 0, 1) := dk_42 (dk_at dksX5_part0_3 23 rfl rfl)
theorem dX5_part0_94 : decode cX5_part0 94 = .ok (.getfield 268, 3) := dk_180 1 12 (dk_at dksX5_part0_4 0 rfl rfl)
theorem dX5_part0_97 : decode cX5_part0 97 = .ok (.bipush 8, 2) := dk_16 8 (dk_at dksX5_part0_4 3 rfl rfl)
theorem dX5_part0_99 : decode cX5_part0 99 = .ok (.if_icmp .ge 46, 3) := dk_162 0 46 (dk_at dksX5_part0_4 5 rfl rfl)
theorem dX5_part0_102 : decode cX5_part0 102 = .ok (.aload_n 0, 1) := dk_42 (dk_at dksX5_part0_4 8 rfl rfl)
theorem dX5_part0_103 : decode cX5_part0 103 = .ok (.dup, 1) := dk_89 (dk_at dksX5_part0_4 9 rfl rfl)
theorem dX5_part0_104 : decode cX5_part0 104 = .ok (.getfield 268, 3) := dk_180 1 12 (dk_at dksX5_part0_4 10 rfl rfl)
theorem dX5_part0_107 : decode cX5_part0 107 = .ok (.iconst 1, 1) := dk_4 (dk_at dksX5_part0_4 13 rfl rfl)
theorem dX5_part0_108 : decode cX5_part0 108 = .ok (.iadd, 1) := dk_96 (dk_at dksX5_part0_4 14 rfl rfl)
theorem dX5_part0_109 : decode cX5_part0 109 = .ok (.putfield 268, 3) := dk_181 1 12 (dk_at dksX5_part0_4 15 rfl rfl)
theorem dX5_part0_112 : decode cX5_part0 112 = .ok (.aload_n 0, 1) := dk_42 (dk_at dksX5_part0_4 18 rfl rfl)
theorem dX5_part0_113 : decode cX5_part0 113 = .ok (.invokevirtual 244, 3) := dk_182 0 244 (dk_at dksX5_part0_4 19 rfl rfl)
theorem dX5_part0_116 : decode cX5_part0 116 = .ok (.aload_n 0, 1) := dk_42 (dk_at dksX5_part0_4 22 rfl rfl)
theorem dX5_part0_117 : decode cX5_part0 117 = .ok (.iload_n 1, 1) := dk_27 (dk_at dksX5_part0_4 23 rfl rfl)
theorem dX5_part0_118 : decode cX5_part0 118 = .ok (.invokevirtual 259, 3) := dk_182 1 3 (dk_at dksX5_part0_5 0 rfl rfl)
theorem dX5_part0_121 : decode cX5_part0 121 = .ok (.ifCond .ne 5, 3) := dk_154 0 5 (dk_at dksX5_part0_5 3 rfl rfl)
theorem dX5_part0_124 : decode cX5_part0 124 = .ok (.iconst 0, 1) := dk_3 (dk_at dksX5_part0_5 6 rfl rfl)
theorem dX5_part0_125 : decode cX5_part0 125 = .ok (.ireturn, 1) := dk_172 (dk_at dksX5_part0_5 7 rfl rfl)
theorem dX5_part0_126 : decode cX5_part0 126 = .ok (.aload_n 0, 1) := dk_42 (dk_at dksX5_part0_5 8 rfl rfl)
theorem dX5_part0_127 : decode cX5_part0 127 = .ok (.dup, 1) := dk_89 (dk_at dksX5_part0_5 9 rfl rfl)
theorem dX5_part0_128 : decode cX5_part0 128 = .ok (.getfield 268, 3) := dk_180 1 12 (dk_at dksX5_part0_5 10 rfl rfl)
theorem dX5_part0_131 : decode cX5_part0 131 = .ok (.iconst 1, 1) := dk_4 (dk_at dksX5_part0_5 13 rfl rfl)
theorem dX5_part0_132 : decode cX5_part0 132 = .ok (.isub, 1) := dk_100 (dk_at dksX5_part0_5 14 rfl rfl)
theorem dX5_part0_133 : decode cX5_part0 133 = .ok (.putfield 268, 3) := dk_181 1 12 (dk_at dksX5_part0_5 15 rfl rfl)
theorem dX5_part0_136 : decode cX5_part0 136 = .ok (.aload_n 0, 1) := dk_42 (dk_at dksX5_part0_5 18 rfl rfl)
theorem dX5_part0_137 : decode cX5_part0 137 = .ok (.iconst 2, 1) := dk_5 (dk_at dksX5_part0_5 19 rfl rfl)
theorem dX5_part0_138 : decode cX5_part0 138 = .ok (.bipush 33, 2) := dk_16 33 (dk_at dksX5_part0_5 20 rfl rfl)
theorem dX5_part0_140 : decode cX5_part0 140 = .ok (.invokevirtual 247, 3) := dk_182 0 247 (dk_at dksX5_part0_6 0 rfl rfl)
theorem dX5_part0_143 : decode cX5_part0 143 = .ok (.iconst 1, 1) := dk_4 (dk_at dksX5_part0_6 3 rfl rfl)
theorem dX5_part0_144 : decode cX5_part0 144 = .ok (.ireturn, 1) := dk_172 (dk_at dksX5_part0_6 4 rfl rfl)
theorem dX5_part0_145 : decode cX5_part0 145 = .ok (.aload_n 0, 1) := dk_42 (dk_at dksX5_part0_6 5 rfl rfl)
theorem dX5_part0_146 : decode cX5_part0 146 = .ok (.bipush 40, 2) := dk_16 40 (dk_at dksX5_part0_6 6 rfl rfl)
theorem dX5_part0_148 : decode cX5_part0 148 = .ok (.invokevirtual 241, 3) := dk_182 0 241 (dk_at dksX5_part0_6 8 rfl rfl)
theorem dX5_part0_151 : decode cX5_part0 151 = .ok (.ifCond .eq 12, 3) := dk_153 0 12 (dk_at dksX5_part0_6 11 rfl rfl)
theorem dX5_part0_154 : decode cX5_part0 154 = .ok (.aload_n 0, 1) := dk_42 (dk_at dksX5_part0_6 14 rfl rfl)
theorem dX5_part0_155 : decode cX5_part0 155 = .ok (.getfield 271, 3) := dk_180 1 15 (dk_at dksX5_part0_6 15 rfl rfl)
theorem dX5_part0_158 : decode cX5_part0 158 = .ok (.bipush 8, 2) := dk_16 8 (dk_at dksX5_part0_6 18 rfl rfl)
theorem dX5_part0_160 : decode cX5_part0 160 = .ok (.if_icmp .ne 5, 3) := dk_160 0 5 (dk_at dksX5_part0_6 20 rfl rfl)
theorem dX5_part0_163 : decode cX5_part0 163 = .ok (.iconst 0, 1) := dk_3 (dk_at dksX5_part0_6 23 rfl rfl)
theorem dX5_part0_164 : decode cX5_part0 164 = .ok (.ireturn, 1) := dk_172 (dk_at dksX5_part0_7 0 rfl rfl)
theorem dX5_part0_165 : decode cX5_part0 165 = .ok (.aload_n 0, 1) := dk_42 (dk_at dksX5_part0_7 1 rfl rfl)
theorem dX5_part0_166 : decode cX5_part0 166 = .ok (.dup, 1) := dk_89 (dk_at dksX5_part0_7 2 rfl rfl)
theorem dX5_part0_167 : decode cX5_part0 167 = .ok (.getfield 271, 3) := dk_180 1 15 (dk_at dksX5_part0_7 3 rfl rfl)
theorem dX5_part0_170 : decode cX5_part0 170 = .ok (.iconst 1, 1) := dk_4 (dk_at dksX5_part0_7 6 rfl rfl)
theorem dX5_part0_171 : decode cX5_part0 171 = .ok (.iadd, 1) := dk_96 (dk_at dksX5_part0_7 7 rfl rfl)
theorem dX5_part0_172 : decode cX5_part0 172 = .ok (.putfield 271, 3) := dk_181 1 15 (dk_at dksX5_part0_7 8 rfl rfl)
theorem dX5_part0_175 : decode cX5_part0 175 = .ok (.aload_n 0, 1) := dk_42 (dk_at dksX5_part0_7 11 rfl rfl)
theorem dX5_part0_176 : decode cX5_part0 176 = .ok (.invokevirtual 244, 3) := dk_182 0 244 (dk_at dksX5_part0_7 12 rfl rfl)
theorem dX5_part0_179 : decode cX5_part0 179 = .ok (.aload_n 0, 1) := dk_42 (dk_at dksX5_part0_7 15 rfl rfl)
theorem dX5_part0_180 : decode cX5_part0 180 = .ok (.iload_n 1, 1) := dk_27 (dk_at dksX5_part0_7 16 rfl rfl)
theorem dX5_part0_181 : decode cX5_part0 181 = .ok (.invokevirtual 274, 3) := dk_182 1 18 (dk_at dksX5_part0_7 17 rfl rfl)
theorem dX5_part0_184 : decode cX5_part0 184 = .ok (.ifCond .eq 12, 3) := dk_153 0 12 (dk_at dksX5_part0_7 20 rfl rfl)
theorem dX5_part0_187 : decode cX5_part0 187 = .ok (.aload_n 0, 1) := dk_42 (dk_at dksX5_part0_7 23 rfl rfl)
theorem dX5_part0_188 : decode cX5_part0 188 = .ok (.bipush 41, 2) := dk_16 41 (dk_at dksX5_part0_8 0 rfl rfl)
theorem dX5_part0_190 : decode cX5_part0 190 = .ok (.invokevirtual 241, 3) := dk_182 0 241 (dk_at dksX5_part0_8 2 rfl rfl)
theorem dX5_part0_193 : decode cX5_part0 193 = .ok (.ifCond .ne 5, 3) := dk_154 0 5 (dk_at dksX5_part0_8 5 rfl rfl)
theorem dX5_part0_196 : decode cX5_part0 196 = .ok (.iconst 0, 1) := dk_3 (dk_at dksX5_part0_8 8 rfl rfl)
theorem dX5_part0_197 : decode cX5_part0 197 = .ok (.ireturn, 1) := dk_172 (dk_at dksX5_part0_8 9 rfl rfl)
theorem dX5_part0_198 : decode cX5_part0 198 = .ok (.aload_n 0, 1) := dk_42 (dk_at dksX5_part0_8 10 rfl rfl)
theorem dX5_part0_199 : decode cX5_part0 199 = .ok (.dup, 1) := dk_89 (dk_at dksX5_part0_8 11 rfl rfl)
theorem dX5_part0_200 : decode cX5_part0 200 = .ok (.getfield 271, 3) := dk_180 1 15 (dk_at dksX5_part0_8 12 rfl rfl)
theorem dX5_part0_203 : decode cX5_part0 203 = .ok (.iconst 1, 1) := dk_4 (dk_at dksX5_part0_8 15 rfl rfl)
theorem dX5_part0_204 : decode cX5_part0 204 = .ok (.isub, 1) := dk_100 (dk_at dksX5_part0_8 16 rfl rfl)
theorem dX5_part0_205 : decode cX5_part0 205 = .ok (.putfield 271, 3) := dk_181 1 15 (dk_at dksX5_part0_8 17 rfl rfl)
theorem dX5_part0_208 : decode cX5_part0 208 = .ok (.aload_n 0, 1) := dk_42 (dk_at dksX5_part0_8 20 rfl rfl)
theorem dX5_part0_209 : decode cX5_part0 209 = .ok (.invokevirtual 244, 3) := dk_182 0 244 (dk_at dksX5_part0_8 21 rfl rfl)
theorem dX5_part0_212 : decode cX5_part0 212 = .ok (.iconst 1, 1) := dk_4 (dk_at dksX5_part0_9 0 rfl rfl)
theorem dX5_part0_213 : decode cX5_part0 213 = .ok (.ireturn, 1) := dk_172 (dk_at dksX5_part0_9 1 rfl rfl)
abbrev cX5_step : ByteArray := prog_18_method_69_code
def yX5_step : MethodName := ⟨RX5, "step", "(II)V"⟩
def dkwX5_step_2 : List UInt8 := [177]
abbrev dktX5_step_2 : List UInt8 := dkwX5_step_2 ++ []
def dkwX5_step_1 : List UInt8 := [180, 0, 232, 5, 42, 180, 0, 235, 104, 96, 4, 96, 28, 79, 42, 89, 180, 0, 235, 4, 96, 181, 0, 235]
abbrev dktX5_step_1 : List UInt8 := dkwX5_step_1 ++ dktX5_step_2
def dkwX5_step_0 : List UInt8 := [42, 180, 0, 7, 42, 180, 0, 232, 5, 42, 180, 0, 235, 104, 96, 27, 79, 42, 180, 0, 7, 42]
abbrev dktX5_step_0 : List UInt8 := dkwX5_step_0 ++ dktX5_step_1
theorem dksX5_step_0 : cX5_step.data.toList.drop 0 = dktX5_step_0 := by decide +kernel
theorem dksX5_step_1 : cX5_step.data.toList.drop 22 = dktX5_step_1 := dk_seg dksX5_step_0 22 rfl rfl
theorem dksX5_step_2 : cX5_step.data.toList.drop 46 = dktX5_step_2 := dk_seg dksX5_step_1 24 rfl rfl
theorem dX5_step_0 : decode cX5_step 0 = .ok (.aload_n 0, 1) := dk_42 (dk_at dksX5_step_0 0 rfl rfl)
theorem dX5_step_1 : decode cX5_step 1 = .ok (.getfield 7, 3) := dk_180 0 7 (dk_at dksX5_step_0 1 rfl rfl)
theorem dX5_step_4 : decode cX5_step 4 = .ok (.aload_n 0, 1) := dk_42 (dk_at dksX5_step_0 4 rfl rfl)
theorem dX5_step_5 : decode cX5_step 5 = .ok (.getfield 232, 3) := dk_180 0 232 (dk_at dksX5_step_0 5 rfl rfl)
theorem dX5_step_8 : decode cX5_step 8 = .ok (.iconst 2, 1) := dk_5 (dk_at dksX5_step_0 8 rfl rfl)
theorem dX5_step_9 : decode cX5_step 9 = .ok (.aload_n 0, 1) := dk_42 (dk_at dksX5_step_0 9 rfl rfl)
theorem dX5_step_10 : decode cX5_step 10 = .ok (.getfield 235, 3) := dk_180 0 235 (dk_at dksX5_step_0 10 rfl rfl)
theorem dX5_step_13 : decode cX5_step 13 = .ok (.imul, 1) := dk_104 (dk_at dksX5_step_0 13 rfl rfl)
theorem dX5_step_14 : decode cX5_step 14 = .ok (.iadd, 1) := dk_96 (dk_at dksX5_step_0 14 rfl rfl)
theorem dX5_step_15 : decode cX5_step 15 = .ok (.iload_n 1, 1) := dk_27 (dk_at dksX5_step_0 15 rfl rfl)
theorem dX5_step_16 : decode cX5_step 16 = .ok (.iastore, 1) := dk_79 (dk_at dksX5_step_0 16 rfl rfl)
theorem dX5_step_17 : decode cX5_step 17 = .ok (.aload_n 0, 1) := dk_42 (dk_at dksX5_step_0 17 rfl rfl)
theorem dX5_step_18 : decode cX5_step 18 = .ok (.getfield 7, 3) := dk_180 0 7 (dk_at dksX5_step_0 18 rfl rfl)
theorem dX5_step_21 : decode cX5_step 21 = .ok (.aload_n 0, 1) := dk_42 (dk_at dksX5_step_0 21 rfl rfl)
theorem dX5_step_22 : decode cX5_step 22 = .ok (.getfield 232, 3) := dk_180 0 232 (dk_at dksX5_step_1 0 rfl rfl)
theorem dX5_step_25 : decode cX5_step 25 = .ok (.iconst 2, 1) := dk_5 (dk_at dksX5_step_1 3 rfl rfl)
theorem dX5_step_26 : decode cX5_step 26 = .ok (.aload_n 0, 1) := dk_42 (dk_at dksX5_step_1 4 rfl rfl)
theorem dX5_step_27 : decode cX5_step 27 = .ok (.getfield 235, 3) := dk_180 0 235 (dk_at dksX5_step_1 5 rfl rfl)
theorem dX5_step_30 : decode cX5_step 30 = .ok (.imul, 1) := dk_104 (dk_at dksX5_step_1 8 rfl rfl)
theorem dX5_step_31 : decode cX5_step 31 = .ok (.iadd, 1) := dk_96 (dk_at dksX5_step_1 9 rfl rfl)
theorem dX5_step_32 : decode cX5_step 32 = .ok (.iconst 1, 1) := dk_4 (dk_at dksX5_step_1 10 rfl rfl)
theorem dX5_step_33 : decode cX5_step 33 = .ok (.iadd, 1) := dk_96 (dk_at dksX5_step_1 11 rfl rfl)
theorem dX5_step_34 : decode cX5_step 34 = .ok (.iload_n 2, 1) := dk_28 (dk_at dksX5_step_1 12 rfl rfl)
theorem dX5_step_35 : decode cX5_step 35 = .ok (.iastore, 1) := dk_79 (dk_at dksX5_step_1 13 rfl rfl)
theorem dX5_step_36 : decode cX5_step 36 = .ok (.aload_n 0, 1) := dk_42 (dk_at dksX5_step_1 14 rfl rfl)
theorem dX5_step_37 : decode cX5_step 37 = .ok (.dup, 1) := dk_89 (dk_at dksX5_step_1 15 rfl rfl)
theorem dX5_step_38 : decode cX5_step 38 = .ok (.getfield 235, 3) := dk_180 0 235 (dk_at dksX5_step_1 16 rfl rfl)
theorem dX5_step_41 : decode cX5_step 41 = .ok (.iconst 1, 1) := dk_4 (dk_at dksX5_step_1 19 rfl rfl)
theorem dX5_step_42 : decode cX5_step 42 = .ok (.iadd, 1) := dk_96 (dk_at dksX5_step_1 20 rfl rfl)
theorem dX5_step_43 : decode cX5_step 43 = .ok (.putfield 235, 3) := dk_181 0 235 (dk_at dksX5_step_1 21 rfl rfl)
theorem dX5_step_46 : decode cX5_step 46 = .ok (.return_, 1) := dk_177 (dk_at dksX5_step_2 0 rfl rfl)
abbrev cX5_isName : ByteArray := prog_18_method_68_code
def yX5_isName : MethodName := ⟨RX5, "isName", "(II)Z"⟩
def dkwX5_isName_4 : List UInt8 := [27, 16, 116, 160, 0, 7, 4, 167, 0, 4, 3, 172]
abbrev dktX5_isName_4 : List UInt8 := dkwX5_isName_4 ++ []
def dkwX5_isName_3 : List UInt8 := [27, 16, 101, 159, 0, 9, 27, 16, 109, 160, 0, 7, 4, 167, 0, 4, 3, 172, 27, 16, 111, 159, 0, 9]
abbrev dktX5_isName_3 : List UInt8 := dkwX5_isName_3 ++ dktX5_isName_4
def dkwX5_isName_2 : List UInt8 := [27, 16, 111, 159, 0, 15, 27, 16, 116, 159, 0, 9, 27, 16, 104, 160, 0, 7, 4, 167, 0, 4, 3, 172]
abbrev dktX5_isName_2 : List UInt8 := dkwX5_isName_2 ++ dktX5_isName_3
def dkwX5_isName_1 : List UInt8 := [171, 0, 0, 0, 0, 0, 69, 0, 0, 0, 2, 0, 0, 0, 0, 0, 0, 0, 27, 0, 0, 0, 1, 0, 0, 0, 51]
abbrev dktX5_isName_1 : List UInt8 := dkwX5_isName_1 ++ dktX5_isName_2
def dkwX5_isName_0 : List UInt8 := [26]
abbrev dktX5_isName_0 : List UInt8 := dkwX5_isName_0 ++ dktX5_isName_1
theorem dksX5_isName_0 : cX5_isName.data.toList.drop 0 = dktX5_isName_0 := by decide +kernel
theorem dksX5_isName_1 : cX5_isName.data.toList.drop 1 = dktX5_isName_1 := dk_seg dksX5_isName_0 1 rfl rfl
theorem dksX5_isName_2 : cX5_isName.data.toList.drop 28 = dktX5_isName_2 := dk_seg dksX5_isName_1 27 rfl rfl
theorem dksX5_isName_3 : cX5_isName.data.toList.drop 52 = dktX5_isName_3 := dk_seg dksX5_isName_2 24 rfl rfl
theorem dksX5_isName_4 : cX5_isName.data.toList.drop 76 = dktX5_isName_4 := dk_seg dksX5_isName_3 24 rfl rfl
theorem dX5_isName_0 : decode cX5_isName 0 = .ok (.iload_n 0, 1) := dk_26 (dk_at dksX5_isName_0 0 rfl rfl)
theorem dX5_isName_1 : decode cX5_isName 1 = .ok (.lookupswitch 69 #[(0, 27), (1, 51)], 27) := by decide +kernel
theorem dX5_isName_28 : decode cX5_isName 28 = .ok (.iload_n 1, 1) := dk_27 (dk_at dksX5_isName_2 0 rfl rfl)
theorem dX5_isName_29 : decode cX5_isName 29 = .ok (.bipush 111, 2) := dk_16 111 (dk_at dksX5_isName_2 1 rfl rfl)
theorem dX5_isName_31 : decode cX5_isName 31 = .ok (.if_icmp .eq 15, 3) := dk_159 0 15 (dk_at dksX5_isName_2 3 rfl rfl)
theorem dX5_isName_34 : decode cX5_isName 34 = .ok (.iload_n 1, 1) := dk_27 (dk_at dksX5_isName_2 6 rfl rfl)
theorem dX5_isName_35 : decode cX5_isName 35 = .ok (.bipush 116, 2) := dk_16 116 (dk_at dksX5_isName_2 7 rfl rfl)
theorem dX5_isName_37 : decode cX5_isName 37 = .ok (.if_icmp .eq 9, 3) := dk_159 0 9 (dk_at dksX5_isName_2 9 rfl rfl)
theorem dX5_isName_40 : decode cX5_isName 40 = .ok (.iload_n 1, 1) := dk_27 (dk_at dksX5_isName_2 12 rfl rfl)
theorem dX5_isName_41 : decode cX5_isName 41 = .ok (.bipush 104, 2) := dk_16 104 (dk_at dksX5_isName_2 13 rfl rfl)
theorem dX5_isName_43 : decode cX5_isName 43 = .ok (.if_icmp .ne 7, 3) := dk_160 0 7 (dk_at dksX5_isName_2 15 rfl rfl)
theorem dX5_isName_46 : decode cX5_isName 46 = .ok (.iconst 1, 1) := dk_4 (dk_at dksX5_isName_2 18 rfl rfl)
theorem dX5_isName_47 : decode cX5_isName 47 = .ok (.goto 4, 3) := dk_167 0 4 (dk_at dksX5_isName_2 19 rfl rfl)
theorem dX5_isName_50 : decode cX5_isName 50 = .ok (.iconst 0, 1) := dk_3 (dk_at dksX5_isName_2 22 rfl rfl)
theorem dX5_isName_51 : decode cX5_isName 51 = .ok (.ireturn, 1) := dk_172 (dk_at dksX5_isName_2 23 rfl rfl)
theorem dX5_isName_52 : decode cX5_isName 52 = .ok (.iload_n 1, 1) := dk_27 (dk_at dksX5_isName_3 0 rfl rfl)
theorem dX5_isName_53 : decode cX5_isName 53 = .ok (.bipush 101, 2) := dk_16 101 (dk_at dksX5_isName_3 1 rfl rfl)
theorem dX5_isName_55 : decode cX5_isName 55 = .ok (.if_icmp .eq 9, 3) := dk_159 0 9 (dk_at dksX5_isName_3 3 rfl rfl)
theorem dX5_isName_58 : decode cX5_isName 58 = .ok (.iload_n 1, 1) := dk_27 (dk_at dksX5_isName_3 6 rfl rfl)
theorem dX5_isName_59 : decode cX5_isName 59 = .ok (.bipush 109, 2) := dk_16 109 (dk_at dksX5_isName_3 7 rfl rfl)
theorem dX5_isName_61 : decode cX5_isName 61 = .ok (.if_icmp .ne 7, 3) := dk_160 0 7 (dk_at dksX5_isName_3 9 rfl rfl)
theorem dX5_isName_64 : decode cX5_isName 64 = .ok (.iconst 1, 1) := dk_4 (dk_at dksX5_isName_3 12 rfl rfl)
theorem dX5_isName_65 : decode cX5_isName 65 = .ok (.goto 4, 3) := dk_167 0 4 (dk_at dksX5_isName_3 13 rfl rfl)
theorem dX5_isName_68 : decode cX5_isName 68 = .ok (.iconst 0, 1) := dk_3 (dk_at dksX5_isName_3 16 rfl rfl)
theorem dX5_isName_69 : decode cX5_isName 69 = .ok (.ireturn, 1) := dk_172 (dk_at dksX5_isName_3 17 rfl rfl)
theorem dX5_isName_70 : decode cX5_isName 70 = .ok (.iload_n 1, 1) := dk_27 (dk_at dksX5_isName_3 18 rfl rfl)
theorem dX5_isName_71 : decode cX5_isName 71 = .ok (.bipush 111, 2) := dk_16 111 (dk_at dksX5_isName_3 19 rfl rfl)
theorem dX5_isName_73 : decode cX5_isName 73 = .ok (.if_icmp .eq 9, 3) := dk_159 0 9 (dk_at dksX5_isName_3 21 rfl rfl)
theorem dX5_isName_76 : decode cX5_isName 76 = .ok (.iload_n 1, 1) := dk_27 (dk_at dksX5_isName_4 0 rfl rfl)
theorem dX5_isName_77 : decode cX5_isName 77 = .ok (.bipush 116, 2) := dk_16 116 (dk_at dksX5_isName_4 1 rfl rfl)
theorem dX5_isName_79 : decode cX5_isName 79 = .ok (.if_icmp .ne 7, 3) := dk_160 0 7 (dk_at dksX5_isName_4 3 rfl rfl)
theorem dX5_isName_82 : decode cX5_isName 82 = .ok (.iconst 1, 1) := dk_4 (dk_at dksX5_isName_4 6 rfl rfl)
theorem dX5_isName_83 : decode cX5_isName 83 = .ok (.goto 4, 3) := dk_167 0 4 (dk_at dksX5_isName_4 7 rfl rfl)
theorem dX5_isName_86 : decode cX5_isName 86 = .ok (.iconst 0, 1) := dk_3 (dk_at dksX5_isName_4 10 rfl rfl)
theorem dX5_isName_87 : decode cX5_isName 87 = .ok (.ireturn, 1) := dk_172 (dk_at dksX5_isName_4 11 rfl rfl)
abbrev cX5_isSign : ByteArray := prog_18_method_64_code
def yX5_isSign : MethodName := ⟨RX5, "isSign", "(I)Z"⟩
def dkwX5_isSign_0 : List UInt8 := [42, 180, 0, 206, 6, 160, 0, 15, 42, 180, 0, 215, 27, 160, 0, 7, 4, 167, 0, 4, 3, 172]
abbrev dktX5_isSign_0 : List UInt8 := dkwX5_isSign_0 ++ []
theorem dksX5_isSign_0 : cX5_isSign.data.toList.drop 0 = dktX5_isSign_0 := by decide +kernel
theorem dX5_isSign_0 : decode cX5_isSign 0 = .ok (.aload_n 0, 1) := dk_42 (dk_at dksX5_isSign_0 0 rfl rfl)
theorem dX5_isSign_1 : decode cX5_isSign 1 = .ok (.getfield 206, 3) := dk_180 0 206 (dk_at dksX5_isSign_0 1 rfl rfl)
theorem dX5_isSign_4 : decode cX5_isSign 4 = .ok (.iconst 3, 1) := dk_6 (dk_at dksX5_isSign_0 4 rfl rfl)
theorem dX5_isSign_5 : decode cX5_isSign 5 = .ok (.if_icmp .ne 15, 3) := dk_160 0 15 (dk_at dksX5_isSign_0 5 rfl rfl)
theorem dX5_isSign_8 : decode cX5_isSign 8 = .ok (.aload_n 0, 1) := dk_42 (dk_at dksX5_isSign_0 8 rfl rfl)
theorem dX5_isSign_9 : decode cX5_isSign 9 = .ok (.getfield 215, 3) := dk_180 0 215 (dk_at dksX5_isSign_0 9 rfl rfl)
theorem dX5_isSign_12 : decode cX5_isSign 12 = .ok (.iload_n 1, 1) := dk_27 (dk_at dksX5_isSign_0 12 rfl rfl)
theorem dX5_isSign_13 : decode cX5_isSign 13 = .ok (.if_icmp .ne 7, 3) := dk_160 0 7 (dk_at dksX5_isSign_0 13 rfl rfl)
theorem dX5_isSign_16 : decode cX5_isSign 16 = .ok (.iconst 1, 1) := dk_4 (dk_at dksX5_isSign_0 16 rfl rfl)
theorem dX5_isSign_17 : decode cX5_isSign 17 = .ok (.goto 4, 3) := dk_167 0 4 (dk_at dksX5_isSign_0 17 rfl rfl)
theorem dX5_isSign_20 : decode cX5_isSign 20 = .ok (.iconst 0, 1) := dk_3 (dk_at dksX5_isSign_0 20 rfl rfl)
theorem dX5_isSign_21 : decode cX5_isSign 21 = .ok (.ireturn, 1) := dk_172 (dk_at dksX5_isSign_0 21 rfl rfl)
abbrev cX5_textTold : ByteArray := prog_18_method_78_code
def yX5_textTold : MethodName := ⟨RX5, "textTold", "(II)I"⟩
def dkwX5_textTold_1 : List UInt8 := [180, 0, 7, 42, 27, 182, 1, 21, 28, 96, 46, 172]
abbrev dktX5_textTold_1 : List UInt8 := dkwX5_textTold_1 ++ []
def dkwX5_textTold_0 : List UInt8 := [42, 27, 182, 1, 30, 153, 0, 13, 28, 133, 9, 10, 184, 0, 68, 154, 0, 6, 18, 83, 172, 42]
abbrev dktX5_textTold_0 : List UInt8 := dkwX5_textTold_0 ++ dktX5_textTold_1
theorem dksX5_textTold_0 : cX5_textTold.data.toList.drop 0 = dktX5_textTold_0 := by decide +kernel
theorem dksX5_textTold_1 : cX5_textTold.data.toList.drop 22 = dktX5_textTold_1 := dk_seg dksX5_textTold_0 22 rfl rfl
theorem dX5_textTold_0 : decode cX5_textTold 0 = .ok (.aload_n 0, 1) := dk_42 (dk_at dksX5_textTold_0 0 rfl rfl)
theorem dX5_textTold_1 : decode cX5_textTold 1 = .ok (.iload_n 1, 1) := dk_27 (dk_at dksX5_textTold_0 1 rfl rfl)
theorem dX5_textTold_2 : decode cX5_textTold 2 = .ok (.invokevirtual 286, 3) := dk_182 1 30 (dk_at dksX5_textTold_0 2 rfl rfl)
theorem dX5_textTold_5 : decode cX5_textTold 5 = .ok (.ifCond .eq 13, 3) := dk_153 0 13 (dk_at dksX5_textTold_0 5 rfl rfl)
theorem dX5_textTold_8 : decode cX5_textTold 8 = .ok (.iload_n 2, 1) := dk_28 (dk_at dksX5_textTold_0 8 rfl rfl)
theorem dX5_textTold_9 : decode cX5_textTold 9 = .ok (.i2l, 1) := dk_133 (dk_at dksX5_textTold_0 9 rfl rfl)
theorem dX5_textTold_10 : decode cX5_textTold 10 = .ok (.lconst 0, 1) := dk_9 (dk_at dksX5_textTold_0 10 rfl rfl)
theorem dX5_textTold_11 : decode cX5_textTold 11 = .ok (.lconst 1, 1) := dk_10 (dk_at dksX5_textTold_0 11 rfl rfl)
theorem dX5_textTold_12 : decode cX5_textTold 12 = .ok (.invokestatic 68, 3) := dk_184 0 68 (dk_at dksX5_textTold_0 12 rfl rfl)
theorem dX5_textTold_15 : decode cX5_textTold 15 = .ok (.ifCond .ne 6, 3) := dk_154 0 6 (dk_at dksX5_textTold_0 15 rfl rfl)
theorem dX5_textTold_18 : decode cX5_textTold 18 = .ok (.ldc 83, 2) := dk_18 83 (dk_at dksX5_textTold_0 18 rfl rfl)
theorem dX5_textTold_20 : decode cX5_textTold 20 = .ok (.ireturn, 1) := dk_172 (dk_at dksX5_textTold_0 20 rfl rfl)
theorem dX5_textTold_21 : decode cX5_textTold 21 = .ok (.aload_n 0, 1) := dk_42 (dk_at dksX5_textTold_0 21 rfl rfl)
theorem dX5_textTold_22 : decode cX5_textTold 22 = .ok (.getfield 7, 3) := dk_180 0 7 (dk_at dksX5_textTold_1 0 rfl rfl)
theorem dX5_textTold_25 : decode cX5_textTold 25 = .ok (.aload_n 0, 1) := dk_42 (dk_at dksX5_textTold_1 3 rfl rfl)
theorem dX5_textTold_26 : decode cX5_textTold 26 = .ok (.iload_n 1, 1) := dk_27 (dk_at dksX5_textTold_1 4 rfl rfl)
theorem dX5_textTold_27 : decode cX5_textTold 27 = .ok (.invokevirtual 277, 3) := dk_182 1 21 (dk_at dksX5_textTold_1 5 rfl rfl)
theorem dX5_textTold_30 : decode cX5_textTold 30 = .ok (.iload_n 2, 1) := dk_28 (dk_at dksX5_textTold_1 8 rfl rfl)
theorem dX5_textTold_31 : decode cX5_textTold 31 = .ok (.iadd, 1) := dk_96 (dk_at dksX5_textTold_1 9 rfl rfl)
theorem dX5_textTold_32 : decode cX5_textTold 32 = .ok (.iaload, 1) := dk_46 (dk_at dksX5_textTold_1 10 rfl rfl)
theorem dX5_textTold_33 : decode cX5_textTold 33 = .ok (.ireturn, 1) := dk_172 (dk_at dksX5_textTold_1 11 rfl rfl)
abbrev cX5_isText : ByteArray := prog_18_method_11_code
def yX5_isText : MethodName := ⟨RX5, "isText", "(I)Z"⟩
def dkwX5_isText_0 : List UInt8 := [27, 133, 9, 42, 180, 0, 7, 4, 46, 4, 100, 133, 184, 0, 68, 172]
abbrev dktX5_isText_0 : List UInt8 := dkwX5_isText_0 ++ []
theorem dksX5_isText_0 : cX5_isText.data.toList.drop 0 = dktX5_isText_0 := by decide +kernel
theorem dX5_isText_0 : decode cX5_isText 0 = .ok (.iload_n 1, 1) := dk_27 (dk_at dksX5_isText_0 0 rfl rfl)
theorem dX5_isText_1 : decode cX5_isText 1 = .ok (.i2l, 1) := dk_133 (dk_at dksX5_isText_0 1 rfl rfl)
theorem dX5_isText_2 : decode cX5_isText 2 = .ok (.lconst 0, 1) := dk_9 (dk_at dksX5_isText_0 2 rfl rfl)
theorem dX5_isText_3 : decode cX5_isText 3 = .ok (.aload_n 0, 1) := dk_42 (dk_at dksX5_isText_0 3 rfl rfl)
theorem dX5_isText_4 : decode cX5_isText 4 = .ok (.getfield 7, 3) := dk_180 0 7 (dk_at dksX5_isText_0 4 rfl rfl)
theorem dX5_isText_7 : decode cX5_isText 7 = .ok (.iconst 1, 1) := dk_4 (dk_at dksX5_isText_0 7 rfl rfl)
theorem dX5_isText_8 : decode cX5_isText 8 = .ok (.iaload, 1) := dk_46 (dk_at dksX5_isText_0 8 rfl rfl)
theorem dX5_isText_9 : decode cX5_isText 9 = .ok (.iconst 1, 1) := dk_4 (dk_at dksX5_isText_0 9 rfl rfl)
theorem dX5_isText_10 : decode cX5_isText 10 = .ok (.isub, 1) := dk_100 (dk_at dksX5_isText_0 10 rfl rfl)
theorem dX5_isText_11 : decode cX5_isText 11 = .ok (.i2l, 1) := dk_133 (dk_at dksX5_isText_0 11 rfl rfl)
theorem dX5_isText_12 : decode cX5_isText 12 = .ok (.invokestatic 68, 3) := dk_184 0 68 (dk_at dksX5_isText_0 12 rfl rfl)
theorem dX5_isText_15 : decode cX5_isText 15 = .ok (.ireturn, 1) := dk_172 (dk_at dksX5_isText_0 15 rfl rfl)
abbrev cX5_why : ByteArray := prog_18_method_80_code
def yX5_why : MethodName := ⟨RX5, "why", "(I)I"⟩
def dkwX5_why_1 : List UInt8 := [18, 83, 172]
abbrev dktX5_why_1 : List UInt8 := dkwX5_why_1 ++ []
def dkwX5_why_0 : List UInt8 := [27, 133, 9, 20, 0, 129, 184, 0, 68, 153, 0, 14, 42, 27, 182, 0, 92, 184, 1, 33, 167, 0, 5]
abbrev dktX5_why_0 : List UInt8 := dkwX5_why_0 ++ dktX5_why_1
theorem dksX5_why_0 : cX5_why.data.toList.drop 0 = dktX5_why_0 := by decide +kernel
theorem dksX5_why_1 : cX5_why.data.toList.drop 23 = dktX5_why_1 := dk_seg dksX5_why_0 23 rfl rfl
theorem dX5_why_0 : decode cX5_why 0 = .ok (.iload_n 1, 1) := dk_27 (dk_at dksX5_why_0 0 rfl rfl)
theorem dX5_why_1 : decode cX5_why 1 = .ok (.i2l, 1) := dk_133 (dk_at dksX5_why_0 1 rfl rfl)
theorem dX5_why_2 : decode cX5_why 2 = .ok (.lconst 0, 1) := dk_9 (dk_at dksX5_why_0 2 rfl rfl)
theorem dX5_why_3 : decode cX5_why 3 = .ok (.ldc2_w 129, 3) := dk_20 0 129 (dk_at dksX5_why_0 3 rfl rfl)
theorem dX5_why_6 : decode cX5_why 6 = .ok (.invokestatic 68, 3) := dk_184 0 68 (dk_at dksX5_why_0 6 rfl rfl)
theorem dX5_why_9 : decode cX5_why 9 = .ok (.ifCond .eq 14, 3) := dk_153 0 14 (dk_at dksX5_why_0 9 rfl rfl)
theorem dX5_why_12 : decode cX5_why 12 = .ok (.aload_n 0, 1) := dk_42 (dk_at dksX5_why_0 12 rfl rfl)
theorem dX5_why_13 : decode cX5_why 13 = .ok (.iload_n 1, 1) := dk_27 (dk_at dksX5_why_0 13 rfl rfl)
theorem dX5_why_14 : decode cX5_why 14 = .ok (.invokevirtual 92, 3) := dk_182 0 92 (dk_at dksX5_why_0 14 rfl rfl)
theorem dX5_why_17 : decode cX5_why 17 = .ok (.invokestatic 289, 3) := dk_184 1 33 (dk_at dksX5_why_0 17 rfl rfl)
theorem dX5_why_20 : decode cX5_why 20 = .ok (.goto 5, 3) := dk_167 0 5 (dk_at dksX5_why_0 20 rfl rfl)
theorem dX5_why_23 : decode cX5_why 23 = .ok (.ldc 83, 2) := dk_18 83 (dk_at dksX5_why_1 0 rfl rfl)
theorem dX5_why_25 : decode cX5_why 25 = .ok (.ireturn, 1) := dk_172 (dk_at dksX5_why_1 2 rfl rfl)
abbrev cX5_orNone : ByteArray := prog_18_method_3_code
def yX5_orNone : MethodName := ⟨RX5, "orNone", "(I)I"⟩
def dkwX5_orNone_0 : List UInt8 := [26, 156, 0, 8, 18, 67, 167, 0, 4, 26, 172]
abbrev dktX5_orNone_0 : List UInt8 := dkwX5_orNone_0 ++ []
theorem dksX5_orNone_0 : cX5_orNone.data.toList.drop 0 = dktX5_orNone_0 := by decide +kernel
theorem dX5_orNone_0 : decode cX5_orNone 0 = .ok (.iload_n 0, 1) := dk_26 (dk_at dksX5_orNone_0 0 rfl rfl)
theorem dX5_orNone_1 : decode cX5_orNone 1 = .ok (.ifCond .ge 8, 3) := dk_156 0 8 (dk_at dksX5_orNone_0 1 rfl rfl)
theorem dX5_orNone_4 : decode cX5_orNone 4 = .ok (.ldc 67, 2) := dk_18 67 (dk_at dksX5_orNone_0 4 rfl rfl)
theorem dX5_orNone_6 : decode cX5_orNone 6 = .ok (.goto 4, 3) := dk_167 0 4 (dk_at dksX5_orNone_0 6 rfl rfl)
theorem dX5_orNone_9 : decode cX5_orNone 9 = .ok (.iload_n 0, 1) := dk_26 (dk_at dksX5_orNone_0 9 rfl rfl)
theorem dX5_orNone_10 : decode cX5_orNone 10 = .ok (.ireturn, 1) := dk_172 (dk_at dksX5_orNone_0 10 rfl rfl)
abbrev cX5_sheet : ByteArray := prog_18_method_84_code
def yX5_sheet : MethodName := ⟨RX5, "sheet", "(III)I"⟩
def dkwX5_sheet_4 : List UInt8 := [42, 180, 0, 22, 27, 46, 172]
abbrev dktX5_sheet_4 : List UInt8 := dkwX5_sheet_4 ++ []
def dkwX5_sheet_3 : List UInt8 := [16, 24, 162, 0, 22, 42, 180, 0, 25, 16, 24, 27, 104, 21, 4, 96, 3, 79, 132, 4, 1, 167, 255, 233]
abbrev dktX5_sheet_3 : List UInt8 := dkwX5_sheet_3 ++ dktX5_sheet_4
def dkwX5_sheet_2 : List UInt8 := [27, 28, 79, 42, 180, 0, 22, 27, 28, 156, 0, 7, 3, 167, 0, 4, 29, 79, 3, 54, 4, 21, 4]
abbrev dktX5_sheet_2 : List UInt8 := dkwX5_sheet_2 ++ dktX5_sheet_3
def dkwX5_sheet_1 : List UInt8 := [16, 24, 164, 0, 6, 18, 83, 172, 28, 155, 0, 11, 29, 156, 0, 7, 19, 1, 42, 172, 42, 180, 0, 19]
abbrev dktX5_sheet_1 : List UInt8 := dkwX5_sheet_1 ++ dktX5_sheet_2
def dkwX5_sheet_0 : List UInt8 := [27, 184, 0, 178, 153, 0, 25, 28, 133, 20, 1, 40, 10, 184, 0, 68, 153, 0, 13, 28, 155, 0, 12, 29]
abbrev dktX5_sheet_0 : List UInt8 := dkwX5_sheet_0 ++ dktX5_sheet_1
theorem dksX5_sheet_0 : cX5_sheet.data.toList.drop 0 = dktX5_sheet_0 := by decide +kernel
theorem dksX5_sheet_1 : cX5_sheet.data.toList.drop 24 = dktX5_sheet_1 := dk_seg dksX5_sheet_0 24 rfl rfl
theorem dksX5_sheet_2 : cX5_sheet.data.toList.drop 48 = dktX5_sheet_2 := dk_seg dksX5_sheet_1 24 rfl rfl
theorem dksX5_sheet_3 : cX5_sheet.data.toList.drop 71 = dktX5_sheet_3 := dk_seg dksX5_sheet_2 23 rfl rfl
theorem dksX5_sheet_4 : cX5_sheet.data.toList.drop 95 = dktX5_sheet_4 := dk_seg dksX5_sheet_3 24 rfl rfl
theorem dX5_sheet_0 : decode cX5_sheet 0 = .ok (.iload_n 1, 1) := dk_27 (dk_at dksX5_sheet_0 0 rfl rfl)
theorem dX5_sheet_1 : decode cX5_sheet 1 = .ok (.invokestatic 178, 3) := dk_184 0 178 (dk_at dksX5_sheet_0 1 rfl rfl)
theorem dX5_sheet_4 : decode cX5_sheet 4 = .ok (.ifCond .eq 25, 3) := dk_153 0 25 (dk_at dksX5_sheet_0 4 rfl rfl)
theorem dX5_sheet_7 : decode cX5_sheet 7 = .ok (.iload_n 2, 1) := dk_28 (dk_at dksX5_sheet_0 7 rfl rfl)
theorem dX5_sheet_8 : decode cX5_sheet 8 = .ok (.i2l, 1) := dk_133 (dk_at dksX5_sheet_0 8 rfl rfl)
theorem dX5_sheet_9 : decode cX5_sheet 9 = .ok (.ldc2_w 296, 3) := dk_20 1 40 (dk_at dksX5_sheet_0 9 rfl rfl)
theorem dX5_sheet_12 : decode cX5_sheet 12 = .ok (.lconst 1, 1) := dk_10 (dk_at dksX5_sheet_0 12 rfl rfl)
theorem dX5_sheet_13 : decode cX5_sheet 13 = .ok (.invokestatic 68, 3) := dk_184 0 68 (dk_at dksX5_sheet_0 13 rfl rfl)
theorem dX5_sheet_16 : decode cX5_sheet 16 = .ok (.ifCond .eq 13, 3) := dk_153 0 13 (dk_at dksX5_sheet_0 16 rfl rfl)
theorem dX5_sheet_19 : decode cX5_sheet 19 = .ok (.iload_n 2, 1) := dk_28 (dk_at dksX5_sheet_0 19 rfl rfl)
theorem dX5_sheet_20 : decode cX5_sheet 20 = .ok (.ifCond .lt 12, 3) := dk_155 0 12 (dk_at dksX5_sheet_0 20 rfl rfl)
theorem dX5_sheet_23 : decode cX5_sheet 23 = .ok (.iload_n 3, 1) := dk_29 (dk_at dksX5_sheet_0 23 rfl rfl)
theorem dX5_sheet_24 : decode cX5_sheet 24 = .ok (.bipush 24, 2) := dk_16 24 (dk_at dksX5_sheet_1 0 rfl rfl)
theorem dX5_sheet_26 : decode cX5_sheet 26 = .ok (.if_icmp .le 6, 3) := dk_164 0 6 (dk_at dksX5_sheet_1 2 rfl rfl)
theorem dX5_sheet_29 : decode cX5_sheet 29 = .ok (.ldc 83, 2) := dk_18 83 (dk_at dksX5_sheet_1 5 rfl rfl)
theorem dX5_sheet_31 : decode cX5_sheet 31 = .ok (.ireturn, 1) := dk_172 (dk_at dksX5_sheet_1 7 rfl rfl)
theorem dX5_sheet_32 : decode cX5_sheet 32 = .ok (.iload_n 2, 1) := dk_28 (dk_at dksX5_sheet_1 8 rfl rfl)
theorem dX5_sheet_33 : decode cX5_sheet 33 = .ok (.ifCond .lt 11, 3) := dk_155 0 11 (dk_at dksX5_sheet_1 9 rfl rfl)
theorem dX5_sheet_36 : decode cX5_sheet 36 = .ok (.iload_n 3, 1) := dk_29 (dk_at dksX5_sheet_1 12 rfl rfl)
theorem dX5_sheet_37 : decode cX5_sheet 37 = .ok (.ifCond .ge 7, 3) := dk_156 0 7 (dk_at dksX5_sheet_1 13 rfl rfl)
theorem dX5_sheet_40 : decode cX5_sheet 40 = .ok (.ldc_w 298, 3) := dk_19 1 42 (dk_at dksX5_sheet_1 16 rfl rfl)
theorem dX5_sheet_43 : decode cX5_sheet 43 = .ok (.ireturn, 1) := dk_172 (dk_at dksX5_sheet_1 19 rfl rfl)
theorem dX5_sheet_44 : decode cX5_sheet 44 = .ok (.aload_n 0, 1) := dk_42 (dk_at dksX5_sheet_1 20 rfl rfl)
theorem dX5_sheet_45 : decode cX5_sheet 45 = .ok (.getfield 19, 3) := dk_180 0 19 (dk_at dksX5_sheet_1 21 rfl rfl)
theorem dX5_sheet_48 : decode cX5_sheet 48 = .ok (.iload_n 1, 1) := dk_27 (dk_at dksX5_sheet_2 0 rfl rfl)
theorem dX5_sheet_49 : decode cX5_sheet 49 = .ok (.iload_n 2, 1) := dk_28 (dk_at dksX5_sheet_2 1 rfl rfl)
theorem dX5_sheet_50 : decode cX5_sheet 50 = .ok (.iastore, 1) := dk_79 (dk_at dksX5_sheet_2 2 rfl rfl)
theorem dX5_sheet_51 : decode cX5_sheet 51 = .ok (.aload_n 0, 1) := dk_42 (dk_at dksX5_sheet_2 3 rfl rfl)
theorem dX5_sheet_52 : decode cX5_sheet 52 = .ok (.getfield 22, 3) := dk_180 0 22 (dk_at dksX5_sheet_2 4 rfl rfl)
theorem dX5_sheet_55 : decode cX5_sheet 55 = .ok (.iload_n 1, 1) := dk_27 (dk_at dksX5_sheet_2 7 rfl rfl)
theorem dX5_sheet_56 : decode cX5_sheet 56 = .ok (.iload_n 2, 1) := dk_28 (dk_at dksX5_sheet_2 8 rfl rfl)
theorem dX5_sheet_57 : decode cX5_sheet 57 = .ok (.ifCond .ge 7, 3) := dk_156 0 7 (dk_at dksX5_sheet_2 9 rfl rfl)
theorem dX5_sheet_60 : decode cX5_sheet 60 = .ok (.iconst 0, 1) := dk_3 (dk_at dksX5_sheet_2 12 rfl rfl)
theorem dX5_sheet_61 : decode cX5_sheet 61 = .ok (.goto 4, 3) := dk_167 0 4 (dk_at dksX5_sheet_2 13 rfl rfl)
theorem dX5_sheet_64 : decode cX5_sheet 64 = .ok (.iload_n 3, 1) := dk_29 (dk_at dksX5_sheet_2 16 rfl rfl)
theorem dX5_sheet_65 : decode cX5_sheet 65 = .ok (.iastore, 1) := dk_79 (dk_at dksX5_sheet_2 17 rfl rfl)
theorem dX5_sheet_66 : decode cX5_sheet 66 = .ok (.iconst 0, 1) := dk_3 (dk_at dksX5_sheet_2 18 rfl rfl)
theorem dX5_sheet_67 : decode cX5_sheet 67 = .ok (.istore 4, 2) := dk_54 4 (dk_at dksX5_sheet_2 19 rfl rfl)
theorem dX5_sheet_69 : decode cX5_sheet 69 = .ok (.iload 4, 2) := dk_21 4 (dk_at dksX5_sheet_2 21 rfl rfl)
theorem dX5_sheet_71 : decode cX5_sheet 71 = .ok (.bipush 24, 2) := dk_16 24 (dk_at dksX5_sheet_3 0 rfl rfl)
theorem dX5_sheet_73 : decode cX5_sheet 73 = .ok (.if_icmp .ge 22, 3) := dk_162 0 22 (dk_at dksX5_sheet_3 2 rfl rfl)
theorem dX5_sheet_76 : decode cX5_sheet 76 = .ok (.aload_n 0, 1) := dk_42 (dk_at dksX5_sheet_3 5 rfl rfl)
theorem dX5_sheet_77 : decode cX5_sheet 77 = .ok (.getfield 25, 3) := dk_180 0 25 (dk_at dksX5_sheet_3 6 rfl rfl)
theorem dX5_sheet_80 : decode cX5_sheet 80 = .ok (.bipush 24, 2) := dk_16 24 (dk_at dksX5_sheet_3 9 rfl rfl)
theorem dX5_sheet_82 : decode cX5_sheet 82 = .ok (.iload_n 1, 1) := dk_27 (dk_at dksX5_sheet_3 11 rfl rfl)
theorem dX5_sheet_83 : decode cX5_sheet 83 = .ok (.imul, 1) := dk_104 (dk_at dksX5_sheet_3 12 rfl rfl)
theorem dX5_sheet_84 : decode cX5_sheet 84 = .ok (.iload 4, 2) := dk_21 4 (dk_at dksX5_sheet_3 13 rfl rfl)
theorem dX5_sheet_86 : decode cX5_sheet 86 = .ok (.iadd, 1) := dk_96 (dk_at dksX5_sheet_3 15 rfl rfl)
theorem dX5_sheet_87 : decode cX5_sheet 87 = .ok (.iconst 0, 1) := dk_3 (dk_at dksX5_sheet_3 16 rfl rfl)
theorem dX5_sheet_88 : decode cX5_sheet 88 = .ok (.iastore, 1) := dk_79 (dk_at dksX5_sheet_3 17 rfl rfl)
theorem dX5_sheet_89 : decode cX5_sheet 89 = .ok (.iinc 4 1, 3) := dk_132 4 1 (dk_at dksX5_sheet_3 18 rfl rfl)
theorem dX5_sheet_92 : decode cX5_sheet 92 = .ok (.goto (-23), 3) := dk_167 255 233 (dk_at dksX5_sheet_3 21 rfl rfl)
theorem dX5_sheet_95 : decode cX5_sheet 95 = .ok (.aload_n 0, 1) := dk_42 (dk_at dksX5_sheet_4 0 rfl rfl)
theorem dX5_sheet_96 : decode cX5_sheet 96 = .ok (.getfield 22, 3) := dk_180 0 22 (dk_at dksX5_sheet_4 1 rfl rfl)
theorem dX5_sheet_99 : decode cX5_sheet 99 = .ok (.iload_n 1, 1) := dk_27 (dk_at dksX5_sheet_4 4 rfl rfl)
theorem dX5_sheet_100 : decode cX5_sheet 100 = .ok (.iaload, 1) := dk_46 (dk_at dksX5_sheet_4 5 rfl rfl)
theorem dX5_sheet_101 : decode cX5_sheet 101 = .ok (.ireturn, 1) := dk_172 (dk_at dksX5_sheet_4 6 rfl rfl)
abbrev cX5_mark : ByteArray := prog_18_method_85_code
def yX5_mark : MethodName := ⟨RX5, "mark", "(III)I"⟩
def dkwX5_mark_5 : List UInt8 := [122, 167, 0, 4, 29, 79, 4, 172]
abbrev dktX5_mark_5 : List UInt8 := dkwX5_mark_5 ++ []
def dkwX5_mark_4 : List UInt8 := [180, 0, 25, 16, 24, 27, 104, 28, 96, 42, 180, 0, 19, 27, 46, 154, 0, 13, 29, 16, 16, 120, 16, 16]
abbrev dktX5_mark_4 : List UInt8 := dkwX5_mark_4 ++ dktX5_mark_5
def dkwX5_mark_3 : List UInt8 := [29, 18, 67, 159, 0, 20, 29, 133, 20, 1, 44, 20, 1, 46, 184, 0, 68, 154, 0, 6, 18, 83, 172, 42]
abbrev dktX5_mark_3 : List UInt8 := dkwX5_mark_3 ++ dktX5_mark_4
def dkwX5_mark_2 : List UInt8 := [27, 46, 154, 0, 12, 29, 18, 67, 160, 0, 6, 18, 125, 172, 42, 180, 0, 19, 27, 46, 4, 160, 0, 26]
abbrev dktX5_mark_2 : List UInt8 := dkwX5_mark_2 ++ dktX5_mark_3
def dkwX5_mark_1 : List UInt8 := [9, 42, 180, 0, 22, 27, 46, 4, 100, 133, 184, 0, 68, 154, 0, 7, 19, 1, 43, 172, 42, 180, 0, 19]
abbrev dktX5_mark_1 : List UInt8 := dkwX5_mark_1 ++ dktX5_mark_2
def dkwX5_mark_0 : List UInt8 := [27, 184, 0, 178, 154, 0, 6, 18, 83, 172, 42, 180, 0, 19, 27, 46, 156, 0, 6, 18, 181, 172, 28, 133]
abbrev dktX5_mark_0 : List UInt8 := dkwX5_mark_0 ++ dktX5_mark_1
theorem dksX5_mark_0 : cX5_mark.data.toList.drop 0 = dktX5_mark_0 := by decide +kernel
theorem dksX5_mark_1 : cX5_mark.data.toList.drop 24 = dktX5_mark_1 := dk_seg dksX5_mark_0 24 rfl rfl
theorem dksX5_mark_2 : cX5_mark.data.toList.drop 48 = dktX5_mark_2 := dk_seg dksX5_mark_1 24 rfl rfl
theorem dksX5_mark_3 : cX5_mark.data.toList.drop 72 = dktX5_mark_3 := dk_seg dksX5_mark_2 24 rfl rfl
theorem dksX5_mark_4 : cX5_mark.data.toList.drop 96 = dktX5_mark_4 := dk_seg dksX5_mark_3 24 rfl rfl
theorem dksX5_mark_5 : cX5_mark.data.toList.drop 120 = dktX5_mark_5 := dk_seg dksX5_mark_4 24 rfl rfl
theorem dX5_mark_0 : decode cX5_mark 0 = .ok (.iload_n 1, 1) := dk_27 (dk_at dksX5_mark_0 0 rfl rfl)
theorem dX5_mark_1 : decode cX5_mark 1 = .ok (.invokestatic 178, 3) := dk_184 0 178 (dk_at dksX5_mark_0 1 rfl rfl)
theorem dX5_mark_4 : decode cX5_mark 4 = .ok (.ifCond .ne 6, 3) := dk_154 0 6 (dk_at dksX5_mark_0 4 rfl rfl)
theorem dX5_mark_7 : decode cX5_mark 7 = .ok (.ldc 83, 2) := dk_18 83 (dk_at dksX5_mark_0 7 rfl rfl)
theorem dX5_mark_9 : decode cX5_mark 9 = .ok (.ireturn, 1) := dk_172 (dk_at dksX5_mark_0 9 rfl rfl)
theorem dX5_mark_10 : decode cX5_mark 10 = .ok (.aload_n 0, 1) := dk_42 (dk_at dksX5_mark_0 10 rfl rfl)
theorem dX5_mark_11 : decode cX5_mark 11 = .ok (.getfield 19, 3) := dk_180 0 19 (dk_at dksX5_mark_0 11 rfl rfl)
theorem dX5_mark_14 : decode cX5_mark 14 = .ok (.iload_n 1, 1) := dk_27 (dk_at dksX5_mark_0 14 rfl rfl)
theorem dX5_mark_15 : decode cX5_mark 15 = .ok (.iaload, 1) := dk_46 (dk_at dksX5_mark_0 15 rfl rfl)
theorem dX5_mark_16 : decode cX5_mark 16 = .ok (.ifCond .ge 6, 3) := dk_156 0 6 (dk_at dksX5_mark_0 16 rfl rfl)
theorem dX5_mark_19 : decode cX5_mark 19 = .ok (.ldc 181, 2) := dk_18 181 (dk_at dksX5_mark_0 19 rfl rfl)
theorem dX5_mark_21 : decode cX5_mark 21 = .ok (.ireturn, 1) := dk_172 (dk_at dksX5_mark_0 21 rfl rfl)
theorem dX5_mark_22 : decode cX5_mark 22 = .ok (.iload_n 2, 1) := dk_28 (dk_at dksX5_mark_0 22 rfl rfl)
theorem dX5_mark_23 : decode cX5_mark 23 = .ok (.i2l, 1) := dk_133 (dk_at dksX5_mark_0 23 rfl rfl)
theorem dX5_mark_24 : decode cX5_mark 24 = .ok (.lconst 0, 1) := dk_9 (dk_at dksX5_mark_1 0 rfl rfl)
theorem dX5_mark_25 : decode cX5_mark 25 = .ok (.aload_n 0, 1) := dk_42 (dk_at dksX5_mark_1 1 rfl rfl)
theorem dX5_mark_26 : decode cX5_mark 26 = .ok (.getfield 22, 3) := dk_180 0 22 (dk_at dksX5_mark_1 2 rfl rfl)
theorem dX5_mark_29 : decode cX5_mark 29 = .ok (.iload_n 1, 1) := dk_27 (dk_at dksX5_mark_1 5 rfl rfl)
theorem dX5_mark_30 : decode cX5_mark 30 = .ok (.iaload, 1) := dk_46 (dk_at dksX5_mark_1 6 rfl rfl)
theorem dX5_mark_31 : decode cX5_mark 31 = .ok (.iconst 1, 1) := dk_4 (dk_at dksX5_mark_1 7 rfl rfl)
theorem dX5_mark_32 : decode cX5_mark 32 = .ok (.isub, 1) := dk_100 (dk_at dksX5_mark_1 8 rfl rfl)
theorem dX5_mark_33 : decode cX5_mark 33 = .ok (.i2l, 1) := dk_133 (dk_at dksX5_mark_1 9 rfl rfl)
theorem dX5_mark_34 : decode cX5_mark 34 = .ok (.invokestatic 68, 3) := dk_184 0 68 (dk_at dksX5_mark_1 10 rfl rfl)
theorem dX5_mark_37 : decode cX5_mark 37 = .ok (.ifCond .ne 7, 3) := dk_154 0 7 (dk_at dksX5_mark_1 13 rfl rfl)
theorem dX5_mark_40 : decode cX5_mark 40 = .ok (.ldc_w 299, 3) := dk_19 1 43 (dk_at dksX5_mark_1 16 rfl rfl)
theorem dX5_mark_43 : decode cX5_mark 43 = .ok (.ireturn, 1) := dk_172 (dk_at dksX5_mark_1 19 rfl rfl)
theorem dX5_mark_44 : decode cX5_mark 44 = .ok (.aload_n 0, 1) := dk_42 (dk_at dksX5_mark_1 20 rfl rfl)
theorem dX5_mark_45 : decode cX5_mark 45 = .ok (.getfield 19, 3) := dk_180 0 19 (dk_at dksX5_mark_1 21 rfl rfl)
theorem dX5_mark_48 : decode cX5_mark 48 = .ok (.iload_n 1, 1) := dk_27 (dk_at dksX5_mark_2 0 rfl rfl)
theorem dX5_mark_49 : decode cX5_mark 49 = .ok (.iaload, 1) := dk_46 (dk_at dksX5_mark_2 1 rfl rfl)
theorem dX5_mark_50 : decode cX5_mark 50 = .ok (.ifCond .ne 12, 3) := dk_154 0 12 (dk_at dksX5_mark_2 2 rfl rfl)
theorem dX5_mark_53 : decode cX5_mark 53 = .ok (.iload_n 3, 1) := dk_29 (dk_at dksX5_mark_2 5 rfl rfl)
theorem dX5_mark_54 : decode cX5_mark 54 = .ok (.ldc 67, 2) := dk_18 67 (dk_at dksX5_mark_2 6 rfl rfl)
theorem dX5_mark_56 : decode cX5_mark 56 = .ok (.if_icmp .ne 6, 3) := dk_160 0 6 (dk_at dksX5_mark_2 8 rfl rfl)
theorem dX5_mark_59 : decode cX5_mark 59 = .ok (.ldc 125, 2) := dk_18 125 (dk_at dksX5_mark_2 11 rfl rfl)
theorem dX5_mark_61 : decode cX5_mark 61 = .ok (.ireturn, 1) := dk_172 (dk_at dksX5_mark_2 13 rfl rfl)
theorem dX5_mark_62 : decode cX5_mark 62 = .ok (.aload_n 0, 1) := dk_42 (dk_at dksX5_mark_2 14 rfl rfl)
theorem dX5_mark_63 : decode cX5_mark 63 = .ok (.getfield 19, 3) := dk_180 0 19 (dk_at dksX5_mark_2 15 rfl rfl)
theorem dX5_mark_66 : decode cX5_mark 66 = .ok (.iload_n 1, 1) := dk_27 (dk_at dksX5_mark_2 18 rfl rfl)
theorem dX5_mark_67 : decode cX5_mark 67 = .ok (.iaload, 1) := dk_46 (dk_at dksX5_mark_2 19 rfl rfl)
theorem dX5_mark_68 : decode cX5_mark 68 = .ok (.iconst 1, 1) := dk_4 (dk_at dksX5_mark_2 20 rfl rfl)
theorem dX5_mark_69 : decode cX5_mark 69 = .ok (.if_icmp .ne 26, 3) := dk_160 0 26 (dk_at dksX5_mark_2 21 rfl rfl)
theorem dX5_mark_72 : decode cX5_mark 72 = .ok (.iload_n 3, 1) := dk_29 (dk_at dksX5_mark_3 0 rfl rfl)
theorem dX5_mark_73 : decode cX5_mark 73 = .ok (.ldc 67, 2) := dk_18 67 (dk_at dksX5_mark_3 1 rfl rfl)
theorem dX5_mark_75 : decode cX5_mark 75 = .ok (.if_icmp .eq 20, 3) := dk_159 0 20 (dk_at dksX5_mark_3 3 rfl rfl)
theorem dX5_mark_78 : decode cX5_mark 78 = .ok (.iload_n 3, 1) := dk_29 (dk_at dksX5_mark_3 6 rfl rfl)
theorem dX5_mark_79 : decode cX5_mark 79 = .ok (.i2l, 1) := dk_133 (dk_at dksX5_mark_3 7 rfl rfl)
theorem dX5_mark_80 : decode cX5_mark 80 = .ok (.ldc2_w 300, 3) := dk_20 1 44 (dk_at dksX5_mark_3 8 rfl rfl)
theorem dX5_mark_83 : decode cX5_mark 83 = .ok (.ldc2_w 302, 3) := dk_20 1 46 (dk_at dksX5_mark_3 11 rfl rfl)
theorem dX5_mark_86 : decode cX5_mark 86 = .ok (.invokestatic 68, 3) := dk_184 0 68 (dk_at dksX5_mark_3 14 rfl rfl)
theorem dX5_mark_89 : decode cX5_mark 89 = .ok (.ifCond .ne 6, 3) := dk_154 0 6 (dk_at dksX5_mark_3 17 rfl rfl)
theorem dX5_mark_92 : decode cX5_mark 92 = .ok (.ldc 83, 2) := dk_18 83 (dk_at dksX5_mark_3 20 rfl rfl)
theorem dX5_mark_94 : decode cX5_mark 94 = .ok (.ireturn, 1) := dk_172 (dk_at dksX5_mark_3 22 rfl rfl)
theorem dX5_mark_95 : decode cX5_mark 95 = .ok (.aload_n 0, 1) := dk_42 (dk_at dksX5_mark_3 23 rfl rfl)
theorem dX5_mark_96 : decode cX5_mark 96 = .ok (.getfield 25, 3) := dk_180 0 25 (dk_at dksX5_mark_4 0 rfl rfl)
theorem dX5_mark_99 : decode cX5_mark 99 = .ok (.bipush 24, 2) := dk_16 24 (dk_at dksX5_mark_4 3 rfl rfl)
theorem dX5_mark_101 : decode cX5_mark 101 = .ok (.iload_n 1, 1) := dk_27 (dk_at dksX5_mark_4 5 rfl rfl)
theorem dX5_mark_102 : decode cX5_mark 102 = .ok (.imul, 1) := dk_104 (dk_at dksX5_mark_4 6 rfl rfl)
theorem dX5_mark_103 : decode cX5_mark 103 = .ok (.iload_n 2, 1) := dk_28 (dk_at dksX5_mark_4 7 rfl rfl)
theorem dX5_mark_104 : decode cX5_mark 104 = .ok (.iadd, 1) := dk_96 (dk_at dksX5_mark_4 8 rfl rfl)
theorem dX5_mark_105 : decode cX5_mark 105 = .ok (.aload_n 0, 1) := dk_42 (dk_at dksX5_mark_4 9 rfl rfl)
theorem dX5_mark_106 : decode cX5_mark 106 = .ok (.getfield 19, 3) := dk_180 0 19 (dk_at dksX5_mark_4 10 rfl rfl)
theorem dX5_mark_109 : decode cX5_mark 109 = .ok (.iload_n 1, 1) := dk_27 (dk_at dksX5_mark_4 13 rfl rfl)
theorem dX5_mark_110 : decode cX5_mark 110 = .ok (.iaload, 1) := dk_46 (dk_at dksX5_mark_4 14 rfl rfl)
theorem dX5_mark_111 : decode cX5_mark 111 = .ok (.ifCond .ne 13, 3) := dk_154 0 13 (dk_at dksX5_mark_4 15 rfl rfl)
theorem dX5_mark_114 : decode cX5_mark 114 = .ok (.iload_n 3, 1) := dk_29 (dk_at dksX5_mark_4 18 rfl rfl)
theorem dX5_mark_115 : decode cX5_mark 115 = .ok (.bipush 16, 2) := dk_16 16 (dk_at dksX5_mark_4 19 rfl rfl)
theorem dX5_mark_117 : decode cX5_mark 117 = .ok (.ishl, 1) := dk_120 (dk_at dksX5_mark_4 21 rfl rfl)
theorem dX5_mark_118 : decode cX5_mark 118 = .ok (.bipush 16, 2) := dk_16 16 (dk_at dksX5_mark_4 22 rfl rfl)
theorem dX5_mark_120 : decode cX5_mark 120 = .ok (.ishr, 1) := dk_122 (dk_at dksX5_mark_5 0 rfl rfl)
theorem dX5_mark_121 : decode cX5_mark 121 = .ok (.goto 4, 3) := dk_167 0 4 (dk_at dksX5_mark_5 1 rfl rfl)
theorem dX5_mark_124 : decode cX5_mark 124 = .ok (.iload_n 3, 1) := dk_29 (dk_at dksX5_mark_5 4 rfl rfl)
theorem dX5_mark_125 : decode cX5_mark 125 = .ok (.iastore, 1) := dk_79 (dk_at dksX5_mark_5 5 rfl rfl)
theorem dX5_mark_126 : decode cX5_mark 126 = .ok (.iconst 1, 1) := dk_4 (dk_at dksX5_mark_5 6 rfl rfl)
theorem dX5_mark_127 : decode cX5_mark 127 = .ok (.ireturn, 1) := dk_172 (dk_at dksX5_mark_5 7 rfl rfl)
abbrev cX5_pour : ByteArray := prog_18_method_86_code
def yX5_pour : MethodName := ⟨RX5, "pour", "(I)I"⟩
def dkwX5_pour_5 : List UInt8 := [132, 3, 1, 167, 255, 161, 28, 172]
abbrev dktX5_pour_5 : List UInt8 := dkwX5_pour_5 ++ []
def dkwX5_pour_4 : List UInt8 := [42, 16, 10, 6, 29, 104, 96, 4, 96, 21, 5, 182, 0, 126, 160, 0, 7, 3, 167, 0, 4, 4, 96, 61]
abbrev dktX5_pour_4 : List UInt8 := dkwX5_pour_4 ++ dktX5_pour_5
def dkwX5_pour_3 : List UInt8 := [16, 10, 6, 29, 104, 96, 4, 96, 46, 167, 0, 10, 21, 4, 16, 59, 184, 1, 48, 54, 5, 28, 21, 5]
abbrev dktX5_pour_3 : List UInt8 := dkwX5_pour_3 ++ dktX5_pour_4
def dkwX5_pour_2 : List UInt8 := [180, 0, 25, 16, 24, 27, 104, 29, 96, 46, 54, 4, 21, 4, 18, 67, 160, 0, 19, 42, 180, 0, 7]
abbrev dktX5_pour_2 : List UInt8 := dkwX5_pour_2 ++ dktX5_pour_3
def dkwX5_pour_1 : List UInt8 := [3, 62, 29, 42, 180, 0, 22, 27, 46, 162, 0, 91, 29, 42, 180, 0, 7, 3, 46, 162, 0, 81, 42]
abbrev dktX5_pour_1 : List UInt8 := dkwX5_pour_1 ++ dktX5_pour_2
def dkwX5_pour_0 : List UInt8 := [27, 184, 0, 178, 154, 0, 6, 18, 83, 172, 42, 180, 0, 19, 27, 46, 156, 0, 6, 18, 181, 172, 3, 61]
abbrev dktX5_pour_0 : List UInt8 := dkwX5_pour_0 ++ dktX5_pour_1
theorem dksX5_pour_0 : cX5_pour.data.toList.drop 0 = dktX5_pour_0 := by decide +kernel
theorem dksX5_pour_1 : cX5_pour.data.toList.drop 24 = dktX5_pour_1 := dk_seg dksX5_pour_0 24 rfl rfl
theorem dksX5_pour_2 : cX5_pour.data.toList.drop 47 = dktX5_pour_2 := dk_seg dksX5_pour_1 23 rfl rfl
theorem dksX5_pour_3 : cX5_pour.data.toList.drop 70 = dktX5_pour_3 := dk_seg dksX5_pour_2 23 rfl rfl
theorem dksX5_pour_4 : cX5_pour.data.toList.drop 94 = dktX5_pour_4 := dk_seg dksX5_pour_3 24 rfl rfl
theorem dksX5_pour_5 : cX5_pour.data.toList.drop 118 = dktX5_pour_5 := dk_seg dksX5_pour_4 24 rfl rfl
theorem dX5_pour_0 : decode cX5_pour 0 = .ok (.iload_n 1, 1) := dk_27 (dk_at dksX5_pour_0 0 rfl rfl)
theorem dX5_pour_1 : decode cX5_pour 1 = .ok (.invokestatic 178, 3) := dk_184 0 178 (dk_at dksX5_pour_0 1 rfl rfl)
theorem dX5_pour_4 : decode cX5_pour 4 = .ok (.ifCond .ne 6, 3) := dk_154 0 6 (dk_at dksX5_pour_0 4 rfl rfl)
theorem dX5_pour_7 : decode cX5_pour 7 = .ok (.ldc 83, 2) := dk_18 83 (dk_at dksX5_pour_0 7 rfl rfl)
theorem dX5_pour_9 : decode cX5_pour 9 = .ok (.ireturn, 1) := dk_172 (dk_at dksX5_pour_0 9 rfl rfl)
theorem dX5_pour_10 : decode cX5_pour 10 = .ok (.aload_n 0, 1) := dk_42 (dk_at dksX5_pour_0 10 rfl rfl)
theorem dX5_pour_11 : decode cX5_pour 11 = .ok (.getfield 19, 3) := dk_180 0 19 (dk_at dksX5_pour_0 11 rfl rfl)
theorem dX5_pour_14 : decode cX5_pour 14 = .ok (.iload_n 1, 1) := dk_27 (dk_at dksX5_pour_0 14 rfl rfl)
theorem dX5_pour_15 : decode cX5_pour 15 = .ok (.iaload, 1) := dk_46 (dk_at dksX5_pour_0 15 rfl rfl)
theorem dX5_pour_16 : decode cX5_pour 16 = .ok (.ifCond .ge 6, 3) := dk_156 0 6 (dk_at dksX5_pour_0 16 rfl rfl)
theorem dX5_pour_19 : decode cX5_pour 19 = .ok (.ldc 181, 2) := dk_18 181 (dk_at dksX5_pour_0 19 rfl rfl)
theorem dX5_pour_21 : decode cX5_pour 21 = .ok (.ireturn, 1) := dk_172 (dk_at dksX5_pour_0 21 rfl rfl)
theorem dX5_pour_22 : decode cX5_pour 22 = .ok (.iconst 0, 1) := dk_3 (dk_at dksX5_pour_0 22 rfl rfl)
theorem dX5_pour_23 : decode cX5_pour 23 = .ok (.istore_n 2, 1) := dk_61 (dk_at dksX5_pour_0 23 rfl rfl)
theorem dX5_pour_24 : decode cX5_pour 24 = .ok (.iconst 0, 1) := dk_3 (dk_at dksX5_pour_1 0 rfl rfl)
theorem dX5_pour_25 : decode cX5_pour 25 = .ok (.istore_n 3, 1) := dk_62 (dk_at dksX5_pour_1 1 rfl rfl)
theorem dX5_pour_26 : decode cX5_pour 26 = .ok (.iload_n 3, 1) := dk_29 (dk_at dksX5_pour_1 2 rfl rfl)
theorem dX5_pour_27 : decode cX5_pour 27 = .ok (.aload_n 0, 1) := dk_42 (dk_at dksX5_pour_1 3 rfl rfl)
theorem dX5_pour_28 : decode cX5_pour 28 = .ok (.getfield 22, 3) := dk_180 0 22 (dk_at dksX5_pour_1 4 rfl rfl)
theorem dX5_pour_31 : decode cX5_pour 31 = .ok (.iload_n 1, 1) := dk_27 (dk_at dksX5_pour_1 7 rfl rfl)
theorem dX5_pour_32 : decode cX5_pour 32 = .ok (.iaload, 1) := dk_46 (dk_at dksX5_pour_1 8 rfl rfl)
theorem dX5_pour_33 : decode cX5_pour 33 = .ok (.if_icmp .ge 91, 3) := dk_162 0 91 (dk_at dksX5_pour_1 9 rfl rfl)
theorem dX5_pour_36 : decode cX5_pour 36 = .ok (.iload_n 3, 1) := dk_29 (dk_at dksX5_pour_1 12 rfl rfl)
theorem dX5_pour_37 : decode cX5_pour 37 = .ok (.aload_n 0, 1) := dk_42 (dk_at dksX5_pour_1 13 rfl rfl)
theorem dX5_pour_38 : decode cX5_pour 38 = .ok (.getfield 7, 3) := dk_180 0 7 (dk_at dksX5_pour_1 14 rfl rfl)
theorem dX5_pour_41 : decode cX5_pour 41 = .ok (.iconst 0, 1) := dk_3 (dk_at dksX5_pour_1 17 rfl rfl)
theorem dX5_pour_42 : decode cX5_pour 42 = .ok (.iaload, 1) := dk_46 (dk_at dksX5_pour_1 18 rfl rfl)
theorem dX5_pour_43 : decode cX5_pour 43 = .ok (.if_icmp .ge 81, 3) := dk_162 0 81 (dk_at dksX5_pour_1 19 rfl rfl)
theorem dX5_pour_46 : decode cX5_pour 46 = .ok (.aload_n 0, 1) := dk_42 (dk_at dksX5_pour_1 22 rfl rfl)
theorem dX5_pour_47 : decode cX5_pour 47 = .ok (.getfield 25, 3) := dk_180 0 25 (dk_at dksX5_pour_2 0 rfl rfl)
theorem dX5_pour_50 : decode cX5_pour 50 = .ok (.bipush 24, 2) := dk_16 24 (dk_at dksX5_pour_2 3 rfl rfl)
theorem dX5_pour_52 : decode cX5_pour 52 = .ok (.iload_n 1, 1) := dk_27 (dk_at dksX5_pour_2 5 rfl rfl)
theorem dX5_pour_53 : decode cX5_pour 53 = .ok (.imul, 1) := dk_104 (dk_at dksX5_pour_2 6 rfl rfl)
theorem dX5_pour_54 : decode cX5_pour 54 = .ok (.iload_n 3, 1) := dk_29 (dk_at dksX5_pour_2 7 rfl rfl)
theorem dX5_pour_55 : decode cX5_pour 55 = .ok (.iadd, 1) := dk_96 (dk_at dksX5_pour_2 8 rfl rfl)
theorem dX5_pour_56 : decode cX5_pour 56 = .ok (.iaload, 1) := dk_46 (dk_at dksX5_pour_2 9 rfl rfl)
theorem dX5_pour_57 : decode cX5_pour 57 = .ok (.istore 4, 2) := dk_54 4 (dk_at dksX5_pour_2 10 rfl rfl)
theorem dX5_pour_59 : decode cX5_pour 59 = .ok (.iload 4, 2) := dk_21 4 (dk_at dksX5_pour_2 12 rfl rfl)
theorem dX5_pour_61 : decode cX5_pour 61 = .ok (.ldc 67, 2) := dk_18 67 (dk_at dksX5_pour_2 14 rfl rfl)
theorem dX5_pour_63 : decode cX5_pour 63 = .ok (.if_icmp .ne 19, 3) := dk_160 0 19 (dk_at dksX5_pour_2 16 rfl rfl)
theorem dX5_pour_66 : decode cX5_pour 66 = .ok (.aload_n 0, 1) := dk_42 (dk_at dksX5_pour_2 19 rfl rfl)
theorem dX5_pour_67 : decode cX5_pour 67 = .ok (.getfield 7, 3) := dk_180 0 7 (dk_at dksX5_pour_2 20 rfl rfl)
theorem dX5_pour_70 : decode cX5_pour 70 = .ok (.bipush 10, 2) := dk_16 10 (dk_at dksX5_pour_3 0 rfl rfl)
theorem dX5_pour_72 : decode cX5_pour 72 = .ok (.iconst 3, 1) := dk_6 (dk_at dksX5_pour_3 2 rfl rfl)
theorem dX5_pour_73 : decode cX5_pour 73 = .ok (.iload_n 3, 1) := dk_29 (dk_at dksX5_pour_3 3 rfl rfl)
theorem dX5_pour_74 : decode cX5_pour 74 = .ok (.imul, 1) := dk_104 (dk_at dksX5_pour_3 4 rfl rfl)
theorem dX5_pour_75 : decode cX5_pour 75 = .ok (.iadd, 1) := dk_96 (dk_at dksX5_pour_3 5 rfl rfl)
theorem dX5_pour_76 : decode cX5_pour 76 = .ok (.iconst 1, 1) := dk_4 (dk_at dksX5_pour_3 6 rfl rfl)
theorem dX5_pour_77 : decode cX5_pour 77 = .ok (.iadd, 1) := dk_96 (dk_at dksX5_pour_3 7 rfl rfl)
theorem dX5_pour_78 : decode cX5_pour 78 = .ok (.iaload, 1) := dk_46 (dk_at dksX5_pour_3 8 rfl rfl)
theorem dX5_pour_79 : decode cX5_pour 79 = .ok (.goto 10, 3) := dk_167 0 10 (dk_at dksX5_pour_3 9 rfl rfl)
theorem dX5_pour_82 : decode cX5_pour 82 = .ok (.iload 4, 2) := dk_21 4 (dk_at dksX5_pour_3 12 rfl rfl)
theorem dX5_pour_84 : decode cX5_pour 84 = .ok (.bipush 59, 2) := dk_16 59 (dk_at dksX5_pour_3 14 rfl rfl)
theorem dX5_pour_86 : decode cX5_pour 86 = .ok (.invokestatic 304, 3) := dk_184 1 48 (dk_at dksX5_pour_3 16 rfl rfl)
theorem dX5_pour_89 : decode cX5_pour 89 = .ok (.istore 5, 2) := dk_54 5 (dk_at dksX5_pour_3 19 rfl rfl)
theorem dX5_pour_91 : decode cX5_pour 91 = .ok (.iload_n 2, 1) := dk_28 (dk_at dksX5_pour_3 21 rfl rfl)
theorem dX5_pour_92 : decode cX5_pour 92 = .ok (.iload 5, 2) := dk_21 5 (dk_at dksX5_pour_3 22 rfl rfl)
theorem dX5_pour_94 : decode cX5_pour 94 = .ok (.aload_n 0, 1) := dk_42 (dk_at dksX5_pour_4 0 rfl rfl)
theorem dX5_pour_95 : decode cX5_pour 95 = .ok (.bipush 10, 2) := dk_16 10 (dk_at dksX5_pour_4 1 rfl rfl)
theorem dX5_pour_97 : decode cX5_pour 97 = .ok (.iconst 3, 1) := dk_6 (dk_at dksX5_pour_4 3 rfl rfl)
theorem dX5_pour_98 : decode cX5_pour 98 = .ok (.iload_n 3, 1) := dk_29 (dk_at dksX5_pour_4 4 rfl rfl)
theorem dX5_pour_99 : decode cX5_pour 99 = .ok (.imul, 1) := dk_104 (dk_at dksX5_pour_4 5 rfl rfl)
theorem dX5_pour_100 : decode cX5_pour 100 = .ok (.iadd, 1) := dk_96 (dk_at dksX5_pour_4 6 rfl rfl)
theorem dX5_pour_101 : decode cX5_pour 101 = .ok (.iconst 1, 1) := dk_4 (dk_at dksX5_pour_4 7 rfl rfl)
theorem dX5_pour_102 : decode cX5_pour 102 = .ok (.iadd, 1) := dk_96 (dk_at dksX5_pour_4 8 rfl rfl)
theorem dX5_pour_103 : decode cX5_pour 103 = .ok (.iload 5, 2) := dk_21 5 (dk_at dksX5_pour_4 9 rfl rfl)
theorem dX5_pour_105 : decode cX5_pour 105 = .ok (.invokevirtual 126, 3) := dk_182 0 126 (dk_at dksX5_pour_4 11 rfl rfl)
theorem dX5_pour_108 : decode cX5_pour 108 = .ok (.if_icmp .ne 7, 3) := dk_160 0 7 (dk_at dksX5_pour_4 14 rfl rfl)
theorem dX5_pour_111 : decode cX5_pour 111 = .ok (.iconst 0, 1) := dk_3 (dk_at dksX5_pour_4 17 rfl rfl)
theorem dX5_pour_112 : decode cX5_pour 112 = .ok (.goto 4, 3) := dk_167 0 4 (dk_at dksX5_pour_4 18 rfl rfl)
theorem dX5_pour_115 : decode cX5_pour 115 = .ok (.iconst 1, 1) := dk_4 (dk_at dksX5_pour_4 21 rfl rfl)
theorem dX5_pour_116 : decode cX5_pour 116 = .ok (.iadd, 1) := dk_96 (dk_at dksX5_pour_4 22 rfl rfl)
theorem dX5_pour_117 : decode cX5_pour 117 = .ok (.istore_n 2, 1) := dk_61 (dk_at dksX5_pour_4 23 rfl rfl)
theorem dX5_pour_118 : decode cX5_pour 118 = .ok (.iinc 3 1, 3) := dk_132 3 1 (dk_at dksX5_pour_5 0 rfl rfl)
theorem dX5_pour_121 : decode cX5_pour 121 = .ok (.goto (-95), 3) := dk_167 255 161 (dk_at dksX5_pour_5 3 rfl rfl)
theorem dX5_pour_124 : decode cX5_pour 124 = .ok (.iload_n 2, 1) := dk_28 (dk_at dksX5_pour_5 6 rfl rfl)
theorem dX5_pour_125 : decode cX5_pour 125 = .ok (.ireturn, 1) := dk_172 (dk_at dksX5_pour_5 7 rfl rfl)
abbrev cX5_within : ByteArray := prog_18_method_4_code
def yX5_within : MethodName := ⟨RX5, "within", "(II)I"⟩
def dkwX5_within_0 : List UInt8 := [26, 156, 0, 7, 3, 167, 0, 13, 26, 27, 164, 0, 7, 27, 167, 0, 4, 26, 172]
abbrev dktX5_within_0 : List UInt8 := dkwX5_within_0 ++ []
theorem dksX5_within_0 : cX5_within.data.toList.drop 0 = dktX5_within_0 := by decide +kernel
theorem dX5_within_0 : decode cX5_within 0 = .ok (.iload_n 0, 1) := dk_26 (dk_at dksX5_within_0 0 rfl rfl)
theorem dX5_within_1 : decode cX5_within 1 = .ok (.ifCond .ge 7, 3) := dk_156 0 7 (dk_at dksX5_within_0 1 rfl rfl)
theorem dX5_within_4 : decode cX5_within 4 = .ok (.iconst 0, 1) := dk_3 (dk_at dksX5_within_0 4 rfl rfl)
theorem dX5_within_5 : decode cX5_within 5 = .ok (.goto 13, 3) := dk_167 0 13 (dk_at dksX5_within_0 5 rfl rfl)
theorem dX5_within_8 : decode cX5_within 8 = .ok (.iload_n 0, 1) := dk_26 (dk_at dksX5_within_0 8 rfl rfl)
theorem dX5_within_9 : decode cX5_within 9 = .ok (.iload_n 1, 1) := dk_27 (dk_at dksX5_within_0 9 rfl rfl)
theorem dX5_within_10 : decode cX5_within 10 = .ok (.if_icmp .le 7, 3) := dk_164 0 7 (dk_at dksX5_within_0 10 rfl rfl)
theorem dX5_within_13 : decode cX5_within 13 = .ok (.iload_n 1, 1) := dk_27 (dk_at dksX5_within_0 13 rfl rfl)
theorem dX5_within_14 : decode cX5_within 14 = .ok (.goto 4, 3) := dk_167 0 4 (dk_at dksX5_within_0 14 rfl rfl)
theorem dX5_within_17 : decode cX5_within 17 = .ok (.iload_n 0, 1) := dk_26 (dk_at dksX5_within_0 17 rfl rfl)
theorem dX5_within_18 : decode cX5_within 18 = .ok (.ireturn, 1) := dk_172 (dk_at dksX5_within_0 18 rfl rfl)
abbrev cX5_reads : ByteArray := prog_18_method_87_code
def yX5_reads : MethodName := ⟨RX5, "reads", "(I)I"⟩
def dkwX5_reads_3 : List UInt8 := [182, 0, 115, 159, 0, 5, 28, 172, 132, 2, 1, 167, 255, 200, 18, 67, 172]
abbrev dktX5_reads_3 : List UInt8 := dkwX5_reads_3 ++ []
def dkwX5_reads_2 : List UInt8 := [18, 67, 159, 0, 28, 28, 42, 180, 0, 7, 3, 46, 162, 0, 16, 29, 42, 28, 42, 182, 0, 111]
abbrev dktX5_reads_2 : List UInt8 := dkwX5_reads_2 ++ dktX5_reads_3
def dkwX5_reads_1 : List UInt8 := [28, 42, 180, 0, 22, 27, 46, 162, 0, 52, 42, 180, 0, 25, 16, 24, 27, 104, 28, 96, 46, 62, 29]
abbrev dktX5_reads_1 : List UInt8 := dkwX5_reads_1 ++ dktX5_reads_2
def dkwX5_reads_0 : List UInt8 := [27, 184, 0, 178, 154, 0, 6, 18, 83, 172, 42, 180, 0, 19, 27, 46, 156, 0, 6, 18, 181, 172, 3, 61]
abbrev dktX5_reads_0 : List UInt8 := dkwX5_reads_0 ++ dktX5_reads_1
theorem dksX5_reads_0 : cX5_reads.data.toList.drop 0 = dktX5_reads_0 := by decide +kernel
theorem dksX5_reads_1 : cX5_reads.data.toList.drop 24 = dktX5_reads_1 := dk_seg dksX5_reads_0 24 rfl rfl
theorem dksX5_reads_2 : cX5_reads.data.toList.drop 47 = dktX5_reads_2 := dk_seg dksX5_reads_1 23 rfl rfl
theorem dksX5_reads_3 : cX5_reads.data.toList.drop 69 = dktX5_reads_3 := dk_seg dksX5_reads_2 22 rfl rfl
theorem dX5_reads_0 : decode cX5_reads 0 = .ok (.iload_n 1, 1) := dk_27 (dk_at dksX5_reads_0 0 rfl rfl)
theorem dX5_reads_1 : decode cX5_reads 1 = .ok (.invokestatic 178, 3) := dk_184 0 178 (dk_at dksX5_reads_0 1 rfl rfl)
theorem dX5_reads_4 : decode cX5_reads 4 = .ok (.ifCond .ne 6, 3) := dk_154 0 6 (dk_at dksX5_reads_0 4 rfl rfl)
theorem dX5_reads_7 : decode cX5_reads 7 = .ok (.ldc 83, 2) := dk_18 83 (dk_at dksX5_reads_0 7 rfl rfl)
theorem dX5_reads_9 : decode cX5_reads 9 = .ok (.ireturn, 1) := dk_172 (dk_at dksX5_reads_0 9 rfl rfl)
theorem dX5_reads_10 : decode cX5_reads 10 = .ok (.aload_n 0, 1) := dk_42 (dk_at dksX5_reads_0 10 rfl rfl)
theorem dX5_reads_11 : decode cX5_reads 11 = .ok (.getfield 19, 3) := dk_180 0 19 (dk_at dksX5_reads_0 11 rfl rfl)
theorem dX5_reads_14 : decode cX5_reads 14 = .ok (.iload_n 1, 1) := dk_27 (dk_at dksX5_reads_0 14 rfl rfl)
theorem dX5_reads_15 : decode cX5_reads 15 = .ok (.iaload, 1) := dk_46 (dk_at dksX5_reads_0 15 rfl rfl)
theorem dX5_reads_16 : decode cX5_reads 16 = .ok (.ifCond .ge 6, 3) := dk_156 0 6 (dk_at dksX5_reads_0 16 rfl rfl)
theorem dX5_reads_19 : decode cX5_reads 19 = .ok (.ldc 181, 2) := dk_18 181 (dk_at dksX5_reads_0 19 rfl rfl)
theorem dX5_reads_21 : decode cX5_reads 21 = .ok (.ireturn, 1) := dk_172 (dk_at dksX5_reads_0 21 rfl rfl)
theorem dX5_reads_22 : decode cX5_reads 22 = .ok (.iconst 0, 1) := dk_3 (dk_at dksX5_reads_0 22 rfl rfl)
theorem dX5_reads_23 : decode cX5_reads 23 = .ok (.istore_n 2, 1) := dk_61 (dk_at dksX5_reads_0 23 rfl rfl)
theorem dX5_reads_24 : decode cX5_reads 24 = .ok (.iload_n 2, 1) := dk_28 (dk_at dksX5_reads_1 0 rfl rfl)
theorem dX5_reads_25 : decode cX5_reads 25 = .ok (.aload_n 0, 1) := dk_42 (dk_at dksX5_reads_1 1 rfl rfl)
theorem dX5_reads_26 : decode cX5_reads 26 = .ok (.getfield 22, 3) := dk_180 0 22 (dk_at dksX5_reads_1 2 rfl rfl)
theorem dX5_reads_29 : decode cX5_reads 29 = .ok (.iload_n 1, 1) := dk_27 (dk_at dksX5_reads_1 5 rfl rfl)
theorem dX5_reads_30 : decode cX5_reads 30 = .ok (.iaload, 1) := dk_46 (dk_at dksX5_reads_1 6 rfl rfl)
theorem dX5_reads_31 : decode cX5_reads 31 = .ok (.if_icmp .ge 52, 3) := dk_162 0 52 (dk_at dksX5_reads_1 7 rfl rfl)
theorem dX5_reads_34 : decode cX5_reads 34 = .ok (.aload_n 0, 1) := dk_42 (dk_at dksX5_reads_1 10 rfl rfl)
theorem dX5_reads_35 : decode cX5_reads 35 = .ok (.getfield 25, 3) := dk_180 0 25 (dk_at dksX5_reads_1 11 rfl rfl)
theorem dX5_reads_38 : decode cX5_reads 38 = .ok (.bipush 24, 2) := dk_16 24 (dk_at dksX5_reads_1 14 rfl rfl)
theorem dX5_reads_40 : decode cX5_reads 40 = .ok (.iload_n 1, 1) := dk_27 (dk_at dksX5_reads_1 16 rfl rfl)
theorem dX5_reads_41 : decode cX5_reads 41 = .ok (.imul, 1) := dk_104 (dk_at dksX5_reads_1 17 rfl rfl)
theorem dX5_reads_42 : decode cX5_reads 42 = .ok (.iload_n 2, 1) := dk_28 (dk_at dksX5_reads_1 18 rfl rfl)
theorem dX5_reads_43 : decode cX5_reads 43 = .ok (.iadd, 1) := dk_96 (dk_at dksX5_reads_1 19 rfl rfl)
theorem dX5_reads_44 : decode cX5_reads 44 = .ok (.iaload, 1) := dk_46 (dk_at dksX5_reads_1 20 rfl rfl)
theorem dX5_reads_45 : decode cX5_reads 45 = .ok (.istore_n 3, 1) := dk_62 (dk_at dksX5_reads_1 21 rfl rfl)
theorem dX5_reads_46 : decode cX5_reads 46 = .ok (.iload_n 3, 1) := dk_29 (dk_at dksX5_reads_1 22 rfl rfl)
theorem dX5_reads_47 : decode cX5_reads 47 = .ok (.ldc 67, 2) := dk_18 67 (dk_at dksX5_reads_2 0 rfl rfl)
theorem dX5_reads_49 : decode cX5_reads 49 = .ok (.if_icmp .eq 28, 3) := dk_159 0 28 (dk_at dksX5_reads_2 2 rfl rfl)
theorem dX5_reads_52 : decode cX5_reads 52 = .ok (.iload_n 2, 1) := dk_28 (dk_at dksX5_reads_2 5 rfl rfl)
theorem dX5_reads_53 : decode cX5_reads 53 = .ok (.aload_n 0, 1) := dk_42 (dk_at dksX5_reads_2 6 rfl rfl)
theorem dX5_reads_54 : decode cX5_reads 54 = .ok (.getfield 7, 3) := dk_180 0 7 (dk_at dksX5_reads_2 7 rfl rfl)
theorem dX5_reads_57 : decode cX5_reads 57 = .ok (.iconst 0, 1) := dk_3 (dk_at dksX5_reads_2 10 rfl rfl)
theorem dX5_reads_58 : decode cX5_reads 58 = .ok (.iaload, 1) := dk_46 (dk_at dksX5_reads_2 11 rfl rfl)
theorem dX5_reads_59 : decode cX5_reads 59 = .ok (.if_icmp .ge 16, 3) := dk_162 0 16 (dk_at dksX5_reads_2 12 rfl rfl)
theorem dX5_reads_62 : decode cX5_reads 62 = .ok (.iload_n 3, 1) := dk_29 (dk_at dksX5_reads_2 15 rfl rfl)
theorem dX5_reads_63 : decode cX5_reads 63 = .ok (.aload_n 0, 1) := dk_42 (dk_at dksX5_reads_2 16 rfl rfl)
theorem dX5_reads_64 : decode cX5_reads 64 = .ok (.iload_n 2, 1) := dk_28 (dk_at dksX5_reads_2 17 rfl rfl)
theorem dX5_reads_65 : decode cX5_reads 65 = .ok (.aload_n 0, 1) := dk_42 (dk_at dksX5_reads_2 18 rfl rfl)
theorem dX5_reads_66 : decode cX5_reads 66 = .ok (.invokevirtual 111, 3) := dk_182 0 111 (dk_at dksX5_reads_2 19 rfl rfl)
theorem dX5_reads_69 : decode cX5_reads 69 = .ok (.invokevirtual 115, 3) := dk_182 0 115 (dk_at dksX5_reads_3 0 rfl rfl)
theorem dX5_reads_72 : decode cX5_reads 72 = .ok (.if_icmp .eq 5, 3) := dk_159 0 5 (dk_at dksX5_reads_3 3 rfl rfl)
theorem dX5_reads_75 : decode cX5_reads 75 = .ok (.iload_n 2, 1) := dk_28 (dk_at dksX5_reads_3 6 rfl rfl)
theorem dX5_reads_76 : decode cX5_reads 76 = .ok (.ireturn, 1) := dk_172 (dk_at dksX5_reads_3 7 rfl rfl)
theorem dX5_reads_77 : decode cX5_reads 77 = .ok (.iinc 2 1, 3) := dk_132 2 1 (dk_at dksX5_reads_3 8 rfl rfl)
theorem dX5_reads_80 : decode cX5_reads 80 = .ok (.goto (-56), 3) := dk_167 255 200 (dk_at dksX5_reads_3 11 rfl rfl)
theorem dX5_reads_83 : decode cX5_reads 83 = .ok (.ldc 67, 2) := dk_18 67 (dk_at dksX5_reads_3 14 rfl rfl)
theorem dX5_reads_85 : decode cX5_reads 85 = .ok (.ireturn, 1) := dk_172 (dk_at dksX5_reads_3 16 rfl rfl)
abbrev cX5_copy : ByteArray := prog_18_method_88_code
def yX5_copy : MethodName := ⟨RX5, "copy", "(IIIII)I"⟩
def dkwX5_copy_8 : List UInt8 := [172]
abbrev dktX5_copy_8 : List UInt8 := dkwX5_copy_8 ++ []
def dkwX5_copy_7 : List UInt8 := [29, 104, 21, 4, 96, 21, 6, 96, 42, 180, 0, 58, 21, 6, 46, 79, 132, 6, 1, 167, 255, 224, 21, 5]
abbrev dktX5_copy_7 : List UInt8 := dkwX5_copy_7 ++ dktX5_copy_8
def dkwX5_copy_6 : List UInt8 := [46, 79, 132, 6, 1, 167, 255, 225, 3, 54, 6, 21, 6, 21, 5, 162, 0, 31, 42, 180, 0, 25, 16, 24]
abbrev dktX5_copy_6 : List UInt8 := dkwX5_copy_6 ++ dktX5_copy_7
def dkwX5_copy_5 : List UInt8 := [21, 5, 162, 0, 30, 42, 180, 0, 58, 21, 6, 42, 180, 0, 25, 16, 24, 27, 104, 28, 96, 21, 6, 96]
abbrev dktX5_copy_5 : List UInt8 := dkwX5_copy_5 ++ dktX5_copy_6
def dkwX5_copy_4 : List UInt8 := [21, 5, 133, 97, 42, 180, 0, 22, 29, 46, 133, 148, 158, 0, 7, 19, 1, 43, 172, 3, 54, 6, 21, 6]
abbrev dktX5_copy_4 : List UInt8 := dkwX5_copy_4 ++ dktX5_copy_5
def dkwX5_copy_3 : List UInt8 := [155, 0, 38, 28, 133, 21, 5, 133, 97, 42, 180, 0, 22, 27, 46, 133, 148, 157, 0, 21, 21, 4, 133]
abbrev dktX5_copy_3 : List UInt8 := dkwX5_copy_3 ++ dktX5_copy_4
def dkwX5_copy_2 : List UInt8 := [180, 0, 19, 29, 46, 159, 0, 6, 18, 125, 172, 28, 155, 0, 48, 21, 4, 155, 0, 43, 21, 5]
abbrev dktX5_copy_2 : List UInt8 := dkwX5_copy_2 ++ dktX5_copy_3
def dkwX5_copy_1 : List UInt8 := [155, 0, 12, 42, 180, 0, 19, 29, 46, 156, 0, 6, 18, 181, 172, 42, 180, 0, 19, 27, 46, 42]
abbrev dktX5_copy_1 : List UInt8 := dkwX5_copy_1 ++ dktX5_copy_2
def dkwX5_copy_0 : List UInt8 := [27, 184, 0, 178, 153, 0, 10, 29, 184, 0, 178, 154, 0, 6, 18, 83, 172, 42, 180, 0, 19, 27, 46]
abbrev dktX5_copy_0 : List UInt8 := dkwX5_copy_0 ++ dktX5_copy_1
theorem dksX5_copy_0 : cX5_copy.data.toList.drop 0 = dktX5_copy_0 := by decide +kernel
theorem dksX5_copy_1 : cX5_copy.data.toList.drop 23 = dktX5_copy_1 := dk_seg dksX5_copy_0 23 rfl rfl
theorem dksX5_copy_2 : cX5_copy.data.toList.drop 45 = dktX5_copy_2 := dk_seg dksX5_copy_1 22 rfl rfl
theorem dksX5_copy_3 : cX5_copy.data.toList.drop 67 = dktX5_copy_3 := dk_seg dksX5_copy_2 22 rfl rfl
theorem dksX5_copy_4 : cX5_copy.data.toList.drop 90 = dktX5_copy_4 := dk_seg dksX5_copy_3 23 rfl rfl
theorem dksX5_copy_5 : cX5_copy.data.toList.drop 114 = dktX5_copy_5 := dk_seg dksX5_copy_4 24 rfl rfl
theorem dksX5_copy_6 : cX5_copy.data.toList.drop 138 = dktX5_copy_6 := dk_seg dksX5_copy_5 24 rfl rfl
theorem dksX5_copy_7 : cX5_copy.data.toList.drop 162 = dktX5_copy_7 := dk_seg dksX5_copy_6 24 rfl rfl
theorem dksX5_copy_8 : cX5_copy.data.toList.drop 186 = dktX5_copy_8 := dk_seg dksX5_copy_7 24 rfl rfl
theorem dX5_copy_0 : decode cX5_copy 0 = .ok (.iload_n 1, 1) := dk_27 (dk_at dksX5_copy_0 0 rfl rfl)
theorem dX5_copy_1 : decode cX5_copy 1 = .ok (.invokestatic 178, 3) := dk_184 0 178 (dk_at dksX5_copy_0 1 rfl rfl)
theorem dX5_copy_4 : decode cX5_copy 4 = .ok (.ifCond .eq 10, 3) := dk_153 0 10 (dk_at dksX5_copy_0 4 rfl rfl)
theorem dX5_copy_7 : decode cX5_copy 7 = .ok (.iload_n 3, 1) := dk_29 (dk_at dksX5_copy_0 7 rfl rfl)
theorem dX5_copy_8 : decode cX5_copy 8 = .ok (.invokestatic 178, 3) := dk_184 0 178 (dk_at dksX5_copy_0 8 rfl rfl)
theorem dX5_copy_11 : decode cX5_copy 11 = .ok (.ifCond .ne 6, 3) := dk_154 0 6 (dk_at dksX5_copy_0 11 rfl rfl)
theorem dX5_copy_14 : decode cX5_copy 14 = .ok (.ldc 83, 2) := dk_18 83 (dk_at dksX5_copy_0 14 rfl rfl)
theorem dX5_copy_16 : decode cX5_copy 16 = .ok (.ireturn, 1) := dk_172 (dk_at dksX5_copy_0 16 rfl rfl)
theorem dX5_copy_17 : decode cX5_copy 17 = .ok (.aload_n 0, 1) := dk_42 (dk_at dksX5_copy_0 17 rfl rfl)
theorem dX5_copy_18 : decode cX5_copy 18 = .ok (.getfield 19, 3) := dk_180 0 19 (dk_at dksX5_copy_0 18 rfl rfl)
theorem dX5_copy_21 : decode cX5_copy 21 = .ok (.iload_n 1, 1) := dk_27 (dk_at dksX5_copy_0 21 rfl rfl)
theorem dX5_copy_22 : decode cX5_copy 22 = .ok (.iaload, 1) := dk_46 (dk_at dksX5_copy_0 22 rfl rfl)
theorem dX5_copy_23 : decode cX5_copy 23 = .ok (.ifCond .lt 12, 3) := dk_155 0 12 (dk_at dksX5_copy_1 0 rfl rfl)
theorem dX5_copy_26 : decode cX5_copy 26 = .ok (.aload_n 0, 1) := dk_42 (dk_at dksX5_copy_1 3 rfl rfl)
theorem dX5_copy_27 : decode cX5_copy 27 = .ok (.getfield 19, 3) := dk_180 0 19 (dk_at dksX5_copy_1 4 rfl rfl)
theorem dX5_copy_30 : decode cX5_copy 30 = .ok (.iload_n 3, 1) := dk_29 (dk_at dksX5_copy_1 7 rfl rfl)
theorem dX5_copy_31 : decode cX5_copy 31 = .ok (.iaload, 1) := dk_46 (dk_at dksX5_copy_1 8 rfl rfl)
theorem dX5_copy_32 : decode cX5_copy 32 = .ok (.ifCond .ge 6, 3) := dk_156 0 6 (dk_at dksX5_copy_1 9 rfl rfl)
theorem dX5_copy_35 : decode cX5_copy 35 = .ok (.ldc 181, 2) := dk_18 181 (dk_at dksX5_copy_1 12 rfl rfl)
theorem dX5_copy_37 : decode cX5_copy 37 = .ok (.ireturn, 1) := dk_172 (dk_at dksX5_copy_1 14 rfl rfl)
theorem dX5_copy_38 : decode cX5_copy 38 = .ok (.aload_n 0, 1) := dk_42 (dk_at dksX5_copy_1 15 rfl rfl)
theorem dX5_copy_39 : decode cX5_copy 39 = .ok (.getfield 19, 3) := dk_180 0 19 (dk_at dksX5_copy_1 16 rfl rfl)
theorem dX5_copy_42 : decode cX5_copy 42 = .ok (.iload_n 1, 1) := dk_27 (dk_at dksX5_copy_1 19 rfl rfl)
theorem dX5_copy_43 : decode cX5_copy 43 = .ok (.iaload, 1) := dk_46 (dk_at dksX5_copy_1 20 rfl rfl)
theorem dX5_copy_44 : decode cX5_copy 44 = .ok (.aload_n 0, 1) := dk_42 (dk_at dksX5_copy_1 21 rfl rfl)
theorem dX5_copy_45 : decode cX5_copy 45 = .ok (.getfield 19, 3) := dk_180 0 19 (dk_at dksX5_copy_2 0 rfl rfl)
theorem dX5_copy_48 : decode cX5_copy 48 = .ok (.iload_n 3, 1) := dk_29 (dk_at dksX5_copy_2 3 rfl rfl)
theorem dX5_copy_49 : decode cX5_copy 49 = .ok (.iaload, 1) := dk_46 (dk_at dksX5_copy_2 4 rfl rfl)
theorem dX5_copy_50 : decode cX5_copy 50 = .ok (.if_icmp .eq 6, 3) := dk_159 0 6 (dk_at dksX5_copy_2 5 rfl rfl)
theorem dX5_copy_53 : decode cX5_copy 53 = .ok (.ldc 125, 2) := dk_18 125 (dk_at dksX5_copy_2 8 rfl rfl)
theorem dX5_copy_55 : decode cX5_copy 55 = .ok (.ireturn, 1) := dk_172 (dk_at dksX5_copy_2 10 rfl rfl)
theorem dX5_copy_56 : decode cX5_copy 56 = .ok (.iload_n 2, 1) := dk_28 (dk_at dksX5_copy_2 11 rfl rfl)
theorem dX5_copy_57 : decode cX5_copy 57 = .ok (.ifCond .lt 48, 3) := dk_155 0 48 (dk_at dksX5_copy_2 12 rfl rfl)
theorem dX5_copy_60 : decode cX5_copy 60 = .ok (.iload 4, 2) := dk_21 4 (dk_at dksX5_copy_2 15 rfl rfl)
theorem dX5_copy_62 : decode cX5_copy 62 = .ok (.ifCond .lt 43, 3) := dk_155 0 43 (dk_at dksX5_copy_2 17 rfl rfl)
theorem dX5_copy_65 : decode cX5_copy 65 = .ok (.iload 5, 2) := dk_21 5 (dk_at dksX5_copy_2 20 rfl rfl)
theorem dX5_copy_67 : decode cX5_copy 67 = .ok (.ifCond .lt 38, 3) := dk_155 0 38 (dk_at dksX5_copy_3 0 rfl rfl)
theorem dX5_copy_70 : decode cX5_copy 70 = .ok (.iload_n 2, 1) := dk_28 (dk_at dksX5_copy_3 3 rfl rfl)
theorem dX5_copy_71 : decode cX5_copy 71 = .ok (.i2l, 1) := dk_133 (dk_at dksX5_copy_3 4 rfl rfl)
theorem dX5_copy_72 : decode cX5_copy 72 = .ok (.iload 5, 2) := dk_21 5 (dk_at dksX5_copy_3 5 rfl rfl)
theorem dX5_copy_74 : decode cX5_copy 74 = .ok (.i2l, 1) := dk_133 (dk_at dksX5_copy_3 7 rfl rfl)
theorem dX5_copy_75 : decode cX5_copy 75 = .ok (.ladd, 1) := dk_97 (dk_at dksX5_copy_3 8 rfl rfl)
theorem dX5_copy_76 : decode cX5_copy 76 = .ok (.aload_n 0, 1) := dk_42 (dk_at dksX5_copy_3 9 rfl rfl)
theorem dX5_copy_77 : decode cX5_copy 77 = .ok (.getfield 22, 3) := dk_180 0 22 (dk_at dksX5_copy_3 10 rfl rfl)
theorem dX5_copy_80 : decode cX5_copy 80 = .ok (.iload_n 1, 1) := dk_27 (dk_at dksX5_copy_3 13 rfl rfl)
theorem dX5_copy_81 : decode cX5_copy 81 = .ok (.iaload, 1) := dk_46 (dk_at dksX5_copy_3 14 rfl rfl)
theorem dX5_copy_82 : decode cX5_copy 82 = .ok (.i2l, 1) := dk_133 (dk_at dksX5_copy_3 15 rfl rfl)
theorem dX5_copy_83 : decode cX5_copy 83 = .ok (.lcmp, 1) := dk_148 (dk_at dksX5_copy_3 16 rfl rfl)
theorem dX5_copy_84 : decode cX5_copy 84 = .ok (.ifCond .gt 21, 3) := dk_157 0 21 (dk_at dksX5_copy_3 17 rfl rfl)
theorem dX5_copy_87 : decode cX5_copy 87 = .ok (.iload 4, 2) := dk_21 4 (dk_at dksX5_copy_3 20 rfl rfl)
theorem dX5_copy_89 : decode cX5_copy 89 = .ok (.i2l, 1) := dk_133 (dk_at dksX5_copy_3 22 rfl rfl)
theorem dX5_copy_90 : decode cX5_copy 90 = .ok (.iload 5, 2) := dk_21 5 (dk_at dksX5_copy_4 0 rfl rfl)
theorem dX5_copy_92 : decode cX5_copy 92 = .ok (.i2l, 1) := dk_133 (dk_at dksX5_copy_4 2 rfl rfl)
theorem dX5_copy_93 : decode cX5_copy 93 = .ok (.ladd, 1) := dk_97 (dk_at dksX5_copy_4 3 rfl rfl)
theorem dX5_copy_94 : decode cX5_copy 94 = .ok (.aload_n 0, 1) := dk_42 (dk_at dksX5_copy_4 4 rfl rfl)
theorem dX5_copy_95 : decode cX5_copy 95 = .ok (.getfield 22, 3) := dk_180 0 22 (dk_at dksX5_copy_4 5 rfl rfl)
theorem dX5_copy_98 : decode cX5_copy 98 = .ok (.iload_n 3, 1) := dk_29 (dk_at dksX5_copy_4 8 rfl rfl)
theorem dX5_copy_99 : decode cX5_copy 99 = .ok (.iaload, 1) := dk_46 (dk_at dksX5_copy_4 9 rfl rfl)
theorem dX5_copy_100 : decode cX5_copy 100 = .ok (.i2l, 1) := dk_133 (dk_at dksX5_copy_4 10 rfl rfl)
theorem dX5_copy_101 : decode cX5_copy 101 = .ok (.lcmp, 1) := dk_148 (dk_at dksX5_copy_4 11 rfl rfl)
theorem dX5_copy_102 : decode cX5_copy 102 = .ok (.ifCond .le 7, 3) := dk_158 0 7 (dk_at dksX5_copy_4 12 rfl rfl)
theorem dX5_copy_105 : decode cX5_copy 105 = .ok (.ldc_w 299, 3) := dk_19 1 43 (dk_at dksX5_copy_4 15 rfl rfl)
theorem dX5_copy_108 : decode cX5_copy 108 = .ok (.ireturn, 1) := dk_172 (dk_at dksX5_copy_4 18 rfl rfl)
theorem dX5_copy_109 : decode cX5_copy 109 = .ok (.iconst 0, 1) := dk_3 (dk_at dksX5_copy_4 19 rfl rfl)
theorem dX5_copy_110 : decode cX5_copy 110 = .ok (.istore 6, 2) := dk_54 6 (dk_at dksX5_copy_4 20 rfl rfl)
theorem dX5_copy_112 : decode cX5_copy 112 = .ok (.iload 6, 2) := dk_21 6 (dk_at dksX5_copy_4 22 rfl rfl)
theorem dX5_copy_114 : decode cX5_copy 114 = .ok (.iload 5, 2) := dk_21 5 (dk_at dksX5_copy_5 0 rfl rfl)
theorem dX5_copy_116 : decode cX5_copy 116 = .ok (.if_icmp .ge 30, 3) := dk_162 0 30 (dk_at dksX5_copy_5 2 rfl rfl)
theorem dX5_copy_119 : decode cX5_copy 119 = .ok (.aload_n 0, 1) := dk_42 (dk_at dksX5_copy_5 5 rfl rfl)
theorem dX5_copy_120 : decode cX5_copy 120 = .ok (.getfield 58, 3) := dk_180 0 58 (dk_at dksX5_copy_5 6 rfl rfl)
theorem dX5_copy_123 : decode cX5_copy 123 = .ok (.iload 6, 2) := dk_21 6 (dk_at dksX5_copy_5 9 rfl rfl)
theorem dX5_copy_125 : decode cX5_copy 125 = .ok (.aload_n 0, 1) := dk_42 (dk_at dksX5_copy_5 11 rfl rfl)
theorem dX5_copy_126 : decode cX5_copy 126 = .ok (.getfield 25, 3) := dk_180 0 25 (dk_at dksX5_copy_5 12 rfl rfl)
theorem dX5_copy_129 : decode cX5_copy 129 = .ok (.bipush 24, 2) := dk_16 24 (dk_at dksX5_copy_5 15 rfl rfl)
theorem dX5_copy_131 : decode cX5_copy 131 = .ok (.iload_n 1, 1) := dk_27 (dk_at dksX5_copy_5 17 rfl rfl)
theorem dX5_copy_132 : decode cX5_copy 132 = .ok (.imul, 1) := dk_104 (dk_at dksX5_copy_5 18 rfl rfl)
theorem dX5_copy_133 : decode cX5_copy 133 = .ok (.iload_n 2, 1) := dk_28 (dk_at dksX5_copy_5 19 rfl rfl)
theorem dX5_copy_134 : decode cX5_copy 134 = .ok (.iadd, 1) := dk_96 (dk_at dksX5_copy_5 20 rfl rfl)
theorem dX5_copy_135 : decode cX5_copy 135 = .ok (.iload 6, 2) := dk_21 6 (dk_at dksX5_copy_5 21 rfl rfl)
theorem dX5_copy_137 : decode cX5_copy 137 = .ok (.iadd, 1) := dk_96 (dk_at dksX5_copy_5 23 rfl rfl)
theorem dX5_copy_138 : decode cX5_copy 138 = .ok (.iaload, 1) := dk_46 (dk_at dksX5_copy_6 0 rfl rfl)
theorem dX5_copy_139 : decode cX5_copy 139 = .ok (.iastore, 1) := dk_79 (dk_at dksX5_copy_6 1 rfl rfl)
theorem dX5_copy_140 : decode cX5_copy 140 = .ok (.iinc 6 1, 3) := dk_132 6 1 (dk_at dksX5_copy_6 2 rfl rfl)
theorem dX5_copy_143 : decode cX5_copy 143 = .ok (.goto (-31), 3) := dk_167 255 225 (dk_at dksX5_copy_6 5 rfl rfl)
theorem dX5_copy_146 : decode cX5_copy 146 = .ok (.iconst 0, 1) := dk_3 (dk_at dksX5_copy_6 8 rfl rfl)
theorem dX5_copy_147 : decode cX5_copy 147 = .ok (.istore 6, 2) := dk_54 6 (dk_at dksX5_copy_6 9 rfl rfl)
theorem dX5_copy_149 : decode cX5_copy 149 = .ok (.iload 6, 2) := dk_21 6 (dk_at dksX5_copy_6 11 rfl rfl)
theorem dX5_copy_151 : decode cX5_copy 151 = .ok (.iload 5, 2) := dk_21 5 (dk_at dksX5_copy_6 13 rfl rfl)
theorem dX5_copy_153 : decode cX5_copy 153 = .ok (.if_icmp .ge 31, 3) := dk_162 0 31 (dk_at dksX5_copy_6 15 rfl rfl)
theorem dX5_copy_156 : decode cX5_copy 156 = .ok (.aload_n 0, 1) := dk_42 (dk_at dksX5_copy_6 18 rfl rfl)
theorem dX5_copy_157 : decode cX5_copy 157 = .ok (.getfield 25, 3) := dk_180 0 25 (dk_at dksX5_copy_6 19 rfl rfl)
theorem dX5_copy_160 : decode cX5_copy 160 = .ok (.bipush 24, 2) := dk_16 24 (dk_at dksX5_copy_6 22 rfl rfl)
theorem dX5_copy_162 : decode cX5_copy 162 = .ok (.iload_n 3, 1) := dk_29 (dk_at dksX5_copy_7 0 rfl rfl)
theorem dX5_copy_163 : decode cX5_copy 163 = .ok (.imul, 1) := dk_104 (dk_at dksX5_copy_7 1 rfl rfl)
theorem dX5_copy_164 : decode cX5_copy 164 = .ok (.iload 4, 2) := dk_21 4 (dk_at dksX5_copy_7 2 rfl rfl)
theorem dX5_copy_166 : decode cX5_copy 166 = .ok (.iadd, 1) := dk_96 (dk_at dksX5_copy_7 4 rfl rfl)
theorem dX5_copy_167 : decode cX5_copy 167 = .ok (.iload 6, 2) := dk_21 6 (dk_at dksX5_copy_7 5 rfl rfl)
theorem dX5_copy_169 : decode cX5_copy 169 = .ok (.iadd, 1) := dk_96 (dk_at dksX5_copy_7 7 rfl rfl)
theorem dX5_copy_170 : decode cX5_copy 170 = .ok (.aload_n 0, 1) := dk_42 (dk_at dksX5_copy_7 8 rfl rfl)
theorem dX5_copy_171 : decode cX5_copy 171 = .ok (.getfield 58, 3) := dk_180 0 58 (dk_at dksX5_copy_7 9 rfl rfl)
theorem dX5_copy_174 : decode cX5_copy 174 = .ok (.iload 6, 2) := dk_21 6 (dk_at dksX5_copy_7 12 rfl rfl)
theorem dX5_copy_176 : decode cX5_copy 176 = .ok (.iaload, 1) := dk_46 (dk_at dksX5_copy_7 14 rfl rfl)
theorem dX5_copy_177 : decode cX5_copy 177 = .ok (.iastore, 1) := dk_79 (dk_at dksX5_copy_7 15 rfl rfl)
theorem dX5_copy_178 : decode cX5_copy 178 = .ok (.iinc 6 1, 3) := dk_132 6 1 (dk_at dksX5_copy_7 16 rfl rfl)
theorem dX5_copy_181 : decode cX5_copy 181 = .ok (.goto (-32), 3) := dk_167 255 224 (dk_at dksX5_copy_7 19 rfl rfl)
theorem dX5_copy_184 : decode cX5_copy 184 = .ok (.iload 5, 2) := dk_21 5 (dk_at dksX5_copy_7 22 rfl rfl)
theorem dX5_copy_186 : decode cX5_copy 186 = .ok (.ireturn, 1) := dk_172 (dk_at dksX5_copy_8 0 rfl rfl)
abbrev cX5_lay : ByteArray := prog_18_method_90_code
def yX5_lay : MethodName := ⟨RX5, "lay", "(III)I"⟩
def dkwX5_lay_7 : List UInt8 := [42, 180, 0, 25, 16, 24, 29, 104, 21, 6, 96, 46, 79, 132, 6, 1, 167, 255, 222, 21, 5, 172]
abbrev dktX5_lay_7 : List UInt8 := dkwX5_lay_7 ++ []
def dkwX5_lay_6 : List UInt8 := [29, 46, 79, 3, 54, 6, 21, 6, 16, 24, 162, 0, 33, 42, 180, 0, 40, 16, 24, 27, 104, 21, 6, 96]
abbrev dktX5_lay_6 : List UInt8 := dkwX5_lay_6 ++ dktX5_lay_7
def dkwX5_lay_5 : List UInt8 := [42, 29, 182, 0, 118, 167, 0, 4, 3, 79, 28, 5, 160, 0, 55, 42, 180, 0, 37, 27, 42, 180, 0, 22]
abbrev dktX5_lay_5 : List UInt8 := dkwX5_lay_5 ++ dktX5_lay_6
def dkwX5_lay_4 : List UInt8 := [160, 0, 12, 42, 29, 3, 182, 0, 88, 167, 0, 4, 29, 79, 42, 180, 0, 34, 27, 28, 4, 160, 0, 11]
abbrev dktX5_lay_4 : List UInt8 := dkwX5_lay_4 ++ dktX5_lay_5
def dkwX5_lay_3 : List UInt8 := [172, 42, 180, 0, 28, 27, 46, 54, 5, 42, 180, 0, 28, 27, 28, 79, 42, 180, 0, 31, 27, 28, 4]
abbrev dktX5_lay_3 : List UInt8 := dkwX5_lay_3 ++ dktX5_lay_4
def dkwX5_lay_2 : List UInt8 := [21, 4, 154, 0, 6, 18, 83, 172, 28, 5, 160, 0, 15, 42, 180, 0, 19, 29, 46, 156, 0, 6, 18, 181]
abbrev dktX5_lay_2 : List UInt8 := dkwX5_lay_2 ++ dktX5_lay_3
def dkwX5_lay_1 : List UInt8 := [160, 0, 14, 29, 184, 0, 178, 153, 0, 7, 4, 167, 0, 4, 3, 54, 4, 27, 184, 1, 53, 153, 0, 8]
abbrev dktX5_lay_1 : List UInt8 := dkwX5_lay_1 ++ dktX5_lay_2
def dkwX5_lay_0 : List UInt8 := [28, 153, 0, 33, 28, 6, 159, 0, 28, 28, 4, 160, 0, 11, 42, 29, 182, 0, 107, 154, 0, 15, 28, 5]
abbrev dktX5_lay_0 : List UInt8 := dkwX5_lay_0 ++ dktX5_lay_1
theorem dksX5_lay_0 : cX5_lay.data.toList.drop 0 = dktX5_lay_0 := by decide +kernel
theorem dksX5_lay_1 : cX5_lay.data.toList.drop 24 = dktX5_lay_1 := dk_seg dksX5_lay_0 24 rfl rfl
theorem dksX5_lay_2 : cX5_lay.data.toList.drop 48 = dktX5_lay_2 := dk_seg dksX5_lay_1 24 rfl rfl
theorem dksX5_lay_3 : cX5_lay.data.toList.drop 72 = dktX5_lay_3 := dk_seg dksX5_lay_2 24 rfl rfl
theorem dksX5_lay_4 : cX5_lay.data.toList.drop 95 = dktX5_lay_4 := dk_seg dksX5_lay_3 23 rfl rfl
theorem dksX5_lay_5 : cX5_lay.data.toList.drop 119 = dktX5_lay_5 := dk_seg dksX5_lay_4 24 rfl rfl
theorem dksX5_lay_6 : cX5_lay.data.toList.drop 143 = dktX5_lay_6 := dk_seg dksX5_lay_5 24 rfl rfl
theorem dksX5_lay_7 : cX5_lay.data.toList.drop 167 = dktX5_lay_7 := dk_seg dksX5_lay_6 24 rfl rfl
theorem dX5_lay_0 : decode cX5_lay 0 = .ok (.iload_n 2, 1) := dk_28 (dk_at dksX5_lay_0 0 rfl rfl)
theorem dX5_lay_1 : decode cX5_lay 1 = .ok (.ifCond .eq 33, 3) := dk_153 0 33 (dk_at dksX5_lay_0 1 rfl rfl)
theorem dX5_lay_4 : decode cX5_lay 4 = .ok (.iload_n 2, 1) := dk_28 (dk_at dksX5_lay_0 4 rfl rfl)
theorem dX5_lay_5 : decode cX5_lay 5 = .ok (.iconst 3, 1) := dk_6 (dk_at dksX5_lay_0 5 rfl rfl)
theorem dX5_lay_6 : decode cX5_lay 6 = .ok (.if_icmp .eq 28, 3) := dk_159 0 28 (dk_at dksX5_lay_0 6 rfl rfl)
theorem dX5_lay_9 : decode cX5_lay 9 = .ok (.iload_n 2, 1) := dk_28 (dk_at dksX5_lay_0 9 rfl rfl)
theorem dX5_lay_10 : decode cX5_lay 10 = .ok (.iconst 1, 1) := dk_4 (dk_at dksX5_lay_0 10 rfl rfl)
theorem dX5_lay_11 : decode cX5_lay 11 = .ok (.if_icmp .ne 11, 3) := dk_160 0 11 (dk_at dksX5_lay_0 11 rfl rfl)
theorem dX5_lay_14 : decode cX5_lay 14 = .ok (.aload_n 0, 1) := dk_42 (dk_at dksX5_lay_0 14 rfl rfl)
theorem dX5_lay_15 : decode cX5_lay 15 = .ok (.iload_n 3, 1) := dk_29 (dk_at dksX5_lay_0 15 rfl rfl)
theorem dX5_lay_16 : decode cX5_lay 16 = .ok (.invokevirtual 107, 3) := dk_182 0 107 (dk_at dksX5_lay_0 16 rfl rfl)
theorem dX5_lay_19 : decode cX5_lay 19 = .ok (.ifCond .ne 15, 3) := dk_154 0 15 (dk_at dksX5_lay_0 19 rfl rfl)
theorem dX5_lay_22 : decode cX5_lay 22 = .ok (.iload_n 2, 1) := dk_28 (dk_at dksX5_lay_0 22 rfl rfl)
theorem dX5_lay_23 : decode cX5_lay 23 = .ok (.iconst 2, 1) := dk_5 (dk_at dksX5_lay_0 23 rfl rfl)
theorem dX5_lay_24 : decode cX5_lay 24 = .ok (.if_icmp .ne 14, 3) := dk_160 0 14 (dk_at dksX5_lay_1 0 rfl rfl)
theorem dX5_lay_27 : decode cX5_lay 27 = .ok (.iload_n 3, 1) := dk_29 (dk_at dksX5_lay_1 3 rfl rfl)
theorem dX5_lay_28 : decode cX5_lay 28 = .ok (.invokestatic 178, 3) := dk_184 0 178 (dk_at dksX5_lay_1 4 rfl rfl)
theorem dX5_lay_31 : decode cX5_lay 31 = .ok (.ifCond .eq 7, 3) := dk_153 0 7 (dk_at dksX5_lay_1 7 rfl rfl)
theorem dX5_lay_34 : decode cX5_lay 34 = .ok (.iconst 1, 1) := dk_4 (dk_at dksX5_lay_1 10 rfl rfl)
theorem dX5_lay_35 : decode cX5_lay 35 = .ok (.goto 4, 3) := dk_167 0 4 (dk_at dksX5_lay_1 11 rfl rfl)
theorem dX5_lay_38 : decode cX5_lay 38 = .ok (.iconst 0, 1) := dk_3 (dk_at dksX5_lay_1 14 rfl rfl)
theorem dX5_lay_39 : decode cX5_lay 39 = .ok (.istore 4, 2) := dk_54 4 (dk_at dksX5_lay_1 15 rfl rfl)
theorem dX5_lay_41 : decode cX5_lay 41 = .ok (.iload_n 1, 1) := dk_27 (dk_at dksX5_lay_1 17 rfl rfl)
theorem dX5_lay_42 : decode cX5_lay 42 = .ok (.invokestatic 309, 3) := dk_184 1 53 (dk_at dksX5_lay_1 18 rfl rfl)
theorem dX5_lay_45 : decode cX5_lay 45 = .ok (.ifCond .eq 8, 3) := dk_153 0 8 (dk_at dksX5_lay_1 21 rfl rfl)
theorem dX5_lay_48 : decode cX5_lay 48 = .ok (.iload 4, 2) := dk_21 4 (dk_at dksX5_lay_2 0 rfl rfl)
theorem dX5_lay_50 : decode cX5_lay 50 = .ok (.ifCond .ne 6, 3) := dk_154 0 6 (dk_at dksX5_lay_2 2 rfl rfl)
theorem dX5_lay_53 : decode cX5_lay 53 = .ok (.ldc 83, 2) := dk_18 83 (dk_at dksX5_lay_2 5 rfl rfl)
theorem dX5_lay_55 : decode cX5_lay 55 = .ok (.ireturn, 1) := dk_172 (dk_at dksX5_lay_2 7 rfl rfl)
theorem dX5_lay_56 : decode cX5_lay 56 = .ok (.iload_n 2, 1) := dk_28 (dk_at dksX5_lay_2 8 rfl rfl)
theorem dX5_lay_57 : decode cX5_lay 57 = .ok (.iconst 2, 1) := dk_5 (dk_at dksX5_lay_2 9 rfl rfl)
theorem dX5_lay_58 : decode cX5_lay 58 = .ok (.if_icmp .ne 15, 3) := dk_160 0 15 (dk_at dksX5_lay_2 10 rfl rfl)
theorem dX5_lay_61 : decode cX5_lay 61 = .ok (.aload_n 0, 1) := dk_42 (dk_at dksX5_lay_2 13 rfl rfl)
theorem dX5_lay_62 : decode cX5_lay 62 = .ok (.getfield 19, 3) := dk_180 0 19 (dk_at dksX5_lay_2 14 rfl rfl)
theorem dX5_lay_65 : decode cX5_lay 65 = .ok (.iload_n 3, 1) := dk_29 (dk_at dksX5_lay_2 17 rfl rfl)
theorem dX5_lay_66 : decode cX5_lay 66 = .ok (.iaload, 1) := dk_46 (dk_at dksX5_lay_2 18 rfl rfl)
theorem dX5_lay_67 : decode cX5_lay 67 = .ok (.ifCond .ge 6, 3) := dk_156 0 6 (dk_at dksX5_lay_2 19 rfl rfl)
theorem dX5_lay_70 : decode cX5_lay 70 = .ok (.ldc 181, 2) := dk_18 181 (dk_at dksX5_lay_2 22 rfl rfl)
theorem dX5_lay_72 : decode cX5_lay 72 = .ok (.ireturn, 1) := dk_172 (dk_at dksX5_lay_3 0 rfl rfl)
theorem dX5_lay_73 : decode cX5_lay 73 = .ok (.aload_n 0, 1) := dk_42 (dk_at dksX5_lay_3 1 rfl rfl)
theorem dX5_lay_74 : decode cX5_lay 74 = .ok (.getfield 28, 3) := dk_180 0 28 (dk_at dksX5_lay_3 2 rfl rfl)
theorem dX5_lay_77 : decode cX5_lay 77 = .ok (.iload_n 1, 1) := dk_27 (dk_at dksX5_lay_3 5 rfl rfl)
theorem dX5_lay_78 : decode cX5_lay 78 = .ok (.iaload, 1) := dk_46 (dk_at dksX5_lay_3 6 rfl rfl)
theorem dX5_lay_79 : decode cX5_lay 79 = .ok (.istore 5, 2) := dk_54 5 (dk_at dksX5_lay_3 7 rfl rfl)
theorem dX5_lay_81 : decode cX5_lay 81 = .ok (.aload_n 0, 1) := dk_42 (dk_at dksX5_lay_3 9 rfl rfl)
theorem dX5_lay_82 : decode cX5_lay 82 = .ok (.getfield 28, 3) := dk_180 0 28 (dk_at dksX5_lay_3 10 rfl rfl)
theorem dX5_lay_85 : decode cX5_lay 85 = .ok (.iload_n 1, 1) := dk_27 (dk_at dksX5_lay_3 13 rfl rfl)
theorem dX5_lay_86 : decode cX5_lay 86 = .ok (.iload_n 2, 1) := dk_28 (dk_at dksX5_lay_3 14 rfl rfl)
theorem dX5_lay_87 : decode cX5_lay 87 = .ok (.iastore, 1) := dk_79 (dk_at dksX5_lay_3 15 rfl rfl)
theorem dX5_lay_88 : decode cX5_lay 88 = .ok (.aload_n 0, 1) := dk_42 (dk_at dksX5_lay_3 16 rfl rfl)
theorem dX5_lay_89 : decode cX5_lay 89 = .ok (.getfield 31, 3) := dk_180 0 31 (dk_at dksX5_lay_3 17 rfl rfl)
theorem dX5_lay_92 : decode cX5_lay 92 = .ok (.iload_n 1, 1) := dk_27 (dk_at dksX5_lay_3 20 rfl rfl)
theorem dX5_lay_93 : decode cX5_lay 93 = .ok (.iload_n 2, 1) := dk_28 (dk_at dksX5_lay_3 21 rfl rfl)
theorem dX5_lay_94 : decode cX5_lay 94 = .ok (.iconst 1, 1) := dk_4 (dk_at dksX5_lay_3 22 rfl rfl)
theorem dX5_lay_95 : decode cX5_lay 95 = .ok (.if_icmp .ne 12, 3) := dk_160 0 12 (dk_at dksX5_lay_4 0 rfl rfl)
theorem dX5_lay_98 : decode cX5_lay 98 = .ok (.aload_n 0, 1) := dk_42 (dk_at dksX5_lay_4 3 rfl rfl)
theorem dX5_lay_99 : decode cX5_lay 99 = .ok (.iload_n 3, 1) := dk_29 (dk_at dksX5_lay_4 4 rfl rfl)
theorem dX5_lay_100 : decode cX5_lay 100 = .ok (.iconst 0, 1) := dk_3 (dk_at dksX5_lay_4 5 rfl rfl)
theorem dX5_lay_101 : decode cX5_lay 101 = .ok (.invokevirtual 88, 3) := dk_182 0 88 (dk_at dksX5_lay_4 6 rfl rfl)
theorem dX5_lay_104 : decode cX5_lay 104 = .ok (.goto 4, 3) := dk_167 0 4 (dk_at dksX5_lay_4 9 rfl rfl)
theorem dX5_lay_107 : decode cX5_lay 107 = .ok (.iload_n 3, 1) := dk_29 (dk_at dksX5_lay_4 12 rfl rfl)
theorem dX5_lay_108 : decode cX5_lay 108 = .ok (.iastore, 1) := dk_79 (dk_at dksX5_lay_4 13 rfl rfl)
theorem dX5_lay_109 : decode cX5_lay 109 = .ok (.aload_n 0, 1) := dk_42 (dk_at dksX5_lay_4 14 rfl rfl)
theorem dX5_lay_110 : decode cX5_lay 110 = .ok (.getfield 34, 3) := dk_180 0 34 (dk_at dksX5_lay_4 15 rfl rfl)
theorem dX5_lay_113 : decode cX5_lay 113 = .ok (.iload_n 1, 1) := dk_27 (dk_at dksX5_lay_4 18 rfl rfl)
theorem dX5_lay_114 : decode cX5_lay 114 = .ok (.iload_n 2, 1) := dk_28 (dk_at dksX5_lay_4 19 rfl rfl)
theorem dX5_lay_115 : decode cX5_lay 115 = .ok (.iconst 1, 1) := dk_4 (dk_at dksX5_lay_4 20 rfl rfl)
theorem dX5_lay_116 : decode cX5_lay 116 = .ok (.if_icmp .ne 11, 3) := dk_160 0 11 (dk_at dksX5_lay_4 21 rfl rfl)
theorem dX5_lay_119 : decode cX5_lay 119 = .ok (.aload_n 0, 1) := dk_42 (dk_at dksX5_lay_5 0 rfl rfl)
theorem dX5_lay_120 : decode cX5_lay 120 = .ok (.iload_n 3, 1) := dk_29 (dk_at dksX5_lay_5 1 rfl rfl)
theorem dX5_lay_121 : decode cX5_lay 121 = .ok (.invokevirtual 118, 3) := dk_182 0 118 (dk_at dksX5_lay_5 2 rfl rfl)
theorem dX5_lay_124 : decode cX5_lay 124 = .ok (.goto 4, 3) := dk_167 0 4 (dk_at dksX5_lay_5 5 rfl rfl)
theorem dX5_lay_127 : decode cX5_lay 127 = .ok (.iconst 0, 1) := dk_3 (dk_at dksX5_lay_5 8 rfl rfl)
theorem dX5_lay_128 : decode cX5_lay 128 = .ok (.iastore, 1) := dk_79 (dk_at dksX5_lay_5 9 rfl rfl)
theorem dX5_lay_129 : decode cX5_lay 129 = .ok (.iload_n 2, 1) := dk_28 (dk_at dksX5_lay_5 10 rfl rfl)
theorem dX5_lay_130 : decode cX5_lay 130 = .ok (.iconst 2, 1) := dk_5 (dk_at dksX5_lay_5 11 rfl rfl)
theorem dX5_lay_131 : decode cX5_lay 131 = .ok (.if_icmp .ne 55, 3) := dk_160 0 55 (dk_at dksX5_lay_5 12 rfl rfl)
theorem dX5_lay_134 : decode cX5_lay 134 = .ok (.aload_n 0, 1) := dk_42 (dk_at dksX5_lay_5 15 rfl rfl)
theorem dX5_lay_135 : decode cX5_lay 135 = .ok (.getfield 37, 3) := dk_180 0 37 (dk_at dksX5_lay_5 16 rfl rfl)
theorem dX5_lay_138 : decode cX5_lay 138 = .ok (.iload_n 1, 1) := dk_27 (dk_at dksX5_lay_5 19 rfl rfl)
theorem dX5_lay_139 : decode cX5_lay 139 = .ok (.aload_n 0, 1) := dk_42 (dk_at dksX5_lay_5 20 rfl rfl)
theorem dX5_lay_140 : decode cX5_lay 140 = .ok (.getfield 22, 3) := dk_180 0 22 (dk_at dksX5_lay_5 21 rfl rfl)
theorem dX5_lay_143 : decode cX5_lay 143 = .ok (.iload_n 3, 1) := dk_29 (dk_at dksX5_lay_6 0 rfl rfl)
theorem dX5_lay_144 : decode cX5_lay 144 = .ok (.iaload, 1) := dk_46 (dk_at dksX5_lay_6 1 rfl rfl)
theorem dX5_lay_145 : decode cX5_lay 145 = .ok (.iastore, 1) := dk_79 (dk_at dksX5_lay_6 2 rfl rfl)
theorem dX5_lay_146 : decode cX5_lay 146 = .ok (.iconst 0, 1) := dk_3 (dk_at dksX5_lay_6 3 rfl rfl)
theorem dX5_lay_147 : decode cX5_lay 147 = .ok (.istore 6, 2) := dk_54 6 (dk_at dksX5_lay_6 4 rfl rfl)
theorem dX5_lay_149 : decode cX5_lay 149 = .ok (.iload 6, 2) := dk_21 6 (dk_at dksX5_lay_6 6 rfl rfl)
theorem dX5_lay_151 : decode cX5_lay 151 = .ok (.bipush 24, 2) := dk_16 24 (dk_at dksX5_lay_6 8 rfl rfl)
theorem dX5_lay_153 : decode cX5_lay 153 = .ok (.if_icmp .ge 33, 3) := dk_162 0 33 (dk_at dksX5_lay_6 10 rfl rfl)
theorem dX5_lay_156 : decode cX5_lay 156 = .ok (.aload_n 0, 1) := dk_42 (dk_at dksX5_lay_6 13 rfl rfl)
theorem dX5_lay_157 : decode cX5_lay 157 = .ok (.getfield 40, 3) := dk_180 0 40 (dk_at dksX5_lay_6 14 rfl rfl)
theorem dX5_lay_160 : decode cX5_lay 160 = .ok (.bipush 24, 2) := dk_16 24 (dk_at dksX5_lay_6 17 rfl rfl)
theorem dX5_lay_162 : decode cX5_lay 162 = .ok (.iload_n 1, 1) := dk_27 (dk_at dksX5_lay_6 19 rfl rfl)
theorem dX5_lay_163 : decode cX5_lay 163 = .ok (.imul, 1) := dk_104 (dk_at dksX5_lay_6 20 rfl rfl)
theorem dX5_lay_164 : decode cX5_lay 164 = .ok (.iload 6, 2) := dk_21 6 (dk_at dksX5_lay_6 21 rfl rfl)
theorem dX5_lay_166 : decode cX5_lay 166 = .ok (.iadd, 1) := dk_96 (dk_at dksX5_lay_6 23 rfl rfl)
theorem dX5_lay_167 : decode cX5_lay 167 = .ok (.aload_n 0, 1) := dk_42 (dk_at dksX5_lay_7 0 rfl rfl)
theorem dX5_lay_168 : decode cX5_lay 168 = .ok (.getfield 25, 3) := dk_180 0 25 (dk_at dksX5_lay_7 1 rfl rfl)
theorem dX5_lay_171 : decode cX5_lay 171 = .ok (.bipush 24, 2) := dk_16 24 (dk_at dksX5_lay_7 4 rfl rfl)
theorem dX5_lay_173 : decode cX5_lay 173 = .ok (.iload_n 3, 1) := dk_29 (dk_at dksX5_lay_7 6 rfl rfl)
theorem dX5_lay_174 : decode cX5_lay 174 = .ok (.imul, 1) := dk_104 (dk_at dksX5_lay_7 7 rfl rfl)
theorem dX5_lay_175 : decode cX5_lay 175 = .ok (.iload 6, 2) := dk_21 6 (dk_at dksX5_lay_7 8 rfl rfl)
theorem dX5_lay_177 : decode cX5_lay 177 = .ok (.iadd, 1) := dk_96 (dk_at dksX5_lay_7 10 rfl rfl)
theorem dX5_lay_178 : decode cX5_lay 178 = .ok (.iaload, 1) := dk_46 (dk_at dksX5_lay_7 11 rfl rfl)
theorem dX5_lay_179 : decode cX5_lay 179 = .ok (.iastore, 1) := dk_79 (dk_at dksX5_lay_7 12 rfl rfl)
theorem dX5_lay_180 : decode cX5_lay 180 = .ok (.iinc 6 1, 3) := dk_132 6 1 (dk_at dksX5_lay_7 13 rfl rfl)
theorem dX5_lay_183 : decode cX5_lay 183 = .ok (.goto (-34), 3) := dk_167 255 222 (dk_at dksX5_lay_7 16 rfl rfl)
theorem dX5_lay_186 : decode cX5_lay 186 = .ok (.iload 5, 2) := dk_21 5 (dk_at dksX5_lay_7 19 rfl rfl)
theorem dX5_lay_188 : decode cX5_lay 188 = .ok (.ireturn, 1) := dk_172 (dk_at dksX5_lay_7 21 rfl rfl)
abbrev cX5_isSlot : ByteArray := prog_18_method_89_code
def yX5_isSlot : MethodName := ⟨RX5, "isSlot", "(I)Z"⟩
def dkwX5_isSlot_0 : List UInt8 := [26, 133, 9, 20, 1, 51, 184, 0, 68, 172]
abbrev dktX5_isSlot_0 : List UInt8 := dkwX5_isSlot_0 ++ []
theorem dksX5_isSlot_0 : cX5_isSlot.data.toList.drop 0 = dktX5_isSlot_0 := by decide +kernel
theorem dX5_isSlot_0 : decode cX5_isSlot 0 = .ok (.iload_n 0, 1) := dk_26 (dk_at dksX5_isSlot_0 0 rfl rfl)
theorem dX5_isSlot_1 : decode cX5_isSlot 1 = .ok (.i2l, 1) := dk_133 (dk_at dksX5_isSlot_0 1 rfl rfl)
theorem dX5_isSlot_2 : decode cX5_isSlot 2 = .ok (.lconst 0, 1) := dk_9 (dk_at dksX5_isSlot_0 2 rfl rfl)
theorem dX5_isSlot_3 : decode cX5_isSlot 3 = .ok (.ldc2_w 307, 3) := dk_20 1 51 (dk_at dksX5_isSlot_0 3 rfl rfl)
theorem dX5_isSlot_6 : decode cX5_isSlot 6 = .ok (.invokestatic 68, 3) := dk_184 0 68 (dk_at dksX5_isSlot_0 6 rfl rfl)
theorem dX5_isSlot_9 : decode cX5_isSlot 9 = .ok (.ireturn, 1) := dk_172 (dk_at dksX5_isSlot_0 9 rfl rfl)
abbrev cX5_ask : ByteArray := prog_18_method_91_code
def yX5_ask : MethodName := ⟨RX5, "ask", "(II)I"⟩
def dkwX5_ask_2 : List UInt8 := [180, 0, 31, 27, 46, 28, 184, 0, 121, 153, 0, 12, 42, 180, 0, 34, 27, 46, 167, 0, 5, 18, 125, 172]
abbrev dktX5_ask_2 : List UInt8 := dkwX5_ask_2 ++ []
def dkwX5_ask_1 : List UInt8 := [180, 0, 28, 27, 46, 154, 0, 6, 18, 181, 172, 42, 180, 0, 28, 27, 46, 4, 160, 0, 25, 42]
abbrev dktX5_ask_1 : List UInt8 := dkwX5_ask_1 ++ dktX5_ask_2
def dkwX5_ask_0 : List UInt8 := [27, 184, 1, 53, 153, 0, 15, 28, 133, 9, 20, 0, 77, 184, 0, 68, 154, 0, 6, 18, 83, 172, 42]
abbrev dktX5_ask_0 : List UInt8 := dkwX5_ask_0 ++ dktX5_ask_1
theorem dksX5_ask_0 : cX5_ask.data.toList.drop 0 = dktX5_ask_0 := by decide +kernel
theorem dksX5_ask_1 : cX5_ask.data.toList.drop 23 = dktX5_ask_1 := dk_seg dksX5_ask_0 23 rfl rfl
theorem dksX5_ask_2 : cX5_ask.data.toList.drop 45 = dktX5_ask_2 := dk_seg dksX5_ask_1 22 rfl rfl
theorem dX5_ask_0 : decode cX5_ask 0 = .ok (.iload_n 1, 1) := dk_27 (dk_at dksX5_ask_0 0 rfl rfl)
theorem dX5_ask_1 : decode cX5_ask 1 = .ok (.invokestatic 309, 3) := dk_184 1 53 (dk_at dksX5_ask_0 1 rfl rfl)
theorem dX5_ask_4 : decode cX5_ask 4 = .ok (.ifCond .eq 15, 3) := dk_153 0 15 (dk_at dksX5_ask_0 4 rfl rfl)
theorem dX5_ask_7 : decode cX5_ask 7 = .ok (.iload_n 2, 1) := dk_28 (dk_at dksX5_ask_0 7 rfl rfl)
theorem dX5_ask_8 : decode cX5_ask 8 = .ok (.i2l, 1) := dk_133 (dk_at dksX5_ask_0 8 rfl rfl)
theorem dX5_ask_9 : decode cX5_ask 9 = .ok (.lconst 0, 1) := dk_9 (dk_at dksX5_ask_0 9 rfl rfl)
theorem dX5_ask_10 : decode cX5_ask 10 = .ok (.ldc2_w 77, 3) := dk_20 0 77 (dk_at dksX5_ask_0 10 rfl rfl)
theorem dX5_ask_13 : decode cX5_ask 13 = .ok (.invokestatic 68, 3) := dk_184 0 68 (dk_at dksX5_ask_0 13 rfl rfl)
theorem dX5_ask_16 : decode cX5_ask 16 = .ok (.ifCond .ne 6, 3) := dk_154 0 6 (dk_at dksX5_ask_0 16 rfl rfl)
theorem dX5_ask_19 : decode cX5_ask 19 = .ok (.ldc 83, 2) := dk_18 83 (dk_at dksX5_ask_0 19 rfl rfl)
theorem dX5_ask_21 : decode cX5_ask 21 = .ok (.ireturn, 1) := dk_172 (dk_at dksX5_ask_0 21 rfl rfl)
theorem dX5_ask_22 : decode cX5_ask 22 = .ok (.aload_n 0, 1) := dk_42 (dk_at dksX5_ask_0 22 rfl rfl)
theorem dX5_ask_23 : decode cX5_ask 23 = .ok (.getfield 28, 3) := dk_180 0 28 (dk_at dksX5_ask_1 0 rfl rfl)
theorem dX5_ask_26 : decode cX5_ask 26 = .ok (.iload_n 1, 1) := dk_27 (dk_at dksX5_ask_1 3 rfl rfl)
theorem dX5_ask_27 : decode cX5_ask 27 = .ok (.iaload, 1) := dk_46 (dk_at dksX5_ask_1 4 rfl rfl)
theorem dX5_ask_28 : decode cX5_ask 28 = .ok (.ifCond .ne 6, 3) := dk_154 0 6 (dk_at dksX5_ask_1 5 rfl rfl)
theorem dX5_ask_31 : decode cX5_ask 31 = .ok (.ldc 181, 2) := dk_18 181 (dk_at dksX5_ask_1 8 rfl rfl)
theorem dX5_ask_33 : decode cX5_ask 33 = .ok (.ireturn, 1) := dk_172 (dk_at dksX5_ask_1 10 rfl rfl)
theorem dX5_ask_34 : decode cX5_ask 34 = .ok (.aload_n 0, 1) := dk_42 (dk_at dksX5_ask_1 11 rfl rfl)
theorem dX5_ask_35 : decode cX5_ask 35 = .ok (.getfield 28, 3) := dk_180 0 28 (dk_at dksX5_ask_1 12 rfl rfl)
theorem dX5_ask_38 : decode cX5_ask 38 = .ok (.iload_n 1, 1) := dk_27 (dk_at dksX5_ask_1 15 rfl rfl)
theorem dX5_ask_39 : decode cX5_ask 39 = .ok (.iaload, 1) := dk_46 (dk_at dksX5_ask_1 16 rfl rfl)
theorem dX5_ask_40 : decode cX5_ask 40 = .ok (.iconst 1, 1) := dk_4 (dk_at dksX5_ask_1 17 rfl rfl)
theorem dX5_ask_41 : decode cX5_ask 41 = .ok (.if_icmp .ne 25, 3) := dk_160 0 25 (dk_at dksX5_ask_1 18 rfl rfl)
theorem dX5_ask_44 : decode cX5_ask 44 = .ok (.aload_n 0, 1) := dk_42 (dk_at dksX5_ask_1 21 rfl rfl)
theorem dX5_ask_45 : decode cX5_ask 45 = .ok (.getfield 31, 3) := dk_180 0 31 (dk_at dksX5_ask_2 0 rfl rfl)
theorem dX5_ask_48 : decode cX5_ask 48 = .ok (.iload_n 1, 1) := dk_27 (dk_at dksX5_ask_2 3 rfl rfl)
theorem dX5_ask_49 : decode cX5_ask 49 = .ok (.iaload, 1) := dk_46 (dk_at dksX5_ask_2 4 rfl rfl)
theorem dX5_ask_50 : decode cX5_ask 50 = .ok (.iload_n 2, 1) := dk_28 (dk_at dksX5_ask_2 5 rfl rfl)
theorem dX5_ask_51 : decode cX5_ask 51 = .ok (.invokestatic 121, 3) := dk_184 0 121 (dk_at dksX5_ask_2 6 rfl rfl)
theorem dX5_ask_54 : decode cX5_ask 54 = .ok (.ifCond .eq 12, 3) := dk_153 0 12 (dk_at dksX5_ask_2 9 rfl rfl)
theorem dX5_ask_57 : decode cX5_ask 57 = .ok (.aload_n 0, 1) := dk_42 (dk_at dksX5_ask_2 12 rfl rfl)
theorem dX5_ask_58 : decode cX5_ask 58 = .ok (.getfield 34, 3) := dk_180 0 34 (dk_at dksX5_ask_2 13 rfl rfl)
theorem dX5_ask_61 : decode cX5_ask 61 = .ok (.iload_n 1, 1) := dk_27 (dk_at dksX5_ask_2 16 rfl rfl)
theorem dX5_ask_62 : decode cX5_ask 62 = .ok (.iaload, 1) := dk_46 (dk_at dksX5_ask_2 17 rfl rfl)
theorem dX5_ask_63 : decode cX5_ask 63 = .ok (.goto 5, 3) := dk_167 0 5 (dk_at dksX5_ask_2 18 rfl rfl)
theorem dX5_ask_66 : decode cX5_ask 66 = .ok (.ldc 125, 2) := dk_18 125 (dk_at dksX5_ask_2 21 rfl rfl)
theorem dX5_ask_68 : decode cX5_ask 68 = .ok (.ireturn, 1) := dk_172 (dk_at dksX5_ask_2 23 rfl rfl)
abbrev cX5_item : ByteArray := prog_18_method_92_code
def yX5_item : MethodName := ⟨RX5, "item", "(II)I"⟩
def dkwX5_item_3 : List UInt8 := [18, 67, 160, 0, 8, 18, 125, 167, 0, 4, 29, 172]
abbrev dktX5_item_3 : List UInt8 := dkwX5_item_3 ++ []
def dkwX5_item_2 : List UInt8 := [133, 184, 0, 68, 154, 0, 7, 19, 1, 43, 172, 42, 180, 0, 40, 16, 24, 27, 104, 28, 96, 46, 62, 29]
abbrev dktX5_item_2 : List UInt8 := dkwX5_item_2 ++ dktX5_item_3
def dkwX5_item_1 : List UInt8 := [27, 46, 154, 0, 8, 18, 181, 167, 0, 5, 18, 125, 172, 28, 133, 9, 42, 180, 0, 37, 27, 46, 4, 100]
abbrev dktX5_item_1 : List UInt8 := dkwX5_item_1 ++ dktX5_item_2
def dkwX5_item_0 : List UInt8 := [27, 184, 1, 53, 154, 0, 6, 18, 83, 172, 42, 180, 0, 28, 27, 46, 5, 159, 0, 20, 42, 180, 0, 28]
abbrev dktX5_item_0 : List UInt8 := dkwX5_item_0 ++ dktX5_item_1
theorem dksX5_item_0 : cX5_item.data.toList.drop 0 = dktX5_item_0 := by decide +kernel
theorem dksX5_item_1 : cX5_item.data.toList.drop 24 = dktX5_item_1 := dk_seg dksX5_item_0 24 rfl rfl
theorem dksX5_item_2 : cX5_item.data.toList.drop 48 = dktX5_item_2 := dk_seg dksX5_item_1 24 rfl rfl
theorem dksX5_item_3 : cX5_item.data.toList.drop 72 = dktX5_item_3 := dk_seg dksX5_item_2 24 rfl rfl
theorem dX5_item_0 : decode cX5_item 0 = .ok (.iload_n 1, 1) := dk_27 (dk_at dksX5_item_0 0 rfl rfl)
theorem dX5_item_1 : decode cX5_item 1 = .ok (.invokestatic 309, 3) := dk_184 1 53 (dk_at dksX5_item_0 1 rfl rfl)
theorem dX5_item_4 : decode cX5_item 4 = .ok (.ifCond .ne 6, 3) := dk_154 0 6 (dk_at dksX5_item_0 4 rfl rfl)
theorem dX5_item_7 : decode cX5_item 7 = .ok (.ldc 83, 2) := dk_18 83 (dk_at dksX5_item_0 7 rfl rfl)
theorem dX5_item_9 : decode cX5_item 9 = .ok (.ireturn, 1) := dk_172 (dk_at dksX5_item_0 9 rfl rfl)
theorem dX5_item_10 : decode cX5_item 10 = .ok (.aload_n 0, 1) := dk_42 (dk_at dksX5_item_0 10 rfl rfl)
theorem dX5_item_11 : decode cX5_item 11 = .ok (.getfield 28, 3) := dk_180 0 28 (dk_at dksX5_item_0 11 rfl rfl)
theorem dX5_item_14 : decode cX5_item 14 = .ok (.iload_n 1, 1) := dk_27 (dk_at dksX5_item_0 14 rfl rfl)
theorem dX5_item_15 : decode cX5_item 15 = .ok (.iaload, 1) := dk_46 (dk_at dksX5_item_0 15 rfl rfl)
theorem dX5_item_16 : decode cX5_item 16 = .ok (.iconst 2, 1) := dk_5 (dk_at dksX5_item_0 16 rfl rfl)
theorem dX5_item_17 : decode cX5_item 17 = .ok (.if_icmp .eq 20, 3) := dk_159 0 20 (dk_at dksX5_item_0 17 rfl rfl)
theorem dX5_item_20 : decode cX5_item 20 = .ok (.aload_n 0, 1) := dk_42 (dk_at dksX5_item_0 20 rfl rfl)
theorem dX5_item_21 : decode cX5_item 21 = .ok (.getfield 28, 3) := dk_180 0 28 (dk_at dksX5_item_0 21 rfl rfl)
theorem dX5_item_24 : decode cX5_item 24 = .ok (.iload_n 1, 1) := dk_27 (dk_at dksX5_item_1 0 rfl rfl)
theorem dX5_item_25 : decode cX5_item 25 = .ok (.iaload, 1) := dk_46 (dk_at dksX5_item_1 1 rfl rfl)
theorem dX5_item_26 : decode cX5_item 26 = .ok (.ifCond .ne 8, 3) := dk_154 0 8 (dk_at dksX5_item_1 2 rfl rfl)
theorem dX5_item_29 : decode cX5_item 29 = .ok (.ldc 181, 2) := dk_18 181 (dk_at dksX5_item_1 5 rfl rfl)
theorem dX5_item_31 : decode cX5_item 31 = .ok (.goto 5, 3) := dk_167 0 5 (dk_at dksX5_item_1 7 rfl rfl)
theorem dX5_item_34 : decode cX5_item 34 = .ok (.ldc 125, 2) := dk_18 125 (dk_at dksX5_item_1 10 rfl rfl)
theorem dX5_item_36 : decode cX5_item 36 = .ok (.ireturn, 1) := dk_172 (dk_at dksX5_item_1 12 rfl rfl)
theorem dX5_item_37 : decode cX5_item 37 = .ok (.iload_n 2, 1) := dk_28 (dk_at dksX5_item_1 13 rfl rfl)
theorem dX5_item_38 : decode cX5_item 38 = .ok (.i2l, 1) := dk_133 (dk_at dksX5_item_1 14 rfl rfl)
theorem dX5_item_39 : decode cX5_item 39 = .ok (.lconst 0, 1) := dk_9 (dk_at dksX5_item_1 15 rfl rfl)
theorem dX5_item_40 : decode cX5_item 40 = .ok (.aload_n 0, 1) := dk_42 (dk_at dksX5_item_1 16 rfl rfl)
theorem dX5_item_41 : decode cX5_item 41 = .ok (.getfield 37, 3) := dk_180 0 37 (dk_at dksX5_item_1 17 rfl rfl)
theorem dX5_item_44 : decode cX5_item 44 = .ok (.iload_n 1, 1) := dk_27 (dk_at dksX5_item_1 20 rfl rfl)
theorem dX5_item_45 : decode cX5_item 45 = .ok (.iaload, 1) := dk_46 (dk_at dksX5_item_1 21 rfl rfl)
theorem dX5_item_46 : decode cX5_item 46 = .ok (.iconst 1, 1) := dk_4 (dk_at dksX5_item_1 22 rfl rfl)
theorem dX5_item_47 : decode cX5_item 47 = .ok (.isub, 1) := dk_100 (dk_at dksX5_item_1 23 rfl rfl)
theorem dX5_item_48 : decode cX5_item 48 = .ok (.i2l, 1) := dk_133 (dk_at dksX5_item_2 0 rfl rfl)
theorem dX5_item_49 : decode cX5_item 49 = .ok (.invokestatic 68, 3) := dk_184 0 68 (dk_at dksX5_item_2 1 rfl rfl)
theorem dX5_item_52 : decode cX5_item 52 = .ok (.ifCond .ne 7, 3) := dk_154 0 7 (dk_at dksX5_item_2 4 rfl rfl)
theorem dX5_item_55 : decode cX5_item 55 = .ok (.ldc_w 299, 3) := dk_19 1 43 (dk_at dksX5_item_2 7 rfl rfl)
theorem dX5_item_58 : decode cX5_item 58 = .ok (.ireturn, 1) := dk_172 (dk_at dksX5_item_2 10 rfl rfl)
theorem dX5_item_59 : decode cX5_item 59 = .ok (.aload_n 0, 1) := dk_42 (dk_at dksX5_item_2 11 rfl rfl)
theorem dX5_item_60 : decode cX5_item 60 = .ok (.getfield 40, 3) := dk_180 0 40 (dk_at dksX5_item_2 12 rfl rfl)
theorem dX5_item_63 : decode cX5_item 63 = .ok (.bipush 24, 2) := dk_16 24 (dk_at dksX5_item_2 15 rfl rfl)
theorem dX5_item_65 : decode cX5_item 65 = .ok (.iload_n 1, 1) := dk_27 (dk_at dksX5_item_2 17 rfl rfl)
theorem dX5_item_66 : decode cX5_item 66 = .ok (.imul, 1) := dk_104 (dk_at dksX5_item_2 18 rfl rfl)
theorem dX5_item_67 : decode cX5_item 67 = .ok (.iload_n 2, 1) := dk_28 (dk_at dksX5_item_2 19 rfl rfl)
theorem dX5_item_68 : decode cX5_item 68 = .ok (.iadd, 1) := dk_96 (dk_at dksX5_item_2 20 rfl rfl)
theorem dX5_item_69 : decode cX5_item 69 = .ok (.iaload, 1) := dk_46 (dk_at dksX5_item_2 21 rfl rfl)
theorem dX5_item_70 : decode cX5_item 70 = .ok (.istore_n 3, 1) := dk_62 (dk_at dksX5_item_2 22 rfl rfl)
theorem dX5_item_71 : decode cX5_item 71 = .ok (.iload_n 3, 1) := dk_29 (dk_at dksX5_item_2 23 rfl rfl)
theorem dX5_item_72 : decode cX5_item 72 = .ok (.ldc 67, 2) := dk_18 67 (dk_at dksX5_item_3 0 rfl rfl)
theorem dX5_item_74 : decode cX5_item 74 = .ok (.if_icmp .ne 8, 3) := dk_160 0 8 (dk_at dksX5_item_3 2 rfl rfl)
theorem dX5_item_77 : decode cX5_item 77 = .ok (.ldc 125, 2) := dk_18 125 (dk_at dksX5_item_3 5 rfl rfl)
theorem dX5_item_79 : decode cX5_item 79 = .ok (.goto 4, 3) := dk_167 0 4 (dk_at dksX5_item_3 7 rfl rfl)
theorem dX5_item_82 : decode cX5_item 82 = .ok (.iload_n 3, 1) := dk_29 (dk_at dksX5_item_3 10 rfl rfl)
theorem dX5_item_83 : decode cX5_item 83 = .ok (.ireturn, 1) := dk_172 (dk_at dksX5_item_3 11 rfl rfl)
abbrev cX5_rest : ByteArray := prog_18_method_93_code
def yX5_rest : MethodName := ⟨RX5, "rest", "(II)I"⟩
def dkwX5_rest_2 : List UInt8 := [180, 0, 31, 27, 46, 28, 112, 172]
abbrev dktX5_rest_2 : List UInt8 := dkwX5_rest_2 ++ []
def dkwX5_rest_1 : List UInt8 := [27, 46, 154, 0, 8, 18, 181, 167, 0, 5, 18, 125, 172, 28, 154, 0, 9, 19, 1, 56, 167, 0, 11, 42]
abbrev dktX5_rest_1 : List UInt8 := dkwX5_rest_1 ++ dktX5_rest_2
def dkwX5_rest_0 : List UInt8 := [27, 184, 1, 53, 154, 0, 6, 18, 83, 172, 42, 180, 0, 28, 27, 46, 6, 159, 0, 20, 42, 180, 0, 28]
abbrev dktX5_rest_0 : List UInt8 := dkwX5_rest_0 ++ dktX5_rest_1
theorem dksX5_rest_0 : cX5_rest.data.toList.drop 0 = dktX5_rest_0 := by decide +kernel
theorem dksX5_rest_1 : cX5_rest.data.toList.drop 24 = dktX5_rest_1 := dk_seg dksX5_rest_0 24 rfl rfl
theorem dksX5_rest_2 : cX5_rest.data.toList.drop 48 = dktX5_rest_2 := dk_seg dksX5_rest_1 24 rfl rfl
theorem dX5_rest_0 : decode cX5_rest 0 = .ok (.iload_n 1, 1) := dk_27 (dk_at dksX5_rest_0 0 rfl rfl)
theorem dX5_rest_1 : decode cX5_rest 1 = .ok (.invokestatic 309, 3) := dk_184 1 53 (dk_at dksX5_rest_0 1 rfl rfl)
theorem dX5_rest_4 : decode cX5_rest 4 = .ok (.ifCond .ne 6, 3) := dk_154 0 6 (dk_at dksX5_rest_0 4 rfl rfl)
theorem dX5_rest_7 : decode cX5_rest 7 = .ok (.ldc 83, 2) := dk_18 83 (dk_at dksX5_rest_0 7 rfl rfl)
theorem dX5_rest_9 : decode cX5_rest 9 = .ok (.ireturn, 1) := dk_172 (dk_at dksX5_rest_0 9 rfl rfl)
theorem dX5_rest_10 : decode cX5_rest 10 = .ok (.aload_n 0, 1) := dk_42 (dk_at dksX5_rest_0 10 rfl rfl)
theorem dX5_rest_11 : decode cX5_rest 11 = .ok (.getfield 28, 3) := dk_180 0 28 (dk_at dksX5_rest_0 11 rfl rfl)
theorem dX5_rest_14 : decode cX5_rest 14 = .ok (.iload_n 1, 1) := dk_27 (dk_at dksX5_rest_0 14 rfl rfl)
theorem dX5_rest_15 : decode cX5_rest 15 = .ok (.iaload, 1) := dk_46 (dk_at dksX5_rest_0 15 rfl rfl)
theorem dX5_rest_16 : decode cX5_rest 16 = .ok (.iconst 3, 1) := dk_6 (dk_at dksX5_rest_0 16 rfl rfl)
theorem dX5_rest_17 : decode cX5_rest 17 = .ok (.if_icmp .eq 20, 3) := dk_159 0 20 (dk_at dksX5_rest_0 17 rfl rfl)
theorem dX5_rest_20 : decode cX5_rest 20 = .ok (.aload_n 0, 1) := dk_42 (dk_at dksX5_rest_0 20 rfl rfl)
theorem dX5_rest_21 : decode cX5_rest 21 = .ok (.getfield 28, 3) := dk_180 0 28 (dk_at dksX5_rest_0 21 rfl rfl)
theorem dX5_rest_24 : decode cX5_rest 24 = .ok (.iload_n 1, 1) := dk_27 (dk_at dksX5_rest_1 0 rfl rfl)
theorem dX5_rest_25 : decode cX5_rest 25 = .ok (.iaload, 1) := dk_46 (dk_at dksX5_rest_1 1 rfl rfl)
theorem dX5_rest_26 : decode cX5_rest 26 = .ok (.ifCond .ne 8, 3) := dk_154 0 8 (dk_at dksX5_rest_1 2 rfl rfl)
theorem dX5_rest_29 : decode cX5_rest 29 = .ok (.ldc 181, 2) := dk_18 181 (dk_at dksX5_rest_1 5 rfl rfl)
theorem dX5_rest_31 : decode cX5_rest 31 = .ok (.goto 5, 3) := dk_167 0 5 (dk_at dksX5_rest_1 7 rfl rfl)
theorem dX5_rest_34 : decode cX5_rest 34 = .ok (.ldc 125, 2) := dk_18 125 (dk_at dksX5_rest_1 10 rfl rfl)
theorem dX5_rest_36 : decode cX5_rest 36 = .ok (.ireturn, 1) := dk_172 (dk_at dksX5_rest_1 12 rfl rfl)
theorem dX5_rest_37 : decode cX5_rest 37 = .ok (.iload_n 2, 1) := dk_28 (dk_at dksX5_rest_1 13 rfl rfl)
theorem dX5_rest_38 : decode cX5_rest 38 = .ok (.ifCond .ne 9, 3) := dk_154 0 9 (dk_at dksX5_rest_1 14 rfl rfl)
theorem dX5_rest_41 : decode cX5_rest 41 = .ok (.ldc_w 312, 3) := dk_19 1 56 (dk_at dksX5_rest_1 17 rfl rfl)
theorem dX5_rest_44 : decode cX5_rest 44 = .ok (.goto 11, 3) := dk_167 0 11 (dk_at dksX5_rest_1 20 rfl rfl)
theorem dX5_rest_47 : decode cX5_rest 47 = .ok (.aload_n 0, 1) := dk_42 (dk_at dksX5_rest_1 23 rfl rfl)
theorem dX5_rest_48 : decode cX5_rest 48 = .ok (.getfield 31, 3) := dk_180 0 31 (dk_at dksX5_rest_2 0 rfl rfl)
theorem dX5_rest_51 : decode cX5_rest 51 = .ok (.iload_n 1, 1) := dk_27 (dk_at dksX5_rest_2 3 rfl rfl)
theorem dX5_rest_52 : decode cX5_rest 52 = .ok (.iaload, 1) := dk_46 (dk_at dksX5_rest_2 4 rfl rfl)
theorem dX5_rest_53 : decode cX5_rest 53 = .ok (.iload_n 2, 1) := dk_28 (dk_at dksX5_rest_2 5 rfl rfl)
theorem dX5_rest_54 : decode cX5_rest 54 = .ok (.irem, 1) := dk_112 (dk_at dksX5_rest_2 6 rfl rfl)
theorem dX5_rest_55 : decode cX5_rest 55 = .ok (.ireturn, 1) := dk_172 (dk_at dksX5_rest_2 7 rfl rfl)
abbrev cX5_tell : ByteArray := prog_18_method_94_code
def yX5_tell : MethodName := ⟨RX5, "tell", "(I)I"⟩
def dkwX5_tell_1 : List UInt8 := [180, 1, 57, 4, 96, 181, 1, 57, 42, 180, 1, 57, 172]
abbrev dktX5_tell_1 : List UInt8 := dkwX5_tell_1 ++ []
def dkwX5_tell_0 : List UInt8 := [42, 180, 1, 57, 16, 60, 160, 0, 6, 18, 84, 172, 42, 180, 0, 61, 42, 180, 1, 57, 27, 79, 42, 89]
abbrev dktX5_tell_0 : List UInt8 := dkwX5_tell_0 ++ dktX5_tell_1
theorem dksX5_tell_0 : cX5_tell.data.toList.drop 0 = dktX5_tell_0 := by decide +kernel
theorem dksX5_tell_1 : cX5_tell.data.toList.drop 24 = dktX5_tell_1 := dk_seg dksX5_tell_0 24 rfl rfl
theorem dX5_tell_0 : decode cX5_tell 0 = .ok (.aload_n 0, 1) := dk_42 (dk_at dksX5_tell_0 0 rfl rfl)
theorem dX5_tell_1 : decode cX5_tell 1 = .ok (.getfield 313, 3) := dk_180 1 57 (dk_at dksX5_tell_0 1 rfl rfl)
theorem dX5_tell_4 : decode cX5_tell 4 = .ok (.bipush 60, 2) := dk_16 60 (dk_at dksX5_tell_0 4 rfl rfl)
theorem dX5_tell_6 : decode cX5_tell 6 = .ok (.if_icmp .ne 6, 3) := dk_160 0 6 (dk_at dksX5_tell_0 6 rfl rfl)
theorem dX5_tell_9 : decode cX5_tell 9 = .ok (.ldc 84, 2) := dk_18 84 (dk_at dksX5_tell_0 9 rfl rfl)
theorem dX5_tell_11 : decode cX5_tell 11 = .ok (.ireturn, 1) := dk_172 (dk_at dksX5_tell_0 11 rfl rfl)
theorem dX5_tell_12 : decode cX5_tell 12 = .ok (.aload_n 0, 1) := dk_42 (dk_at dksX5_tell_0 12 rfl rfl)
theorem dX5_tell_13 : decode cX5_tell 13 = .ok (.getfield 61, 3) := dk_180 0 61 (dk_at dksX5_tell_0 13 rfl rfl)
theorem dX5_tell_16 : decode cX5_tell 16 = .ok (.aload_n 0, 1) := dk_42 (dk_at dksX5_tell_0 16 rfl rfl)
theorem dX5_tell_17 : decode cX5_tell 17 = .ok (.getfield 313, 3) := dk_180 1 57 (dk_at dksX5_tell_0 17 rfl rfl)
theorem dX5_tell_20 : decode cX5_tell 20 = .ok (.iload_n 1, 1) := dk_27 (dk_at dksX5_tell_0 20 rfl rfl)
theorem dX5_tell_21 : decode cX5_tell 21 = .ok (.iastore, 1) := dk_79 (dk_at dksX5_tell_0 21 rfl rfl)
theorem dX5_tell_22 : decode cX5_tell 22 = .ok (.aload_n 0, 1) := dk_42 (dk_at dksX5_tell_0 22 rfl rfl)
theorem dX5_tell_23 : decode cX5_tell 23 = .ok (.dup, 1) := dk_89 (dk_at dksX5_tell_0 23 rfl rfl)
theorem dX5_tell_24 : decode cX5_tell 24 = .ok (.getfield 313, 3) := dk_180 1 57 (dk_at dksX5_tell_1 0 rfl rfl)
theorem dX5_tell_27 : decode cX5_tell 27 = .ok (.iconst 1, 1) := dk_4 (dk_at dksX5_tell_1 3 rfl rfl)
theorem dX5_tell_28 : decode cX5_tell 28 = .ok (.iadd, 1) := dk_96 (dk_at dksX5_tell_1 4 rfl rfl)
theorem dX5_tell_29 : decode cX5_tell 29 = .ok (.putfield 313, 3) := dk_181 1 57 (dk_at dksX5_tell_1 5 rfl rfl)
theorem dX5_tell_32 : decode cX5_tell 32 = .ok (.aload_n 0, 1) := dk_42 (dk_at dksX5_tell_1 8 rfl rfl)
theorem dX5_tell_33 : decode cX5_tell 33 = .ok (.getfield 313, 3) := dk_180 1 57 (dk_at dksX5_tell_1 9 rfl rfl)
theorem dX5_tell_36 : decode cX5_tell 36 = .ok (.ireturn, 1) := dk_172 (dk_at dksX5_tell_1 12 rfl rfl)
abbrev cX5_check : ByteArray := prog_18_method_96_code
def yX5_check : MethodName := ⟨RX5, "check", "(I)I"⟩
def dkwX5_check_8 : List UInt8 := [21, 4, 96, 172]
abbrev dktX5_check_8 : List UInt8 := dkwX5_check_8 ++ []
def dkwX5_check_7 : List UInt8 := [132, 4, 1, 167, 255, 224, 21, 4, 28, 160, 0, 13, 21, 4, 29, 160, 0, 7, 3, 167, 0, 7, 4]
abbrev dktX5_check_7 : List UInt8 := dkwX5_check_7 ++ dktX5_check_8
def dkwX5_check_6 : List UInt8 := [21, 4, 29, 162, 0, 26, 42, 180, 0, 61, 21, 4, 46, 42, 180, 0, 64, 21, 4, 46, 160, 0, 9]
abbrev dktX5_check_6 : List UInt8 := dkwX5_check_6 ++ dktX5_check_7
def dkwX5_check_5 : List UInt8 := [167, 255, 201, 42, 42, 180, 0, 16, 42, 180, 0, 7, 182, 1, 66, 3, 54, 4, 21, 4, 28, 162, 0, 32]
abbrev dktX5_check_5 : List UInt8 := dkwX5_check_5 ++ dktX5_check_6
def dkwX5_check_4 : List UInt8 := [6, 46, 79, 42, 180, 0, 64, 29, 4, 96, 42, 180, 0, 7, 16, 28, 46, 79, 132, 3, 2, 132, 4, 1]
abbrev dktX5_check_4 : List UInt8 := dkwX5_check_4 ++ dktX5_check_5
def dkwX5_check_3 : List UInt8 := [180, 0, 7, 5, 46, 17, 39, 15, 162, 0, 43, 42, 182, 0, 144, 42, 180, 0, 64, 29, 42, 180, 0, 7]
abbrev dktX5_check_3 : List UInt8 := dkwX5_check_3 ++ dktX5_check_4
def dkwX5_check_2 : List UInt8 := [42, 42, 180, 0, 13, 42, 180, 0, 7, 182, 1, 66, 3, 62, 3, 54, 4, 21, 4, 27, 162, 0, 55, 42]
abbrev dktX5_check_2 : List UInt8 := dkwX5_check_2 ++ dktX5_check_3
def dkwX5_check_1 : List UInt8 := [172, 42, 180, 1, 62, 154, 0, 7, 19, 1, 56, 172, 42, 42, 180, 0, 7, 42, 180, 0, 16, 182, 1, 66]
abbrev dktX5_check_1 : List UInt8 := dkwX5_check_1 ++ dktX5_check_2
def dkwX5_check_0 : List UInt8 := [42, 180, 1, 57, 61, 42, 3, 181, 1, 57, 27, 133, 10, 20, 1, 60, 184, 0, 68, 154, 0, 6, 18, 83]
abbrev dktX5_check_0 : List UInt8 := dkwX5_check_0 ++ dktX5_check_1
theorem dksX5_check_0 : cX5_check.data.toList.drop 0 = dktX5_check_0 := by decide +kernel
theorem dksX5_check_1 : cX5_check.data.toList.drop 24 = dktX5_check_1 := dk_seg dksX5_check_0 24 rfl rfl
theorem dksX5_check_2 : cX5_check.data.toList.drop 48 = dktX5_check_2 := dk_seg dksX5_check_1 24 rfl rfl
theorem dksX5_check_3 : cX5_check.data.toList.drop 72 = dktX5_check_3 := dk_seg dksX5_check_2 24 rfl rfl
theorem dksX5_check_4 : cX5_check.data.toList.drop 96 = dktX5_check_4 := dk_seg dksX5_check_3 24 rfl rfl
theorem dksX5_check_5 : cX5_check.data.toList.drop 120 = dktX5_check_5 := dk_seg dksX5_check_4 24 rfl rfl
theorem dksX5_check_6 : cX5_check.data.toList.drop 144 = dktX5_check_6 := dk_seg dksX5_check_5 24 rfl rfl
theorem dksX5_check_7 : cX5_check.data.toList.drop 167 = dktX5_check_7 := dk_seg dksX5_check_6 23 rfl rfl
theorem dksX5_check_8 : cX5_check.data.toList.drop 190 = dktX5_check_8 := dk_seg dksX5_check_7 23 rfl rfl
theorem dX5_check_0 : decode cX5_check 0 = .ok (.aload_n 0, 1) := dk_42 (dk_at dksX5_check_0 0 rfl rfl)
theorem dX5_check_1 : decode cX5_check 1 = .ok (.getfield 313, 3) := dk_180 1 57 (dk_at dksX5_check_0 1 rfl rfl)
theorem dX5_check_4 : decode cX5_check 4 = .ok (.istore_n 2, 1) := dk_61 (dk_at dksX5_check_0 4 rfl rfl)
theorem dX5_check_5 : decode cX5_check 5 = .ok (.aload_n 0, 1) := dk_42 (dk_at dksX5_check_0 5 rfl rfl)
theorem dX5_check_6 : decode cX5_check 6 = .ok (.iconst 0, 1) := dk_3 (dk_at dksX5_check_0 6 rfl rfl)
theorem dX5_check_7 : decode cX5_check 7 = .ok (.putfield 313, 3) := dk_181 1 57 (dk_at dksX5_check_0 7 rfl rfl)
theorem dX5_check_10 : decode cX5_check 10 = .ok (.iload_n 1, 1) := dk_27 (dk_at dksX5_check_0 10 rfl rfl)
theorem dX5_check_11 : decode cX5_check 11 = .ok (.i2l, 1) := dk_133 (dk_at dksX5_check_0 11 rfl rfl)
theorem dX5_check_12 : decode cX5_check 12 = .ok (.lconst 1, 1) := dk_10 (dk_at dksX5_check_0 12 rfl rfl)
theorem dX5_check_13 : decode cX5_check 13 = .ok (.ldc2_w 316, 3) := dk_20 1 60 (dk_at dksX5_check_0 13 rfl rfl)
theorem dX5_check_16 : decode cX5_check 16 = .ok (.invokestatic 68, 3) := dk_184 0 68 (dk_at dksX5_check_0 16 rfl rfl)
theorem dX5_check_19 : decode cX5_check 19 = .ok (.ifCond .ne 6, 3) := dk_154 0 6 (dk_at dksX5_check_0 19 rfl rfl)
theorem dX5_check_22 : decode cX5_check 22 = .ok (.ldc 83, 2) := dk_18 83 (dk_at dksX5_check_0 22 rfl rfl)
theorem dX5_check_24 : decode cX5_check 24 = .ok (.ireturn, 1) := dk_172 (dk_at dksX5_check_1 0 rfl rfl)
theorem dX5_check_25 : decode cX5_check 25 = .ok (.aload_n 0, 1) := dk_42 (dk_at dksX5_check_1 1 rfl rfl)
theorem dX5_check_26 : decode cX5_check 26 = .ok (.getfield 318, 3) := dk_180 1 62 (dk_at dksX5_check_1 2 rfl rfl)
theorem dX5_check_29 : decode cX5_check 29 = .ok (.ifCond .ne 7, 3) := dk_154 0 7 (dk_at dksX5_check_1 5 rfl rfl)
theorem dX5_check_32 : decode cX5_check 32 = .ok (.ldc_w 312, 3) := dk_19 1 56 (dk_at dksX5_check_1 8 rfl rfl)
theorem dX5_check_35 : decode cX5_check 35 = .ok (.ireturn, 1) := dk_172 (dk_at dksX5_check_1 11 rfl rfl)
theorem dX5_check_36 : decode cX5_check 36 = .ok (.aload_n 0, 1) := dk_42 (dk_at dksX5_check_1 12 rfl rfl)
theorem dX5_check_37 : decode cX5_check 37 = .ok (.aload_n 0, 1) := dk_42 (dk_at dksX5_check_1 13 rfl rfl)
theorem dX5_check_38 : decode cX5_check 38 = .ok (.getfield 7, 3) := dk_180 0 7 (dk_at dksX5_check_1 14 rfl rfl)
theorem dX5_check_41 : decode cX5_check 41 = .ok (.aload_n 0, 1) := dk_42 (dk_at dksX5_check_1 17 rfl rfl)
theorem dX5_check_42 : decode cX5_check 42 = .ok (.getfield 16, 3) := dk_180 0 16 (dk_at dksX5_check_1 18 rfl rfl)
theorem dX5_check_45 : decode cX5_check 45 = .ok (.invokevirtual 322, 3) := dk_182 1 66 (dk_at dksX5_check_1 21 rfl rfl)
theorem dX5_check_48 : decode cX5_check 48 = .ok (.aload_n 0, 1) := dk_42 (dk_at dksX5_check_2 0 rfl rfl)
theorem dX5_check_49 : decode cX5_check 49 = .ok (.aload_n 0, 1) := dk_42 (dk_at dksX5_check_2 1 rfl rfl)
theorem dX5_check_50 : decode cX5_check 50 = .ok (.getfield 13, 3) := dk_180 0 13 (dk_at dksX5_check_2 2 rfl rfl)
theorem dX5_check_53 : decode cX5_check 53 = .ok (.aload_n 0, 1) := dk_42 (dk_at dksX5_check_2 5 rfl rfl)
theorem dX5_check_54 : decode cX5_check 54 = .ok (.getfield 7, 3) := dk_180 0 7 (dk_at dksX5_check_2 6 rfl rfl)
theorem dX5_check_57 : decode cX5_check 57 = .ok (.invokevirtual 322, 3) := dk_182 1 66 (dk_at dksX5_check_2 9 rfl rfl)
theorem dX5_check_60 : decode cX5_check 60 = .ok (.iconst 0, 1) := dk_3 (dk_at dksX5_check_2 12 rfl rfl)
theorem dX5_check_61 : decode cX5_check 61 = .ok (.istore_n 3, 1) := dk_62 (dk_at dksX5_check_2 13 rfl rfl)
theorem dX5_check_62 : decode cX5_check 62 = .ok (.iconst 0, 1) := dk_3 (dk_at dksX5_check_2 14 rfl rfl)
theorem dX5_check_63 : decode cX5_check 63 = .ok (.istore 4, 2) := dk_54 4 (dk_at dksX5_check_2 15 rfl rfl)
theorem dX5_check_65 : decode cX5_check 65 = .ok (.iload 4, 2) := dk_21 4 (dk_at dksX5_check_2 17 rfl rfl)
theorem dX5_check_67 : decode cX5_check 67 = .ok (.iload_n 1, 1) := dk_27 (dk_at dksX5_check_2 19 rfl rfl)
theorem dX5_check_68 : decode cX5_check 68 = .ok (.if_icmp .ge 55, 3) := dk_162 0 55 (dk_at dksX5_check_2 20 rfl rfl)
theorem dX5_check_71 : decode cX5_check 71 = .ok (.aload_n 0, 1) := dk_42 (dk_at dksX5_check_2 23 rfl rfl)
theorem dX5_check_72 : decode cX5_check 72 = .ok (.getfield 7, 3) := dk_180 0 7 (dk_at dksX5_check_3 0 rfl rfl)
theorem dX5_check_75 : decode cX5_check 75 = .ok (.iconst 2, 1) := dk_5 (dk_at dksX5_check_3 3 rfl rfl)
theorem dX5_check_76 : decode cX5_check 76 = .ok (.iaload, 1) := dk_46 (dk_at dksX5_check_3 4 rfl rfl)
theorem dX5_check_77 : decode cX5_check 77 = .ok (.sipush 9999, 3) := dk_17 39 15 (dk_at dksX5_check_3 5 rfl rfl)
theorem dX5_check_80 : decode cX5_check 80 = .ok (.if_icmp .ge 43, 3) := dk_162 0 43 (dk_at dksX5_check_3 8 rfl rfl)
theorem dX5_check_83 : decode cX5_check 83 = .ok (.aload_n 0, 1) := dk_42 (dk_at dksX5_check_3 11 rfl rfl)
theorem dX5_check_84 : decode cX5_check 84 = .ok (.invokevirtual 144, 3) := dk_182 0 144 (dk_at dksX5_check_3 12 rfl rfl)
theorem dX5_check_87 : decode cX5_check 87 = .ok (.aload_n 0, 1) := dk_42 (dk_at dksX5_check_3 15 rfl rfl)
theorem dX5_check_88 : decode cX5_check 88 = .ok (.getfield 64, 3) := dk_180 0 64 (dk_at dksX5_check_3 16 rfl rfl)
theorem dX5_check_91 : decode cX5_check 91 = .ok (.iload_n 3, 1) := dk_29 (dk_at dksX5_check_3 19 rfl rfl)
theorem dX5_check_92 : decode cX5_check 92 = .ok (.aload_n 0, 1) := dk_42 (dk_at dksX5_check_3 20 rfl rfl)
theorem dX5_check_93 : decode cX5_check 93 = .ok (.getfield 7, 3) := dk_180 0 7 (dk_at dksX5_check_3 21 rfl rfl)
theorem dX5_check_96 : decode cX5_check 96 = .ok (.iconst 3, 1) := dk_6 (dk_at dksX5_check_4 0 rfl rfl)
theorem dX5_check_97 : decode cX5_check 97 = .ok (.iaload, 1) := dk_46 (dk_at dksX5_check_4 1 rfl rfl)
theorem dX5_check_98 : decode cX5_check 98 = .ok (.iastore, 1) := dk_79 (dk_at dksX5_check_4 2 rfl rfl)
theorem dX5_check_99 : decode cX5_check 99 = .ok (.aload_n 0, 1) := dk_42 (dk_at dksX5_check_4 3 rfl rfl)
theorem dX5_check_100 : decode cX5_check 100 = .ok (.getfield 64, 3) := dk_180 0 64 (dk_at dksX5_check_4 4 rfl rfl)
theorem dX5_check_103 : decode cX5_check 103 = .ok (.iload_n 3, 1) := dk_29 (dk_at dksX5_check_4 7 rfl rfl)
theorem dX5_check_104 : decode cX5_check 104 = .ok (.iconst 1, 1) := dk_4 (dk_at dksX5_check_4 8 rfl rfl)
theorem dX5_check_105 : decode cX5_check 105 = .ok (.iadd, 1) := dk_96 (dk_at dksX5_check_4 9 rfl rfl)
theorem dX5_check_106 : decode cX5_check 106 = .ok (.aload_n 0, 1) := dk_42 (dk_at dksX5_check_4 10 rfl rfl)
theorem dX5_check_107 : decode cX5_check 107 = .ok (.getfield 7, 3) := dk_180 0 7 (dk_at dksX5_check_4 11 rfl rfl)
theorem dX5_check_110 : decode cX5_check 110 = .ok (.bipush 28, 2) := dk_16 28 (dk_at dksX5_check_4 14 rfl rfl)
theorem dX5_check_112 : decode cX5_check 112 = .ok (.iaload, 1) := dk_46 (dk_at dksX5_check_4 16 rfl rfl)
theorem dX5_check_113 : decode cX5_check 113 = .ok (.iastore, 1) := dk_79 (dk_at dksX5_check_4 17 rfl rfl)
theorem dX5_check_114 : decode cX5_check 114 = .ok (.iinc 3 2, 3) := dk_132 3 2 (dk_at dksX5_check_4 18 rfl rfl)
theorem dX5_check_117 : decode cX5_check 117 = .ok (.iinc 4 1, 3) := dk_132 4 1 (dk_at dksX5_check_4 21 rfl rfl)
theorem dX5_check_120 : decode cX5_check 120 = .ok (.goto (-55), 3) := dk_167 255 201 (dk_at dksX5_check_5 0 rfl rfl)
theorem dX5_check_123 : decode cX5_check 123 = .ok (.aload_n 0, 1) := dk_42 (dk_at dksX5_check_5 3 rfl rfl)
theorem dX5_check_124 : decode cX5_check 124 = .ok (.aload_n 0, 1) := dk_42 (dk_at dksX5_check_5 4 rfl rfl)
theorem dX5_check_125 : decode cX5_check 125 = .ok (.getfield 16, 3) := dk_180 0 16 (dk_at dksX5_check_5 5 rfl rfl)
theorem dX5_check_128 : decode cX5_check 128 = .ok (.aload_n 0, 1) := dk_42 (dk_at dksX5_check_5 8 rfl rfl)
theorem dX5_check_129 : decode cX5_check 129 = .ok (.getfield 7, 3) := dk_180 0 7 (dk_at dksX5_check_5 9 rfl rfl)
theorem dX5_check_132 : decode cX5_check 132 = .ok (.invokevirtual 322, 3) := dk_182 1 66 (dk_at dksX5_check_5 12 rfl rfl)
theorem dX5_check_135 : decode cX5_check 135 = .ok (.iconst 0, 1) := dk_3 (dk_at dksX5_check_5 15 rfl rfl)
theorem dX5_check_136 : decode cX5_check 136 = .ok (.istore 4, 2) := dk_54 4 (dk_at dksX5_check_5 16 rfl rfl)
theorem dX5_check_138 : decode cX5_check 138 = .ok (.iload 4, 2) := dk_21 4 (dk_at dksX5_check_5 18 rfl rfl)
theorem dX5_check_140 : decode cX5_check 140 = .ok (.iload_n 2, 1) := dk_28 (dk_at dksX5_check_5 20 rfl rfl)
theorem dX5_check_141 : decode cX5_check 141 = .ok (.if_icmp .ge 32, 3) := dk_162 0 32 (dk_at dksX5_check_5 21 rfl rfl)
theorem dX5_check_144 : decode cX5_check 144 = .ok (.iload 4, 2) := dk_21 4 (dk_at dksX5_check_6 0 rfl rfl)
theorem dX5_check_146 : decode cX5_check 146 = .ok (.iload_n 3, 1) := dk_29 (dk_at dksX5_check_6 2 rfl rfl)
theorem dX5_check_147 : decode cX5_check 147 = .ok (.if_icmp .ge 26, 3) := dk_162 0 26 (dk_at dksX5_check_6 3 rfl rfl)
theorem dX5_check_150 : decode cX5_check 150 = .ok (.aload_n 0, 1) := dk_42 (dk_at dksX5_check_6 6 rfl rfl)
theorem dX5_check_151 : decode cX5_check 151 = .ok (.getfield 61, 3) := dk_180 0 61 (dk_at dksX5_check_6 7 rfl rfl)
theorem dX5_check_154 : decode cX5_check 154 = .ok (.iload 4, 2) := dk_21 4 (dk_at dksX5_check_6 10 rfl rfl)
theorem dX5_check_156 : decode cX5_check 156 = .ok (.iaload, 1) := dk_46 (dk_at dksX5_check_6 12 rfl rfl)
theorem dX5_check_157 : decode cX5_check 157 = .ok (.aload_n 0, 1) := dk_42 (dk_at dksX5_check_6 13 rfl rfl)
theorem dX5_check_158 : decode cX5_check 158 = .ok (.getfield 64, 3) := dk_180 0 64 (dk_at dksX5_check_6 14 rfl rfl)
theorem dX5_check_161 : decode cX5_check 161 = .ok (.iload 4, 2) := dk_21 4 (dk_at dksX5_check_6 17 rfl rfl)
theorem dX5_check_163 : decode cX5_check 163 = .ok (.iaload, 1) := dk_46 (dk_at dksX5_check_6 19 rfl rfl)
theorem dX5_check_164 : decode cX5_check 164 = .ok (.if_icmp .ne 9, 3) := dk_160 0 9 (dk_at dksX5_check_6 20 rfl rfl)
theorem dX5_check_167 : decode cX5_check 167 = .ok (.iinc 4 1, 3) := dk_132 4 1 (dk_at dksX5_check_7 0 rfl rfl)
theorem dX5_check_170 : decode cX5_check 170 = .ok (.goto (-32), 3) := dk_167 255 224 (dk_at dksX5_check_7 3 rfl rfl)
theorem dX5_check_173 : decode cX5_check 173 = .ok (.iload 4, 2) := dk_21 4 (dk_at dksX5_check_7 6 rfl rfl)
theorem dX5_check_175 : decode cX5_check 175 = .ok (.iload_n 2, 1) := dk_28 (dk_at dksX5_check_7 8 rfl rfl)
theorem dX5_check_176 : decode cX5_check 176 = .ok (.if_icmp .ne 13, 3) := dk_160 0 13 (dk_at dksX5_check_7 9 rfl rfl)
theorem dX5_check_179 : decode cX5_check 179 = .ok (.iload 4, 2) := dk_21 4 (dk_at dksX5_check_7 12 rfl rfl)
theorem dX5_check_181 : decode cX5_check 181 = .ok (.iload_n 3, 1) := dk_29 (dk_at dksX5_check_7 14 rfl rfl)
theorem dX5_check_182 : decode cX5_check 182 = .ok (.if_icmp .ne 7, 3) := dk_160 0 7 (dk_at dksX5_check_7 15 rfl rfl)
theorem dX5_check_185 : decode cX5_check 185 = .ok (.iconst 0, 1) := dk_3 (dk_at dksX5_check_7 18 rfl rfl)
theorem dX5_check_186 : decode cX5_check 186 = .ok (.goto 7, 3) := dk_167 0 7 (dk_at dksX5_check_7 19 rfl rfl)
theorem dX5_check_189 : decode cX5_check 189 = .ok (.iconst 1, 1) := dk_4 (dk_at dksX5_check_7 22 rfl rfl)
theorem dX5_check_190 : decode cX5_check 190 = .ok (.iload 4, 2) := dk_21 4 (dk_at dksX5_check_8 0 rfl rfl)
theorem dX5_check_192 : decode cX5_check 192 = .ok (.iadd, 1) := dk_96 (dk_at dksX5_check_8 2 rfl rfl)
theorem dX5_check_193 : decode cX5_check 193 = .ok (.ireturn, 1) := dk_172 (dk_at dksX5_check_8 3 rfl rfl)
abbrev cX5_setAside : ByteArray := prog_18_method_95_code
def yX5_setAside : MethodName := ⟨RX5, "setAside", "([I[I)V"⟩
def dkwX5_setAside_0 : List UInt8 := [3, 62, 29, 17, 11, 24, 162, 0, 15, 44, 29, 43, 29, 46, 79, 132, 3, 1, 167, 255, 240, 177]
abbrev dktX5_setAside_0 : List UInt8 := dkwX5_setAside_0 ++ []
theorem dksX5_setAside_0 : cX5_setAside.data.toList.drop 0 = dktX5_setAside_0 := by decide +kernel
theorem dX5_setAside_0 : decode cX5_setAside 0 = .ok (.iconst 0, 1) := dk_3 (dk_at dksX5_setAside_0 0 rfl rfl)
theorem dX5_setAside_1 : decode cX5_setAside 1 = .ok (.istore_n 3, 1) := dk_62 (dk_at dksX5_setAside_0 1 rfl rfl)
theorem dX5_setAside_2 : decode cX5_setAside 2 = .ok (.iload_n 3, 1) := dk_29 (dk_at dksX5_setAside_0 2 rfl rfl)
theorem dX5_setAside_3 : decode cX5_setAside 3 = .ok (.sipush 2840, 3) := dk_17 11 24 (dk_at dksX5_setAside_0 3 rfl rfl)
theorem dX5_setAside_6 : decode cX5_setAside 6 = .ok (.if_icmp .ge 15, 3) := dk_162 0 15 (dk_at dksX5_setAside_0 6 rfl rfl)
theorem dX5_setAside_9 : decode cX5_setAside 9 = .ok (.aload_n 2, 1) := dk_44 (dk_at dksX5_setAside_0 9 rfl rfl)
theorem dX5_setAside_10 : decode cX5_setAside 10 = .ok (.iload_n 3, 1) := dk_29 (dk_at dksX5_setAside_0 10 rfl rfl)
theorem dX5_setAside_11 : decode cX5_setAside 11 = .ok (.aload_n 1, 1) := dk_43 (dk_at dksX5_setAside_0 11 rfl rfl)
theorem dX5_setAside_12 : decode cX5_setAside 12 = .ok (.iload_n 3, 1) := dk_29 (dk_at dksX5_setAside_0 12 rfl rfl)
theorem dX5_setAside_13 : decode cX5_setAside 13 = .ok (.iaload, 1) := dk_46 (dk_at dksX5_setAside_0 13 rfl rfl)
theorem dX5_setAside_14 : decode cX5_setAside 14 = .ok (.iastore, 1) := dk_79 (dk_at dksX5_setAside_0 14 rfl rfl)
theorem dX5_setAside_15 : decode cX5_setAside 15 = .ok (.iinc 3 1, 3) := dk_132 3 1 (dk_at dksX5_setAside_0 15 rfl rfl)
theorem dX5_setAside_18 : decode cX5_setAside 18 = .ok (.goto (-16), 3) := dk_167 255 240 (dk_at dksX5_setAside_0 18 rfl rfl)
theorem dX5_setAside_21 : decode cX5_setAside 21 = .ok (.return_, 1) := dk_177 (dk_at dksX5_setAside_0 21 rfl rfl)
abbrev cX5_keep : ByteArray := prog_18_method_97_code
def yX5_keep : MethodName := ⟨RX5, "keep", "()I"⟩
def dkwX5_keep_0 : List UInt8 := [42, 4, 181, 1, 62, 42, 42, 180, 0, 7, 42, 180, 0, 13, 182, 1, 66, 42, 180, 0, 7, 3, 46, 172]
abbrev dktX5_keep_0 : List UInt8 := dkwX5_keep_0 ++ []
theorem dksX5_keep_0 : cX5_keep.data.toList.drop 0 = dktX5_keep_0 := by decide +kernel
theorem dX5_keep_0 : decode cX5_keep 0 = .ok (.aload_n 0, 1) := dk_42 (dk_at dksX5_keep_0 0 rfl rfl)
theorem dX5_keep_1 : decode cX5_keep 1 = .ok (.iconst 1, 1) := dk_4 (dk_at dksX5_keep_0 1 rfl rfl)
theorem dX5_keep_2 : decode cX5_keep 2 = .ok (.putfield 318, 3) := dk_181 1 62 (dk_at dksX5_keep_0 2 rfl rfl)
theorem dX5_keep_5 : decode cX5_keep 5 = .ok (.aload_n 0, 1) := dk_42 (dk_at dksX5_keep_0 5 rfl rfl)
theorem dX5_keep_6 : decode cX5_keep 6 = .ok (.aload_n 0, 1) := dk_42 (dk_at dksX5_keep_0 6 rfl rfl)
theorem dX5_keep_7 : decode cX5_keep 7 = .ok (.getfield 7, 3) := dk_180 0 7 (dk_at dksX5_keep_0 7 rfl rfl)
theorem dX5_keep_10 : decode cX5_keep 10 = .ok (.aload_n 0, 1) := dk_42 (dk_at dksX5_keep_0 10 rfl rfl)
theorem dX5_keep_11 : decode cX5_keep 11 = .ok (.getfield 13, 3) := dk_180 0 13 (dk_at dksX5_keep_0 11 rfl rfl)
theorem dX5_keep_14 : decode cX5_keep 14 = .ok (.invokevirtual 322, 3) := dk_182 1 66 (dk_at dksX5_keep_0 14 rfl rfl)
theorem dX5_keep_17 : decode cX5_keep 17 = .ok (.aload_n 0, 1) := dk_42 (dk_at dksX5_keep_0 17 rfl rfl)
theorem dX5_keep_18 : decode cX5_keep 18 = .ok (.getfield 7, 3) := dk_180 0 7 (dk_at dksX5_keep_0 18 rfl rfl)
theorem dX5_keep_21 : decode cX5_keep 21 = .ok (.iconst 0, 1) := dk_3 (dk_at dksX5_keep_0 21 rfl rfl)
theorem dX5_keep_22 : decode cX5_keep 22 = .ok (.iaload, 1) := dk_46 (dk_at dksX5_keep_0 22 rfl rfl)
theorem dX5_keep_23 : decode cX5_keep 23 = .ok (.ireturn, 1) := dk_172 (dk_at dksX5_keep_0 23 rfl rfl)
abbrev cX5_back : ByteArray := prog_18_method_98_code
def yX5_back : MethodName := ⟨RX5, "back", "()I"⟩
def dkwX5_back_1 : List UInt8 := [180, 0, 7, 3, 46, 172]
abbrev dktX5_back_1 : List UInt8 := dkwX5_back_1 ++ []
def dkwX5_back_0 : List UInt8 := [42, 180, 1, 62, 154, 0, 7, 19, 1, 56, 172, 42, 42, 180, 0, 13, 42, 180, 0, 7, 182, 1, 66, 42]
abbrev dktX5_back_0 : List UInt8 := dkwX5_back_0 ++ dktX5_back_1
theorem dksX5_back_0 : cX5_back.data.toList.drop 0 = dktX5_back_0 := by decide +kernel
theorem dksX5_back_1 : cX5_back.data.toList.drop 24 = dktX5_back_1 := dk_seg dksX5_back_0 24 rfl rfl
theorem dX5_back_0 : decode cX5_back 0 = .ok (.aload_n 0, 1) := dk_42 (dk_at dksX5_back_0 0 rfl rfl)
theorem dX5_back_1 : decode cX5_back 1 = .ok (.getfield 318, 3) := dk_180 1 62 (dk_at dksX5_back_0 1 rfl rfl)
theorem dX5_back_4 : decode cX5_back 4 = .ok (.ifCond .ne 7, 3) := dk_154 0 7 (dk_at dksX5_back_0 4 rfl rfl)
theorem dX5_back_7 : decode cX5_back 7 = .ok (.ldc_w 312, 3) := dk_19 1 56 (dk_at dksX5_back_0 7 rfl rfl)
theorem dX5_back_10 : decode cX5_back 10 = .ok (.ireturn, 1) := dk_172 (dk_at dksX5_back_0 10 rfl rfl)
theorem dX5_back_11 : decode cX5_back 11 = .ok (.aload_n 0, 1) := dk_42 (dk_at dksX5_back_0 11 rfl rfl)
theorem dX5_back_12 : decode cX5_back 12 = .ok (.aload_n 0, 1) := dk_42 (dk_at dksX5_back_0 12 rfl rfl)
theorem dX5_back_13 : decode cX5_back 13 = .ok (.getfield 13, 3) := dk_180 0 13 (dk_at dksX5_back_0 13 rfl rfl)
theorem dX5_back_16 : decode cX5_back 16 = .ok (.aload_n 0, 1) := dk_42 (dk_at dksX5_back_0 16 rfl rfl)
theorem dX5_back_17 : decode cX5_back 17 = .ok (.getfield 7, 3) := dk_180 0 7 (dk_at dksX5_back_0 17 rfl rfl)
theorem dX5_back_20 : decode cX5_back 20 = .ok (.invokevirtual 322, 3) := dk_182 1 66 (dk_at dksX5_back_0 20 rfl rfl)
theorem dX5_back_23 : decode cX5_back 23 = .ok (.aload_n 0, 1) := dk_42 (dk_at dksX5_back_0 23 rfl rfl)
theorem dX5_back_24 : decode cX5_back 24 = .ok (.getfield 7, 3) := dk_180 0 7 (dk_at dksX5_back_1 0 rfl rfl)
theorem dX5_back_27 : decode cX5_back 27 = .ok (.iconst 0, 1) := dk_3 (dk_at dksX5_back_1 3 rfl rfl)
theorem dX5_back_28 : decode cX5_back 28 = .ok (.iaload, 1) := dk_46 (dk_at dksX5_back_1 4 rfl rfl)
theorem dX5_back_29 : decode cX5_back 29 = .ok (.ireturn, 1) := dk_172 (dk_at dksX5_back_1 5 rfl rfl)
abbrev cX5_count : ByteArray := prog_18_method_99_code
def yX5_count : MethodName := ⟨RX5, "count", "(I)I"⟩
def dkwX5_count_4 : List UInt8 := [42, 180, 0, 7, 16, 9, 46, 172, 18, 83, 172]
abbrev dktX5_count_4 : List UInt8 := dkwX5_count_4 ++ []
def dkwX5_count_3 : List UInt8 := [180, 0, 7, 16, 7, 46, 172, 42, 180, 0, 7, 4, 46, 172, 42, 180, 1, 57, 172, 42, 180, 0, 191, 172]
abbrev dktX5_count_3 : List UInt8 := dkwX5_count_3 ++ dktX5_count_4
def dkwX5_count_2 : List UInt8 := [42, 180, 0, 7, 3, 46, 172, 42, 180, 0, 7, 5, 46, 172, 42, 180, 0, 7, 16, 6, 46, 172, 42]
abbrev dktX5_count_2 : List UInt8 := dkwX5_count_2 ++ dktX5_count_3
def dkwX5_count_1 : List UInt8 := [170, 0, 0, 0, 0, 0, 102, 0, 0, 0, 0, 0, 0, 0, 7, 0, 0, 0, 47, 0, 0, 0, 54, 0, 0, 0, 61, 0, 0, 0, 69, 0, 0, 0, 77, 0, 0, 0, 84, 0, 0, 0, 89, 0, 0, 0, 94]
abbrev dktX5_count_1 : List UInt8 := dkwX5_count_1 ++ dktX5_count_2
def dkwX5_count_0 : List UInt8 := [27]
abbrev dktX5_count_0 : List UInt8 := dkwX5_count_0 ++ dktX5_count_1
theorem dksX5_count_0 : cX5_count.data.toList.drop 0 = dktX5_count_0 := by decide +kernel
theorem dksX5_count_1 : cX5_count.data.toList.drop 1 = dktX5_count_1 := dk_seg dksX5_count_0 1 rfl rfl
theorem dksX5_count_2 : cX5_count.data.toList.drop 48 = dktX5_count_2 := dk_seg dksX5_count_1 47 rfl rfl
theorem dksX5_count_3 : cX5_count.data.toList.drop 71 = dktX5_count_3 := dk_seg dksX5_count_2 23 rfl rfl
theorem dksX5_count_4 : cX5_count.data.toList.drop 95 = dktX5_count_4 := dk_seg dksX5_count_3 24 rfl rfl
theorem dX5_count_0 : decode cX5_count 0 = .ok (.iload_n 1, 1) := dk_27 (dk_at dksX5_count_0 0 rfl rfl)
theorem dX5_count_1 : decode cX5_count 1 = .ok (.tableswitch 102 0 7 #[47, 54, 61, 69, 77, 84, 89, 94], 47) := by decide +kernel
theorem dX5_count_48 : decode cX5_count 48 = .ok (.aload_n 0, 1) := dk_42 (dk_at dksX5_count_2 0 rfl rfl)
theorem dX5_count_49 : decode cX5_count 49 = .ok (.getfield 7, 3) := dk_180 0 7 (dk_at dksX5_count_2 1 rfl rfl)
theorem dX5_count_52 : decode cX5_count 52 = .ok (.iconst 0, 1) := dk_3 (dk_at dksX5_count_2 4 rfl rfl)
theorem dX5_count_53 : decode cX5_count 53 = .ok (.iaload, 1) := dk_46 (dk_at dksX5_count_2 5 rfl rfl)
theorem dX5_count_54 : decode cX5_count 54 = .ok (.ireturn, 1) := dk_172 (dk_at dksX5_count_2 6 rfl rfl)
theorem dX5_count_55 : decode cX5_count 55 = .ok (.aload_n 0, 1) := dk_42 (dk_at dksX5_count_2 7 rfl rfl)
theorem dX5_count_56 : decode cX5_count 56 = .ok (.getfield 7, 3) := dk_180 0 7 (dk_at dksX5_count_2 8 rfl rfl)
theorem dX5_count_59 : decode cX5_count 59 = .ok (.iconst 2, 1) := dk_5 (dk_at dksX5_count_2 11 rfl rfl)
theorem dX5_count_60 : decode cX5_count 60 = .ok (.iaload, 1) := dk_46 (dk_at dksX5_count_2 12 rfl rfl)
theorem dX5_count_61 : decode cX5_count 61 = .ok (.ireturn, 1) := dk_172 (dk_at dksX5_count_2 13 rfl rfl)
theorem dX5_count_62 : decode cX5_count 62 = .ok (.aload_n 0, 1) := dk_42 (dk_at dksX5_count_2 14 rfl rfl)
theorem dX5_count_63 : decode cX5_count 63 = .ok (.getfield 7, 3) := dk_180 0 7 (dk_at dksX5_count_2 15 rfl rfl)
theorem dX5_count_66 : decode cX5_count 66 = .ok (.bipush 6, 2) := dk_16 6 (dk_at dksX5_count_2 18 rfl rfl)
theorem dX5_count_68 : decode cX5_count 68 = .ok (.iaload, 1) := dk_46 (dk_at dksX5_count_2 20 rfl rfl)
theorem dX5_count_69 : decode cX5_count 69 = .ok (.ireturn, 1) := dk_172 (dk_at dksX5_count_2 21 rfl rfl)
theorem dX5_count_70 : decode cX5_count 70 = .ok (.aload_n 0, 1) := dk_42 (dk_at dksX5_count_2 22 rfl rfl)
theorem dX5_count_71 : decode cX5_count 71 = .ok (.getfield 7, 3) := dk_180 0 7 (dk_at dksX5_count_3 0 rfl rfl)
theorem dX5_count_74 : decode cX5_count 74 = .ok (.bipush 7, 2) := dk_16 7 (dk_at dksX5_count_3 3 rfl rfl)
theorem dX5_count_76 : decode cX5_count 76 = .ok (.iaload, 1) := dk_46 (dk_at dksX5_count_3 5 rfl rfl)
theorem dX5_count_77 : decode cX5_count 77 = .ok (.ireturn, 1) := dk_172 (dk_at dksX5_count_3 6 rfl rfl)
theorem dX5_count_78 : decode cX5_count 78 = .ok (.aload_n 0, 1) := dk_42 (dk_at dksX5_count_3 7 rfl rfl)
theorem dX5_count_79 : decode cX5_count 79 = .ok (.getfield 7, 3) := dk_180 0 7 (dk_at dksX5_count_3 8 rfl rfl)
theorem dX5_count_82 : decode cX5_count 82 = .ok (.iconst 1, 1) := dk_4 (dk_at dksX5_count_3 11 rfl rfl)
theorem dX5_count_83 : decode cX5_count 83 = .ok (.iaload, 1) := dk_46 (dk_at dksX5_count_3 12 rfl rfl)
theorem dX5_count_84 : decode cX5_count 84 = .ok (.ireturn, 1) := dk_172 (dk_at dksX5_count_3 13 rfl rfl)
theorem dX5_count_85 : decode cX5_count 85 = .ok (.aload_n 0, 1) := dk_42 (dk_at dksX5_count_3 14 rfl rfl)
theorem dX5_count_86 : decode cX5_count 86 = .ok (.getfield 313, 3) := dk_180 1 57 (dk_at dksX5_count_3 15 rfl rfl)
theorem dX5_count_89 : decode cX5_count 89 = .ok (.ireturn, 1) := dk_172 (dk_at dksX5_count_3 18 rfl rfl)
theorem dX5_count_90 : decode cX5_count 90 = .ok (.aload_n 0, 1) := dk_42 (dk_at dksX5_count_3 19 rfl rfl)
theorem dX5_count_91 : decode cX5_count 91 = .ok (.getfield 191, 3) := dk_180 0 191 (dk_at dksX5_count_3 20 rfl rfl)
theorem dX5_count_94 : decode cX5_count 94 = .ok (.ireturn, 1) := dk_172 (dk_at dksX5_count_3 23 rfl rfl)
theorem dX5_count_95 : decode cX5_count 95 = .ok (.aload_n 0, 1) := dk_42 (dk_at dksX5_count_4 0 rfl rfl)
theorem dX5_count_96 : decode cX5_count 96 = .ok (.getfield 7, 3) := dk_180 0 7 (dk_at dksX5_count_4 1 rfl rfl)
theorem dX5_count_99 : decode cX5_count 99 = .ok (.bipush 9, 2) := dk_16 9 (dk_at dksX5_count_4 4 rfl rfl)
theorem dX5_count_101 : decode cX5_count 101 = .ok (.iaload, 1) := dk_46 (dk_at dksX5_count_4 6 rfl rfl)
theorem dX5_count_102 : decode cX5_count 102 = .ok (.ireturn, 1) := dk_172 (dk_at dksX5_count_4 7 rfl rfl)
theorem dX5_count_103 : decode cX5_count 103 = .ok (.ldc 83, 2) := dk_18 83 (dk_at dksX5_count_4 8 rfl rfl)
theorem dX5_count_105 : decode cX5_count 105 = .ok (.ireturn, 1) := dk_172 (dk_at dksX5_count_4 10 rfl rfl)
theorem q90 : (Jvm.Cond.initialized "StrokesHeardModel") ∈ lw_all := lw_g (lw_at lw_m1 9 rfl) rfl
theorem q1184 : (Jvm.Cond.instantiable "StrokesHeardModel" (32 : Nat)) ∈ lw_all := lw_g (lw_at lw_m5 143 rfl) rfl
theorem q1186 : (Jvm.Cond.instanceMethod ({ cls := "StrokesHeardModel", name := "<init>", desc := "()V" } : Jvm.MethodName)) ∈ lw_all := lw_g (lw_at lw_m5 145 rfl) rfl
theorem q1187 : (Jvm.Cond.code ({ cls := "StrokesHeardModel", name := "<init>", desc := "()V" } : Jvm.MethodName) prog_18_method_1_code (2 : Nat) (Option.none : Option Jvm.ClassFile.FieldType)) ∈ lw_all := lw_g (lw_at lw_m5 146 rfl) rfl
theorem q1188 : (Jvm.Cond.methodLink "StrokesHeardModel" (1 : Nat) ({ cls := "java/lang/Object", name := "<init>", desc := "()V" } : Jvm.MethodName)) ∈ lw_all := lw_g (lw_at lw_m5 147 rfl) rfl
theorem q1189 : (Jvm.Cond.fieldLink "StrokesHeardModel" (7 : Nat) "StrokesHeardModel" "s" "[I") ∈ lw_all := lw_g (lw_at lw_m5 148 rfl) rfl
theorem q1190 : (Jvm.Cond.fieldLink "StrokesHeardModel" (13 : Nat) "StrokesHeardModel" "image" "[I") ∈ lw_all := lw_g (lw_at lw_m5 149 rfl) rfl
theorem q1191 : (Jvm.Cond.fieldLink "StrokesHeardModel" (16 : Nat) "StrokesHeardModel" "aside" "[I") ∈ lw_all := lw_g (lw_at lw_m5 150 rfl) rfl
theorem q1192 : (Jvm.Cond.fieldLink "StrokesHeardModel" (318 : Nat) "StrokesHeardModel" "hasImage" "Z") ∈ lw_all := lw_g (lw_at lw_m5 151 rfl) rfl
theorem q1193 : (Jvm.Cond.fieldLink "StrokesHeardModel" (19 : Nat) "StrokesHeardModel" "tSort" "[I") ∈ lw_all := lw_g (lw_at lw_m5 152 rfl) rfl
theorem q1194 : (Jvm.Cond.fieldLink "StrokesHeardModel" (22 : Nat) "StrokesHeardModel" "tSize" "[I") ∈ lw_all := lw_g (lw_at lw_m5 153 rfl) rfl
theorem q1195 : (Jvm.Cond.fieldLink "StrokesHeardModel" (25 : Nat) "StrokesHeardModel" "tNumber" "[I") ∈ lw_all := lw_g (lw_at lw_m5 154 rfl) rfl
theorem q1196 : (Jvm.Cond.fieldLink "StrokesHeardModel" (28 : Nat) "StrokesHeardModel" "held" "[I") ∈ lw_all := lw_g (lw_at lw_m5 155 rfl) rfl
theorem q1197 : (Jvm.Cond.fieldLink "StrokesHeardModel" (31 : Nat) "StrokesHeardModel" "heldNumber" "[I") ∈ lw_all := lw_g (lw_at lw_m5 156 rfl) rfl
theorem q1198 : (Jvm.Cond.fieldLink "StrokesHeardModel" (34 : Nat) "StrokesHeardModel" "heldWorth" "[I") ∈ lw_all := lw_g (lw_at lw_m5 157 rfl) rfl
theorem q1199 : (Jvm.Cond.fieldLink "StrokesHeardModel" (37 : Nat) "StrokesHeardModel" "heldSize" "[I") ∈ lw_all := lw_g (lw_at lw_m5 158 rfl) rfl
theorem q1200 : (Jvm.Cond.fieldLink "StrokesHeardModel" (40 : Nat) "StrokesHeardModel" "heldRow" "[I") ∈ lw_all := lw_g (lw_at lw_m5 159 rfl) rfl
theorem q1201 : (Jvm.Cond.fieldLink "StrokesHeardModel" (43 : Nat) "StrokesHeardModel" "all" "[I") ∈ lw_all := lw_g (lw_at lw_m5 160 rfl) rfl
theorem q1202 : (Jvm.Cond.fieldLink "StrokesHeardModel" (46 : Nat) "StrokesHeardModel" "close" "[I") ∈ lw_all := lw_g (lw_at lw_m5 161 rfl) rfl
theorem q1203 : (Jvm.Cond.fieldLink "StrokesHeardModel" (49 : Nat) "StrokesHeardModel" "tape" "[I") ∈ lw_all := lw_g (lw_at lw_m5 162 rfl) rfl
theorem q1204 : (Jvm.Cond.fieldLink "StrokesHeardModel" (191 : Nat) "StrokesHeardModel" "taped" "I") ∈ lw_all := lw_g (lw_at lw_m5 163 rfl) rfl
theorem q1205 : (Jvm.Cond.fieldLink "StrokesHeardModel" (209 : Nat) "StrokesHeardModel" "begin" "I") ∈ lw_all := lw_g (lw_at lw_m5 164 rfl) rfl
theorem q1206 : (Jvm.Cond.fieldLink "StrokesHeardModel" (203 : Nat) "StrokesHeardModel" "behind" "I") ∈ lw_all := lw_g (lw_at lw_m5 165 rfl) rfl
theorem q1207 : (Jvm.Cond.fieldLink "StrokesHeardModel" (206 : Nat) "StrokesHeardModel" "token" "I") ∈ lw_all := lw_g (lw_at lw_m5 166 rfl) rfl
theorem q1208 : (Jvm.Cond.fieldLink "StrokesHeardModel" (221 : Nat) "StrokesHeardModel" "number" "I") ∈ lw_all := lw_g (lw_at lw_m5 167 rfl) rfl
theorem q1209 : (Jvm.Cond.fieldLink "StrokesHeardModel" (215 : Nat) "StrokesHeardModel" "letter" "I") ∈ lw_all := lw_g (lw_at lw_m5 168 rfl) rfl
theorem q1210 : (Jvm.Cond.fieldLink "StrokesHeardModel" (271 : Nat) "StrokesHeardModel" "deep" "I") ∈ lw_all := lw_g (lw_at lw_m5 169 rfl) rfl
theorem q1211 : (Jvm.Cond.fieldLink "StrokesHeardModel" (268 : Nat) "StrokesHeardModel" "turned" "I") ∈ lw_all := lw_g (lw_at lw_m5 170 rfl) rfl
theorem q1212 : (Jvm.Cond.fieldLink "StrokesHeardModel" (235 : Nat) "StrokesHeardModel" "laid" "I") ∈ lw_all := lw_g (lw_at lw_m5 171 rfl) rfl
theorem q1213 : (Jvm.Cond.fieldLink "StrokesHeardModel" (232 : Nat) "StrokesHeardModel" "laidAt" "I") ∈ lw_all := lw_g (lw_at lw_m5 172 rfl) rfl
theorem q1214 : (Jvm.Cond.fieldLink "StrokesHeardModel" (262 : Nat) "StrokesHeardModel" "said" "I") ∈ lw_all := lw_g (lw_at lw_m5 173 rfl) rfl
theorem q1215 : (Jvm.Cond.fieldLink "StrokesHeardModel" (52 : Nat) "StrokesHeardModel" "named" "[I") ∈ lw_all := lw_g (lw_at lw_m5 174 rfl) rfl
theorem q1216 : (Jvm.Cond.fieldLink "StrokesHeardModel" (55 : Nat) "StrokesHeardModel" "pile" "[I") ∈ lw_all := lw_g (lw_at lw_m5 175 rfl) rfl
theorem q1217 : (Jvm.Cond.fieldLink "StrokesHeardModel" (58 : Nat) "StrokesHeardModel" "carried" "[I") ∈ lw_all := lw_g (lw_at lw_m5 176 rfl) rfl
theorem q1218 : (Jvm.Cond.fieldLink "StrokesHeardModel" (61 : Nat) "StrokesHeardModel" "waits" "[I") ∈ lw_all := lw_g (lw_at lw_m5 177 rfl) rfl
theorem q1219 : (Jvm.Cond.fieldLink "StrokesHeardModel" (313 : Nat) "StrokesHeardModel" "waiting" "I") ∈ lw_all := lw_g (lw_at lw_m5 178 rfl) rfl
theorem q1220 : (Jvm.Cond.fieldLink "StrokesHeardModel" (64 : Nat) "StrokesHeardModel" "rowDue" "[I") ∈ lw_all := lw_g (lw_at lw_m5 179 rfl) rfl
theorem q1221 : (Jvm.Cond.laysFinal "StrokesHeardModel" "StrokesHeardModel" "s" "[I") ∈ lw_all := lw_g (lw_at lw_m5 180 rfl) rfl
theorem q1222 : (Jvm.Cond.soleField "StrokesHeardModel" "s") ∈ lw_all := lw_g (lw_at lw_m5 181 rfl) rfl
theorem q1223 : (Jvm.Cond.laysFinal "StrokesHeardModel" "StrokesHeardModel" "image" "[I") ∈ lw_all := lw_g (lw_at lw_m5 182 rfl) rfl
theorem q1224 : (Jvm.Cond.soleField "StrokesHeardModel" "image") ∈ lw_all := lw_g (lw_at lw_m5 183 rfl) rfl
theorem q1225 : (Jvm.Cond.laysFinal "StrokesHeardModel" "StrokesHeardModel" "aside" "[I") ∈ lw_all := lw_g (lw_at lw_m5 184 rfl) rfl
theorem q1226 : (Jvm.Cond.soleField "StrokesHeardModel" "aside") ∈ lw_all := lw_g (lw_at lw_m5 185 rfl) rfl
theorem q1227 : (Jvm.Cond.lays "StrokesHeardModel" "StrokesHeardModel" "hasImage" "Z") ∈ lw_all := lw_g (lw_at lw_m5 186 rfl) rfl
theorem q1228 : (Jvm.Cond.soleField "StrokesHeardModel" "hasImage") ∈ lw_all := lw_g (lw_at lw_m5 187 rfl) rfl
theorem q1229 : (Jvm.Cond.laysFinal "StrokesHeardModel" "StrokesHeardModel" "tSort" "[I") ∈ lw_all := lw_g (lw_at lw_m5 188 rfl) rfl
theorem q1230 : (Jvm.Cond.soleField "StrokesHeardModel" "tSort") ∈ lw_all := lw_g (lw_at lw_m5 189 rfl) rfl
theorem q1231 : (Jvm.Cond.laysFinal "StrokesHeardModel" "StrokesHeardModel" "tSize" "[I") ∈ lw_all := lw_g (lw_at lw_m5 190 rfl) rfl
theorem q1232 : (Jvm.Cond.soleField "StrokesHeardModel" "tSize") ∈ lw_all := lw_g (lw_at lw_m5 191 rfl) rfl
theorem q1233 : (Jvm.Cond.laysFinal "StrokesHeardModel" "StrokesHeardModel" "tNumber" "[I") ∈ lw_all := lw_g (lw_at lw_m5 192 rfl) rfl
theorem q1234 : (Jvm.Cond.soleField "StrokesHeardModel" "tNumber") ∈ lw_all := lw_g (lw_at lw_m5 193 rfl) rfl
theorem q1235 : (Jvm.Cond.laysFinal "StrokesHeardModel" "StrokesHeardModel" "held" "[I") ∈ lw_all := lw_g (lw_at lw_m5 194 rfl) rfl
theorem q1236 : (Jvm.Cond.soleField "StrokesHeardModel" "held") ∈ lw_all := lw_g (lw_at lw_m5 195 rfl) rfl
theorem q1237 : (Jvm.Cond.laysFinal "StrokesHeardModel" "StrokesHeardModel" "heldNumber" "[I") ∈ lw_all := lw_g (lw_at lw_m5 196 rfl) rfl
theorem q1238 : (Jvm.Cond.soleField "StrokesHeardModel" "heldNumber") ∈ lw_all := lw_g (lw_at lw_m5 197 rfl) rfl
theorem q1239 : (Jvm.Cond.laysFinal "StrokesHeardModel" "StrokesHeardModel" "heldWorth" "[I") ∈ lw_all := lw_g (lw_at lw_m5 198 rfl) rfl
theorem q1240 : (Jvm.Cond.soleField "StrokesHeardModel" "heldWorth") ∈ lw_all := lw_g (lw_at lw_m5 199 rfl) rfl
theorem q1241 : (Jvm.Cond.laysFinal "StrokesHeardModel" "StrokesHeardModel" "heldSize" "[I") ∈ lw_all := lw_g (lw_at lw_m5 200 rfl) rfl
theorem q1242 : (Jvm.Cond.soleField "StrokesHeardModel" "heldSize") ∈ lw_all := lw_g (lw_at lw_m5 201 rfl) rfl
theorem q1243 : (Jvm.Cond.laysFinal "StrokesHeardModel" "StrokesHeardModel" "heldRow" "[I") ∈ lw_all := lw_g (lw_at lw_m5 202 rfl) rfl
theorem q1244 : (Jvm.Cond.soleField "StrokesHeardModel" "heldRow") ∈ lw_all := lw_g (lw_at lw_m5 203 rfl) rfl
theorem q1245 : (Jvm.Cond.laysFinal "StrokesHeardModel" "StrokesHeardModel" "all" "[I") ∈ lw_all := lw_g (lw_at lw_m5 204 rfl) rfl
theorem q1246 : (Jvm.Cond.soleField "StrokesHeardModel" "all") ∈ lw_all := lw_g (lw_at lw_m5 205 rfl) rfl
theorem q1247 : (Jvm.Cond.laysFinal "StrokesHeardModel" "StrokesHeardModel" "close" "[I") ∈ lw_all := lw_g (lw_at lw_m5 206 rfl) rfl
theorem q1248 : (Jvm.Cond.soleField "StrokesHeardModel" "close") ∈ lw_all := lw_g (lw_at lw_m5 207 rfl) rfl
theorem q1249 : (Jvm.Cond.laysFinal "StrokesHeardModel" "StrokesHeardModel" "tape" "[I") ∈ lw_all := lw_g (lw_at lw_m5 208 rfl) rfl
theorem q1250 : (Jvm.Cond.soleField "StrokesHeardModel" "tape") ∈ lw_all := lw_g (lw_at lw_m5 209 rfl) rfl
theorem q1251 : (Jvm.Cond.lays "StrokesHeardModel" "StrokesHeardModel" "taped" "I") ∈ lw_all := lw_g (lw_at lw_m5 210 rfl) rfl
theorem q1252 : (Jvm.Cond.soleField "StrokesHeardModel" "taped") ∈ lw_all := lw_g (lw_at lw_m5 211 rfl) rfl
theorem q1253 : (Jvm.Cond.lays "StrokesHeardModel" "StrokesHeardModel" "begin" "I") ∈ lw_all := lw_g (lw_at lw_m5 212 rfl) rfl
theorem q1254 : (Jvm.Cond.soleField "StrokesHeardModel" "begin") ∈ lw_all := lw_g (lw_at lw_m5 213 rfl) rfl
theorem q1255 : (Jvm.Cond.lays "StrokesHeardModel" "StrokesHeardModel" "behind" "I") ∈ lw_all := lw_g (lw_at lw_m5 214 rfl) rfl
theorem q1256 : (Jvm.Cond.soleField "StrokesHeardModel" "behind") ∈ lw_all := lw_g (lw_at lw_m5 215 rfl) rfl
theorem q1257 : (Jvm.Cond.lays "StrokesHeardModel" "StrokesHeardModel" "token" "I") ∈ lw_all := lw_g (lw_at lw_m5 216 rfl) rfl
theorem q1258 : (Jvm.Cond.soleField "StrokesHeardModel" "token") ∈ lw_all := lw_g (lw_at lw_m5 217 rfl) rfl
theorem q1259 : (Jvm.Cond.lays "StrokesHeardModel" "StrokesHeardModel" "number" "I") ∈ lw_all := lw_g (lw_at lw_m5 218 rfl) rfl
theorem q1260 : (Jvm.Cond.soleField "StrokesHeardModel" "number") ∈ lw_all := lw_g (lw_at lw_m5 219 rfl) rfl
theorem q1261 : (Jvm.Cond.lays "StrokesHeardModel" "StrokesHeardModel" "letter" "I") ∈ lw_all := lw_g (lw_at lw_m5 220 rfl) rfl
theorem q1262 : (Jvm.Cond.soleField "StrokesHeardModel" "letter") ∈ lw_all := lw_g (lw_at lw_m5 221 rfl) rfl
theorem q1263 : (Jvm.Cond.lays "StrokesHeardModel" "StrokesHeardModel" "deep" "I") ∈ lw_all := lw_g (lw_at lw_m5 222 rfl) rfl
theorem q1264 : (Jvm.Cond.soleField "StrokesHeardModel" "deep") ∈ lw_all := lw_g (lw_at lw_m5 223 rfl) rfl
theorem q1265 : (Jvm.Cond.lays "StrokesHeardModel" "StrokesHeardModel" "turned" "I") ∈ lw_all := lw_g (lw_at lw_m5 224 rfl) rfl
theorem q1266 : (Jvm.Cond.soleField "StrokesHeardModel" "turned") ∈ lw_all := lw_g (lw_at lw_m5 225 rfl) rfl
theorem q1267 : (Jvm.Cond.lays "StrokesHeardModel" "StrokesHeardModel" "laid" "I") ∈ lw_all := lw_g (lw_at lw_m5 226 rfl) rfl
theorem q1268 : (Jvm.Cond.soleField "StrokesHeardModel" "laid") ∈ lw_all := lw_g (lw_at lw_m5 227 rfl) rfl
theorem q1269 : (Jvm.Cond.lays "StrokesHeardModel" "StrokesHeardModel" "laidAt" "I") ∈ lw_all := lw_g (lw_at lw_m5 228 rfl) rfl
theorem q1270 : (Jvm.Cond.soleField "StrokesHeardModel" "laidAt") ∈ lw_all := lw_g (lw_at lw_m5 229 rfl) rfl
theorem q1271 : (Jvm.Cond.lays "StrokesHeardModel" "StrokesHeardModel" "said" "I") ∈ lw_all := lw_g (lw_at lw_m5 230 rfl) rfl
theorem q1272 : (Jvm.Cond.soleField "StrokesHeardModel" "said") ∈ lw_all := lw_g (lw_at lw_m5 231 rfl) rfl
theorem q1273 : (Jvm.Cond.laysFinal "StrokesHeardModel" "StrokesHeardModel" "named" "[I") ∈ lw_all := lw_g (lw_at lw_m5 232 rfl) rfl
theorem q1274 : (Jvm.Cond.soleField "StrokesHeardModel" "named") ∈ lw_all := lw_g (lw_at lw_m5 233 rfl) rfl
theorem q1275 : (Jvm.Cond.laysFinal "StrokesHeardModel" "StrokesHeardModel" "pile" "[I") ∈ lw_all := lw_g (lw_at lw_m5 234 rfl) rfl
theorem q1276 : (Jvm.Cond.soleField "StrokesHeardModel" "pile") ∈ lw_all := lw_g (lw_at lw_m5 235 rfl) rfl
theorem q1277 : (Jvm.Cond.laysFinal "StrokesHeardModel" "StrokesHeardModel" "carried" "[I") ∈ lw_all := lw_g (lw_at lw_m5 236 rfl) rfl
theorem q1278 : (Jvm.Cond.soleField "StrokesHeardModel" "carried") ∈ lw_all := lw_g (lw_at lw_m5 237 rfl) rfl
theorem q1279 : (Jvm.Cond.laysFinal "StrokesHeardModel" "StrokesHeardModel" "waits" "[I") ∈ lw_all := lw_g (lw_at lw_m5 238 rfl) rfl
theorem q1280 : (Jvm.Cond.soleField "StrokesHeardModel" "waits") ∈ lw_all := lw_g (lw_at lw_m5 239 rfl) rfl
theorem q1281 : (Jvm.Cond.lays "StrokesHeardModel" "StrokesHeardModel" "waiting" "I") ∈ lw_all := lw_g (lw_at lw_m6 0 rfl) rfl
theorem q1282 : (Jvm.Cond.soleField "StrokesHeardModel" "waiting") ∈ lw_all := lw_g (lw_at lw_m6 1 rfl) rfl
theorem q1283 : (Jvm.Cond.laysFinal "StrokesHeardModel" "StrokesHeardModel" "rowDue" "[I") ∈ lw_all := lw_g (lw_at lw_m6 2 rfl) rfl
theorem q1284 : (Jvm.Cond.soleField "StrokesHeardModel" "rowDue") ∈ lw_all := lw_g (lw_at lw_m6 3 rfl) rfl
theorem q1285 : (Jvm.Cond.superclass "StrokesHeardModel" "java/lang/Object") ∈ lw_all := lw_g (lw_at lw_m6 4 rfl) rfl
theorem q1287 : (Jvm.Cond.instanceMethod ({ cls := "StrokesHeardModel", name := "clock", desc := "(III)I" } : Jvm.MethodName)) ∈ lw_all := lw_g (lw_at lw_m6 6 rfl) rfl
theorem q1288 : (Jvm.Cond.selects "StrokesHeardModel" ({ cls := "StrokesHeardModel", name := "clock", desc := "(III)I" } : Jvm.MethodName) ({ cls := "StrokesHeardModel", name := "clock", desc := "(III)I" } : Jvm.MethodName)) ∈ lw_all := lw_g (lw_at lw_m6 7 rfl) rfl
theorem q1289 : (Jvm.Cond.code ({ cls := "StrokesHeardModel", name := "clock", desc := "(III)I" } : Jvm.MethodName) prog_18_method_15_code (4 : Nat) (Option.some Jvm.ClassFile.FieldType.int)) ∈ lw_all := lw_g (lw_at lw_m6 8 rfl) rfl
theorem q1290 : (Jvm.Cond.constantLong "StrokesHeardModel" (77 : Nat) (5 : Int64)) ∈ lw_all := lw_g (lw_at lw_m6 9 rfl) rfl
theorem q1291 : (Jvm.Cond.methodLink "StrokesHeardModel" (68 : Nat) ({ cls := "StrokesHeardModel", name := "isIn", desc := "(JJJ)Z" } : Jvm.MethodName)) ∈ lw_all := lw_g (lw_at lw_m6 10 rfl) rfl
theorem q1292 : (Jvm.Cond.static ({ cls := "StrokesHeardModel", name := "isIn", desc := "(JJJ)Z" } : Jvm.MethodName)) ∈ lw_all := lw_g (lw_at lw_m6 11 rfl) rfl
theorem q1293 : (Jvm.Cond.code ({ cls := "StrokesHeardModel", name := "isIn", desc := "(JJJ)Z" } : Jvm.MethodName) prog_18_method_2_code (6 : Nat) (Option.some Jvm.ClassFile.FieldType.boolean)) ∈ lw_all := lw_g (lw_at lw_m6 12 rfl) rfl
theorem q1294 : (Jvm.Cond.constantLong "StrokesHeardModel" (79 : Nat) (59 : Int64)) ∈ lw_all := lw_g (lw_at lw_m6 13 rfl) rfl
theorem q1295 : (Jvm.Cond.constantLong "StrokesHeardModel" (81 : Nat) (9 : Int64)) ∈ lw_all := lw_g (lw_at lw_m6 14 rfl) rfl
theorem q1296 : (Jvm.Cond.constant "StrokesHeardModel" (83 : Nat) (-1000000001 : Int32)) ∈ lw_all := lw_g (lw_at lw_m6 15 rfl) rfl
theorem q1297 : (Jvm.Cond.constant "StrokesHeardModel" (84 : Nat) (-1000000003 : Int32)) ∈ lw_all := lw_g (lw_at lw_m6 16 rfl) rfl
theorem q1298 : (Jvm.Cond.methodLink "StrokesHeardModel" (85 : Nat) ({ cls := "StrokesHeardModel", name := "comes", desc := "(III)V" } : Jvm.MethodName)) ∈ lw_all := lw_g (lw_at lw_m6 17 rfl) rfl
theorem q1299 : (Jvm.Cond.privateMethod ({ cls := "StrokesHeardModel", name := "comes", desc := "(III)V" } : Jvm.MethodName)) ∈ lw_tbl := lw_at lw_m6 18 rfl
theorem q1300 : (Jvm.Cond.instanceMethod ({ cls := "StrokesHeardModel", name := "comes", desc := "(III)V" } : Jvm.MethodName)) ∈ lw_all := lw_g (lw_at lw_m6 19 rfl) rfl
theorem q1301 : (Jvm.Cond.code ({ cls := "StrokesHeardModel", name := "comes", desc := "(III)V" } : Jvm.MethodName) prog_18_method_14_code (5 : Nat) (Option.none : Option Jvm.ClassFile.FieldType)) ∈ lw_all := lw_g (lw_at lw_m6 20 rfl) rfl
theorem q1302 : (Jvm.Cond.methodLink "StrokesHeardModel" (73 : Nat) ({ cls := "StrokesHeardModel", name := "sets", desc := "(III)V" } : Jvm.MethodName)) ∈ lw_all := lw_g (lw_at lw_m6 21 rfl) rfl
theorem q1303 : (Jvm.Cond.privateMethod ({ cls := "StrokesHeardModel", name := "sets", desc := "(III)V" } : Jvm.MethodName)) ∈ lw_tbl := lw_at lw_m6 22 rfl
theorem q1304 : (Jvm.Cond.instanceMethod ({ cls := "StrokesHeardModel", name := "sets", desc := "(III)V" } : Jvm.MethodName)) ∈ lw_all := lw_g (lw_at lw_m6 23 rfl) rfl
theorem q1305 : (Jvm.Cond.code ({ cls := "StrokesHeardModel", name := "sets", desc := "(III)V" } : Jvm.MethodName) prog_18_method_9_code (4 : Nat) (Option.none : Option Jvm.ClassFile.FieldType)) ∈ lw_all := lw_g (lw_at lw_m6 24 rfl) rfl
theorem q1307 : (Jvm.Cond.instanceMethod ({ cls := "StrokesHeardModel", name := "told", desc := "(II)I" } : Jvm.MethodName)) ∈ lw_all := lw_g (lw_at lw_m6 26 rfl) rfl
theorem q1308 : (Jvm.Cond.selects "StrokesHeardModel" ({ cls := "StrokesHeardModel", name := "told", desc := "(II)I" } : Jvm.MethodName) ({ cls := "StrokesHeardModel", name := "told", desc := "(II)I" } : Jvm.MethodName)) ∈ lw_all := lw_g (lw_at lw_m6 27 rfl) rfl
theorem q1309 : (Jvm.Cond.code ({ cls := "StrokesHeardModel", name := "told", desc := "(II)I" } : Jvm.MethodName) prog_18_method_23_code (5 : Nat) (Option.some Jvm.ClassFile.FieldType.int)) ∈ lw_all := lw_g (lw_at lw_m6 28 rfl) rfl
theorem q1310 : (Jvm.Cond.methodLink "StrokesHeardModel" (107 : Nat) ({ cls := "StrokesHeardModel", name := "isClock", desc := "(I)Z" } : Jvm.MethodName)) ∈ lw_all := lw_g (lw_at lw_m6 29 rfl) rfl
theorem q1311 : (Jvm.Cond.privateMethod ({ cls := "StrokesHeardModel", name := "isClock", desc := "(I)Z" } : Jvm.MethodName)) ∈ lw_tbl := lw_at lw_m6 30 rfl
theorem q1312 : (Jvm.Cond.instanceMethod ({ cls := "StrokesHeardModel", name := "isClock", desc := "(I)Z" } : Jvm.MethodName)) ∈ lw_all := lw_g (lw_at lw_m6 31 rfl) rfl
theorem q1313 : (Jvm.Cond.code ({ cls := "StrokesHeardModel", name := "isClock", desc := "(I)Z" } : Jvm.MethodName) prog_18_method_10_code (2 : Nat) (Option.some Jvm.ClassFile.FieldType.boolean)) ∈ lw_all := lw_g (lw_at lw_m6 32 rfl) rfl
theorem q1314 : (Jvm.Cond.methodLink "StrokesHeardModel" (88 : Nat) ({ cls := "StrokesHeardModel", name := "of", desc := "(II)I" } : Jvm.MethodName)) ∈ lw_all := lw_g (lw_at lw_m6 33 rfl) rfl
theorem q1315 : (Jvm.Cond.privateMethod ({ cls := "StrokesHeardModel", name := "of", desc := "(II)I" } : Jvm.MethodName)) ∈ lw_tbl := lw_at lw_m6 34 rfl
theorem q1316 : (Jvm.Cond.instanceMethod ({ cls := "StrokesHeardModel", name := "of", desc := "(II)I" } : Jvm.MethodName)) ∈ lw_all := lw_g (lw_at lw_m6 35 rfl) rfl
theorem q1317 : (Jvm.Cond.code ({ cls := "StrokesHeardModel", name := "of", desc := "(II)I" } : Jvm.MethodName) prog_18_method_8_code (3 : Nat) (Option.some Jvm.ClassFile.FieldType.int)) ∈ lw_all := lw_g (lw_at lw_m6 36 rfl) rfl
theorem q1318 : (Jvm.Cond.methodLink "StrokesHeardModel" (111 : Nat) ({ cls := "StrokesHeardModel", name := "timeNow", desc := "()I" } : Jvm.MethodName)) ∈ lw_all := lw_g (lw_at lw_m6 37 rfl) rfl
theorem q1319 : (Jvm.Cond.privateMethod ({ cls := "StrokesHeardModel", name := "timeNow", desc := "()I" } : Jvm.MethodName)) ∈ lw_tbl := lw_at lw_m6 38 rfl
theorem q1320 : (Jvm.Cond.instanceMethod ({ cls := "StrokesHeardModel", name := "timeNow", desc := "()I" } : Jvm.MethodName)) ∈ lw_all := lw_g (lw_at lw_m6 39 rfl) rfl
theorem q1321 : (Jvm.Cond.code ({ cls := "StrokesHeardModel", name := "timeNow", desc := "()I" } : Jvm.MethodName) prog_18_method_21_code (1 : Nat) (Option.some Jvm.ClassFile.FieldType.int)) ∈ lw_all := lw_g (lw_at lw_m6 40 rfl) rfl
theorem q1322 : (Jvm.Cond.methodLink "StrokesHeardModel" (115 : Nat) ({ cls := "StrokesHeardModel", name := "strikes", desc := "(II)I" } : Jvm.MethodName)) ∈ lw_all := lw_g (lw_at lw_m6 41 rfl) rfl
theorem q1323 : (Jvm.Cond.privateMethod ({ cls := "StrokesHeardModel", name := "strikes", desc := "(II)I" } : Jvm.MethodName)) ∈ lw_tbl := lw_at lw_m6 42 rfl
theorem q1324 : (Jvm.Cond.instanceMethod ({ cls := "StrokesHeardModel", name := "strikes", desc := "(II)I" } : Jvm.MethodName)) ∈ lw_all := lw_g (lw_at lw_m6 43 rfl) rfl
theorem q1325 : (Jvm.Cond.code ({ cls := "StrokesHeardModel", name := "strikes", desc := "(II)I" } : Jvm.MethodName) prog_18_method_19_code (6 : Nat) (Option.some Jvm.ClassFile.FieldType.int)) ∈ lw_all := lw_g (lw_at lw_m6 44 rfl) rfl
theorem q1326 : (Jvm.Cond.methodLink "StrokesHeardModel" (99 : Nat) ({ cls := "StrokesHeardModel", name := "atHour", desc := "(II)I" } : Jvm.MethodName)) ∈ lw_all := lw_g (lw_at lw_m6 45 rfl) rfl
theorem q1327 : (Jvm.Cond.privateMethod ({ cls := "StrokesHeardModel", name := "atHour", desc := "(II)I" } : Jvm.MethodName)) ∈ lw_tbl := lw_at lw_m6 46 rfl
theorem q1328 : (Jvm.Cond.instanceMethod ({ cls := "StrokesHeardModel", name := "atHour", desc := "(II)I" } : Jvm.MethodName)) ∈ lw_all := lw_g (lw_at lw_m6 47 rfl) rfl
theorem q1329 : (Jvm.Cond.code ({ cls := "StrokesHeardModel", name := "atHour", desc := "(II)I" } : Jvm.MethodName) prog_18_method_18_code (3 : Nat) (Option.some Jvm.ClassFile.FieldType.int)) ∈ lw_all := lw_g (lw_at lw_m6 48 rfl) rfl
theorem q1330 : (Jvm.Cond.methodLink "StrokesHeardModel" (102 : Nat) ({ cls := "StrokesHeardModel", name := "again", desc := "(II)I" } : Jvm.MethodName)) ∈ lw_all := lw_g (lw_at lw_m6 49 rfl) rfl
theorem q1331 : (Jvm.Cond.privateMethod ({ cls := "StrokesHeardModel", name := "again", desc := "(II)I" } : Jvm.MethodName)) ∈ lw_tbl := lw_at lw_m6 50 rfl
theorem q1332 : (Jvm.Cond.instanceMethod ({ cls := "StrokesHeardModel", name := "again", desc := "(II)I" } : Jvm.MethodName)) ∈ lw_all := lw_g (lw_at lw_m6 51 rfl) rfl
theorem q1333 : (Jvm.Cond.code ({ cls := "StrokesHeardModel", name := "again", desc := "(II)I" } : Jvm.MethodName) prog_18_method_17_code (5 : Nat) (Option.some Jvm.ClassFile.FieldType.int)) ∈ lw_all := lw_g (lw_at lw_m6 52 rfl) rfl
theorem q1334 : (Jvm.Cond.methodLink "StrokesHeardModel" (92 : Nat) ({ cls := "StrokesHeardModel", name := "counts", desc := "(I)I" } : Jvm.MethodName)) ∈ lw_all := lw_g (lw_at lw_m6 53 rfl) rfl
theorem q1335 : (Jvm.Cond.privateMethod ({ cls := "StrokesHeardModel", name := "counts", desc := "(I)I" } : Jvm.MethodName)) ∈ lw_tbl := lw_at lw_m6 54 rfl
theorem q1336 : (Jvm.Cond.instanceMethod ({ cls := "StrokesHeardModel", name := "counts", desc := "(I)I" } : Jvm.MethodName)) ∈ lw_all := lw_g (lw_at lw_m6 55 rfl) rfl
theorem q1337 : (Jvm.Cond.code ({ cls := "StrokesHeardModel", name := "counts", desc := "(I)I" } : Jvm.MethodName) prog_18_method_79_code (4 : Nat) (Option.some Jvm.ClassFile.FieldType.int)) ∈ lw_all := lw_g (lw_at lw_m6 56 rfl) rfl
theorem q1338 : (Jvm.Cond.methodLink "StrokesHeardModel" (277 : Nat) ({ cls := "StrokesHeardModel", name := "textAt", desc := "(I)I" } : Jvm.MethodName)) ∈ lw_all := lw_g (lw_at lw_m6 57 rfl) rfl
theorem q1339 : (Jvm.Cond.privateMethod ({ cls := "StrokesHeardModel", name := "textAt", desc := "(I)I" } : Jvm.MethodName)) ∈ lw_tbl := lw_at lw_m6 58 rfl
theorem q1340 : (Jvm.Cond.instanceMethod ({ cls := "StrokesHeardModel", name := "textAt", desc := "(I)I" } : Jvm.MethodName)) ∈ lw_all := lw_g (lw_at lw_m6 59 rfl) rfl
theorem q1341 : (Jvm.Cond.code ({ cls := "StrokesHeardModel", name := "textAt", desc := "(I)I" } : Jvm.MethodName) prog_18_method_7_code (2 : Nat) (Option.some Jvm.ClassFile.FieldType.int)) ∈ lw_all := lw_g (lw_at lw_m6 60 rfl) rfl
theorem q1342 : (Jvm.Cond.methodLink "StrokesHeardModel" (96 : Nat) ({ cls := "StrokesHeardModel", name := "worked", desc := "(I)I" } : Jvm.MethodName)) ∈ lw_all := lw_g (lw_at lw_m6 61 rfl) rfl
theorem q1343 : (Jvm.Cond.privateMethod ({ cls := "StrokesHeardModel", name := "worked", desc := "(I)I" } : Jvm.MethodName)) ∈ lw_tbl := lw_at lw_m6 62 rfl
theorem q1344 : (Jvm.Cond.instanceMethod ({ cls := "StrokesHeardModel", name := "worked", desc := "(I)I" } : Jvm.MethodName)) ∈ lw_all := lw_g (lw_at lw_m6 63 rfl) rfl
theorem q1345 : (Jvm.Cond.code ({ cls := "StrokesHeardModel", name := "worked", desc := "(I)I" } : Jvm.MethodName) prog_18_method_82_code (6 : Nat) (Option.some Jvm.ClassFile.FieldType.int)) ∈ lw_all := lw_g (lw_at lw_m6 64 rfl) rfl
theorem q1346 : (Jvm.Cond.methodLink "StrokesHeardModel" (292 : Nat) ({ cls := "StrokesHeardModel", name := "joined", desc := "(III)I" } : Jvm.MethodName)) ∈ lw_all := lw_g (lw_at lw_m6 65 rfl) rfl
theorem q1347 : (Jvm.Cond.static ({ cls := "StrokesHeardModel", name := "joined", desc := "(III)I" } : Jvm.MethodName)) ∈ lw_all := lw_g (lw_at lw_m6 66 rfl) rfl
theorem q1348 : (Jvm.Cond.code ({ cls := "StrokesHeardModel", name := "joined", desc := "(III)I" } : Jvm.MethodName) prog_18_method_81_code (3 : Nat) (Option.some Jvm.ClassFile.FieldType.int)) ∈ lw_all := lw_g (lw_at lw_m6 67 rfl) rfl
theorem q1349 : (Jvm.Cond.methodLink "StrokesHeardModel" (118 : Nat) ({ cls := "StrokesHeardModel", name := "worth", desc := "(I)I" } : Jvm.MethodName)) ∈ lw_all := lw_g (lw_at lw_m6 68 rfl) rfl
theorem q1350 : (Jvm.Cond.privateMethod ({ cls := "StrokesHeardModel", name := "worth", desc := "(I)I" } : Jvm.MethodName)) ∈ lw_tbl := lw_at lw_m6 69 rfl
theorem q1351 : (Jvm.Cond.instanceMethod ({ cls := "StrokesHeardModel", name := "worth", desc := "(I)I" } : Jvm.MethodName)) ∈ lw_all := lw_g (lw_at lw_m6 70 rfl) rfl
theorem q1352 : (Jvm.Cond.code ({ cls := "StrokesHeardModel", name := "worth", desc := "(I)I" } : Jvm.MethodName) prog_18_method_20_code (3 : Nat) (Option.some Jvm.ClassFile.FieldType.int)) ∈ lw_all := lw_g (lw_at lw_m6 71 rfl) rfl
theorem q1354 : (Jvm.Cond.instanceMethod ({ cls := "StrokesHeardModel", name := "as", desc := "(II)I" } : Jvm.MethodName)) ∈ lw_all := lw_g (lw_at lw_m6 73 rfl) rfl
theorem q1355 : (Jvm.Cond.selects "StrokesHeardModel" ({ cls := "StrokesHeardModel", name := "as", desc := "(II)I" } : Jvm.MethodName) ({ cls := "StrokesHeardModel", name := "as", desc := "(II)I" } : Jvm.MethodName)) ∈ lw_all := lw_g (lw_at lw_m6 74 rfl) rfl
theorem q1356 : (Jvm.Cond.code ({ cls := "StrokesHeardModel", name := "as", desc := "(II)I" } : Jvm.MethodName) prog_18_method_24_code (3 : Nat) (Option.some Jvm.ClassFile.FieldType.int)) ∈ lw_all := lw_g (lw_at lw_m6 75 rfl) rfl
theorem q1357 : (Jvm.Cond.methodLink "StrokesHeardModel" (121 : Nat) ({ cls := "StrokesHeardModel", name := "isOf", desc := "(II)Z" } : Jvm.MethodName)) ∈ lw_all := lw_g (lw_at lw_m6 76 rfl) rfl
theorem q1358 : (Jvm.Cond.static ({ cls := "StrokesHeardModel", name := "isOf", desc := "(II)Z" } : Jvm.MethodName)) ∈ lw_all := lw_g (lw_at lw_m6 77 rfl) rfl
theorem q1359 : (Jvm.Cond.code ({ cls := "StrokesHeardModel", name := "isOf", desc := "(II)Z" } : Jvm.MethodName) prog_18_method_13_code (2 : Nat) (Option.some Jvm.ClassFile.FieldType.boolean)) ∈ lw_all := lw_g (lw_at lw_m6 78 rfl) rfl
theorem q1360 : (Jvm.Cond.constant "StrokesHeardModel" (125 : Nat) (-1000000012 : Int32)) ∈ lw_all := lw_g (lw_at lw_m6 79 rfl) rfl
theorem q1362 : (Jvm.Cond.instanceMethod ({ cls := "StrokesHeardModel", name := "turns", desc := "(II)I" } : Jvm.MethodName)) ∈ lw_all := lw_g (lw_at lw_m6 81 rfl) rfl
theorem q1363 : (Jvm.Cond.selects "StrokesHeardModel" ({ cls := "StrokesHeardModel", name := "turns", desc := "(II)I" } : Jvm.MethodName) ({ cls := "StrokesHeardModel", name := "turns", desc := "(II)I" } : Jvm.MethodName)) ∈ lw_all := lw_g (lw_at lw_m6 82 rfl) rfl
theorem q1364 : (Jvm.Cond.code ({ cls := "StrokesHeardModel", name := "turns", desc := "(II)I" } : Jvm.MethodName) prog_18_method_25_code (3 : Nat) (Option.some Jvm.ClassFile.FieldType.int)) ∈ lw_all := lw_g (lw_at lw_m6 83 rfl) rfl
theorem q1365 : (Jvm.Cond.methodLink "StrokesHeardModel" (126 : Nat) ({ cls := "StrokesHeardModel", name := "becomes", desc := "(II)I" } : Jvm.MethodName)) ∈ lw_all := lw_g (lw_at lw_m6 84 rfl) rfl
theorem q1366 : (Jvm.Cond.privateMethod ({ cls := "StrokesHeardModel", name := "becomes", desc := "(II)I" } : Jvm.MethodName)) ∈ lw_tbl := lw_at lw_m6 85 rfl
theorem q1367 : (Jvm.Cond.instanceMethod ({ cls := "StrokesHeardModel", name := "becomes", desc := "(II)I" } : Jvm.MethodName)) ∈ lw_all := lw_g (lw_at lw_m6 86 rfl) rfl
theorem q1368 : (Jvm.Cond.code ({ cls := "StrokesHeardModel", name := "becomes", desc := "(II)I" } : Jvm.MethodName) prog_18_method_6_code (4 : Nat) (Option.some Jvm.ClassFile.FieldType.int)) ∈ lw_all := lw_g (lw_at lw_m6 87 rfl) rfl
theorem q1370 : (Jvm.Cond.instanceMethod ({ cls := "StrokesHeardModel", name := "set", desc := "(III)I" } : Jvm.MethodName)) ∈ lw_all := lw_g (lw_at lw_m6 89 rfl) rfl
theorem q1371 : (Jvm.Cond.selects "StrokesHeardModel" ({ cls := "StrokesHeardModel", name := "set", desc := "(III)I" } : Jvm.MethodName) ({ cls := "StrokesHeardModel", name := "set", desc := "(III)I" } : Jvm.MethodName)) ∈ lw_all := lw_g (lw_at lw_m6 90 rfl) rfl
theorem q1372 : (Jvm.Cond.code ({ cls := "StrokesHeardModel", name := "set", desc := "(III)I" } : Jvm.MethodName) prog_18_method_26_code (4 : Nat) (Option.some Jvm.ClassFile.FieldType.int)) ∈ lw_all := lw_g (lw_at lw_m6 91 rfl) rfl
theorem q1373 : (Jvm.Cond.constantLong "StrokesHeardModel" (129 : Nat) (2 : Int64)) ∈ lw_all := lw_g (lw_at lw_m6 92 rfl) rfl
theorem q1375 : (Jvm.Cond.instanceMethod ({ cls := "StrokesHeardModel", name := "strokes", desc := "(II)I" } : Jvm.MethodName)) ∈ lw_all := lw_g (lw_at lw_m6 94 rfl) rfl
theorem q1376 : (Jvm.Cond.selects "StrokesHeardModel" ({ cls := "StrokesHeardModel", name := "strokes", desc := "(II)I" } : Jvm.MethodName) ({ cls := "StrokesHeardModel", name := "strokes", desc := "(II)I" } : Jvm.MethodName)) ∈ lw_all := lw_g (lw_at lw_m6 95 rfl) rfl
theorem q1377 : (Jvm.Cond.code ({ cls := "StrokesHeardModel", name := "strokes", desc := "(II)I" } : Jvm.MethodName) prog_18_method_27_code (3 : Nat) (Option.some Jvm.ClassFile.FieldType.int)) ∈ lw_all := lw_g (lw_at lw_m6 96 rfl) rfl
theorem q1378 : (Jvm.Cond.methodLink "StrokesHeardModel" (131 : Nat) ({ cls := "StrokesHeardModel", name := "isTime", desc := "(I)Z" } : Jvm.MethodName)) ∈ lw_all := lw_g (lw_at lw_m6 97 rfl) rfl
theorem q1379 : (Jvm.Cond.static ({ cls := "StrokesHeardModel", name := "isTime", desc := "(I)Z" } : Jvm.MethodName)) ∈ lw_all := lw_g (lw_at lw_m6 98 rfl) rfl
theorem q1380 : (Jvm.Cond.code ({ cls := "StrokesHeardModel", name := "isTime", desc := "(I)Z" } : Jvm.MethodName) prog_18_method_22_code (1 : Nat) (Option.some Jvm.ClassFile.FieldType.boolean)) ∈ lw_all := lw_g (lw_at lw_m6 99 rfl) rfl
theorem q1381 : (Jvm.Cond.constantLong "StrokesHeardModel" (105 : Nat) (719 : Int64)) ∈ lw_all := lw_g (lw_at lw_m6 100 rfl) rfl
theorem q1383 : (Jvm.Cond.instanceMethod ({ cls := "StrokesHeardModel", name := "total", desc := "(I)I" } : Jvm.MethodName)) ∈ lw_all := lw_g (lw_at lw_m6 102 rfl) rfl
theorem q1384 : (Jvm.Cond.selects "StrokesHeardModel" ({ cls := "StrokesHeardModel", name := "total", desc := "(I)I" } : Jvm.MethodName) ({ cls := "StrokesHeardModel", name := "total", desc := "(I)I" } : Jvm.MethodName)) ∈ lw_all := lw_g (lw_at lw_m6 103 rfl) rfl
theorem q1385 : (Jvm.Cond.code ({ cls := "StrokesHeardModel", name := "total", desc := "(I)I" } : Jvm.MethodName) prog_18_method_29_code (2 : Nat) (Option.some Jvm.ClassFile.FieldType.int)) ∈ lw_all := lw_g (lw_at lw_m6 104 rfl) rfl
theorem q1386 : (Jvm.Cond.methodLink "StrokesHeardModel" (134 : Nat) ({ cls := "StrokesHeardModel", name := "totalAt", desc := "(I)I" } : Jvm.MethodName)) ∈ lw_all := lw_g (lw_at lw_m6 105 rfl) rfl
theorem q1387 : (Jvm.Cond.privateMethod ({ cls := "StrokesHeardModel", name := "totalAt", desc := "(I)I" } : Jvm.MethodName)) ∈ lw_tbl := lw_at lw_m6 106 rfl
theorem q1388 : (Jvm.Cond.instanceMethod ({ cls := "StrokesHeardModel", name := "totalAt", desc := "(I)I" } : Jvm.MethodName)) ∈ lw_all := lw_g (lw_at lw_m6 107 rfl) rfl
theorem q1389 : (Jvm.Cond.code ({ cls := "StrokesHeardModel", name := "totalAt", desc := "(I)I" } : Jvm.MethodName) prog_18_method_28_code (4 : Nat) (Option.some Jvm.ClassFile.FieldType.int)) ∈ lw_all := lw_g (lw_at lw_m6 108 rfl) rfl
theorem q1391 : (Jvm.Cond.instanceMethod ({ cls := "StrokesHeardModel", name := "ear", desc := "(II)I" } : Jvm.MethodName)) ∈ lw_all := lw_g (lw_at lw_m6 110 rfl) rfl
theorem q1392 : (Jvm.Cond.selects "StrokesHeardModel" ({ cls := "StrokesHeardModel", name := "ear", desc := "(II)I" } : Jvm.MethodName) ({ cls := "StrokesHeardModel", name := "ear", desc := "(II)I" } : Jvm.MethodName)) ∈ lw_all := lw_g (lw_at lw_m6 111 rfl) rfl
theorem q1393 : (Jvm.Cond.code ({ cls := "StrokesHeardModel", name := "ear", desc := "(II)I" } : Jvm.MethodName) prog_18_method_30_code (3 : Nat) (Option.some Jvm.ClassFile.FieldType.int)) ∈ lw_all := lw_g (lw_at lw_m6 112 rfl) rfl
theorem q1394 : (Jvm.Cond.constantLong "StrokesHeardModel" (137 : Nat) (100 : Int64)) ∈ lw_all := lw_g (lw_at lw_m6 113 rfl) rfl
theorem q1396 : (Jvm.Cond.instanceMethod ({ cls := "StrokesHeardModel", name := "deal", desc := "(I)I" } : Jvm.MethodName)) ∈ lw_all := lw_g (lw_at lw_m6 115 rfl) rfl
theorem q1397 : (Jvm.Cond.selects "StrokesHeardModel" ({ cls := "StrokesHeardModel", name := "deal", desc := "(I)I" } : Jvm.MethodName) ({ cls := "StrokesHeardModel", name := "deal", desc := "(I)I" } : Jvm.MethodName)) ∈ lw_all := lw_g (lw_at lw_m6 116 rfl) rfl
theorem q1398 : (Jvm.Cond.code ({ cls := "StrokesHeardModel", name := "deal", desc := "(I)I" } : Jvm.MethodName) prog_18_method_31_code (5 : Nat) (Option.some Jvm.ClassFile.FieldType.int)) ∈ lw_all := lw_g (lw_at lw_m6 117 rfl) rfl
theorem q1399 : (Jvm.Cond.constantLong "StrokesHeardModel" (139 : Nat) (6 : Int64)) ∈ lw_all := lw_g (lw_at lw_m6 118 rfl) rfl
theorem q1400 : (Jvm.Cond.methodLink "StrokesHeardModel" (141 : Nat) ({ cls := "StrokesHeardModel", name := "drawn", desc := "()I" } : Jvm.MethodName)) ∈ lw_all := lw_g (lw_at lw_m6 119 rfl) rfl
theorem q1401 : (Jvm.Cond.privateMethod ({ cls := "StrokesHeardModel", name := "drawn", desc := "()I" } : Jvm.MethodName)) ∈ lw_tbl := lw_at lw_m6 120 rfl
theorem q1402 : (Jvm.Cond.instanceMethod ({ cls := "StrokesHeardModel", name := "drawn", desc := "()I" } : Jvm.MethodName)) ∈ lw_all := lw_g (lw_at lw_m6 121 rfl) rfl
theorem q1403 : (Jvm.Cond.code ({ cls := "StrokesHeardModel", name := "drawn", desc := "()I" } : Jvm.MethodName) prog_18_method_12_code (1 : Nat) (Option.some Jvm.ClassFile.FieldType.int)) ∈ lw_all := lw_g (lw_at lw_m6 122 rfl) rfl
theorem q1404 : (Jvm.Cond.constant "StrokesHeardModel" (72 : Nat) (1103515245 : Int32)) ∈ lw_all := lw_g (lw_at lw_m6 123 rfl) rfl
theorem q1406 : (Jvm.Cond.instanceMethod ({ cls := "StrokesHeardModel", name := "seed", desc := "(I)I" } : Jvm.MethodName)) ∈ lw_all := lw_g (lw_at lw_m6 125 rfl) rfl
theorem q1407 : (Jvm.Cond.selects "StrokesHeardModel" ({ cls := "StrokesHeardModel", name := "seed", desc := "(I)I" } : Jvm.MethodName) ({ cls := "StrokesHeardModel", name := "seed", desc := "(I)I" } : Jvm.MethodName)) ∈ lw_all := lw_g (lw_at lw_m6 126 rfl) rfl
theorem q1408 : (Jvm.Cond.code ({ cls := "StrokesHeardModel", name := "seed", desc := "(I)I" } : Jvm.MethodName) prog_18_method_32_code (2 : Nat) (Option.some Jvm.ClassFile.FieldType.int)) ∈ lw_all := lw_g (lw_at lw_m6 127 rfl) rfl
theorem q1410 : (Jvm.Cond.instanceMethod ({ cls := "StrokesHeardModel", name := "minutes", desc := "(I)I" } : Jvm.MethodName)) ∈ lw_all := lw_g (lw_at lw_m6 129 rfl) rfl
theorem q1411 : (Jvm.Cond.selects "StrokesHeardModel" ({ cls := "StrokesHeardModel", name := "minutes", desc := "(I)I" } : Jvm.MethodName) ({ cls := "StrokesHeardModel", name := "minutes", desc := "(I)I" } : Jvm.MethodName)) ∈ lw_all := lw_g (lw_at lw_m6 130 rfl) rfl
theorem q1412 : (Jvm.Cond.code ({ cls := "StrokesHeardModel", name := "minutes", desc := "(I)I" } : Jvm.MethodName) prog_18_method_35_code (4 : Nat) (Option.some Jvm.ClassFile.FieldType.int)) ∈ lw_all := lw_g (lw_at lw_m6 131 rfl) rfl
theorem q1413 : (Jvm.Cond.methodLink "StrokesHeardModel" (147 : Nat) ({ cls := "StrokesHeardModel", name := "goesOnMany", desc := "(I)V" } : Jvm.MethodName)) ∈ lw_all := lw_g (lw_at lw_m6 132 rfl) rfl
theorem q1414 : (Jvm.Cond.privateMethod ({ cls := "StrokesHeardModel", name := "goesOnMany", desc := "(I)V" } : Jvm.MethodName)) ∈ lw_tbl := lw_at lw_m6 133 rfl
theorem q1415 : (Jvm.Cond.instanceMethod ({ cls := "StrokesHeardModel", name := "goesOnMany", desc := "(I)V" } : Jvm.MethodName)) ∈ lw_all := lw_g (lw_at lw_m6 134 rfl) rfl
theorem q1416 : (Jvm.Cond.code ({ cls := "StrokesHeardModel", name := "goesOnMany", desc := "(I)V" } : Jvm.MethodName) prog_18_method_34_code (3 : Nat) (Option.none : Option Jvm.ClassFile.FieldType)) ∈ lw_all := lw_g (lw_at lw_m6 135 rfl) rfl
theorem q1417 : (Jvm.Cond.methodLink "StrokesHeardModel" (144 : Nat) ({ cls := "StrokesHeardModel", name := "goesOn", desc := "()V" } : Jvm.MethodName)) ∈ lw_all := lw_g (lw_at lw_m6 136 rfl) rfl
theorem q1418 : (Jvm.Cond.privateMethod ({ cls := "StrokesHeardModel", name := "goesOn", desc := "()V" } : Jvm.MethodName)) ∈ lw_tbl := lw_at lw_m6 137 rfl
theorem q1419 : (Jvm.Cond.instanceMethod ({ cls := "StrokesHeardModel", name := "goesOn", desc := "()V" } : Jvm.MethodName)) ∈ lw_all := lw_g (lw_at lw_m6 138 rfl) rfl
theorem q1420 : (Jvm.Cond.code ({ cls := "StrokesHeardModel", name := "goesOn", desc := "()V" } : Jvm.MethodName) prog_18_method_33_code (4 : Nat) (Option.none : Option Jvm.ClassFile.FieldType)) ∈ lw_all := lw_g (lw_at lw_m6 139 rfl) rfl
theorem q1422 : (Jvm.Cond.instanceMethod ({ cls := "StrokesHeardModel", name := "bed", desc := "(I)I" } : Jvm.MethodName)) ∈ lw_all := lw_g (lw_at lw_m6 141 rfl) rfl
theorem q1423 : (Jvm.Cond.selects "StrokesHeardModel" ({ cls := "StrokesHeardModel", name := "bed", desc := "(I)I" } : Jvm.MethodName) ({ cls := "StrokesHeardModel", name := "bed", desc := "(I)I" } : Jvm.MethodName)) ∈ lw_all := lw_g (lw_at lw_m6 142 rfl) rfl
theorem q1424 : (Jvm.Cond.code ({ cls := "StrokesHeardModel", name := "bed", desc := "(I)I" } : Jvm.MethodName) prog_18_method_36_code (2 : Nat) (Option.some Jvm.ClassFile.FieldType.int)) ∈ lw_all := lw_g (lw_at lw_m6 143 rfl) rfl
theorem q1425 : (Jvm.Cond.constantLong "StrokesHeardModel" (151 : Nat) (3 : Int64)) ∈ lw_all := lw_g (lw_at lw_m6 144 rfl) rfl
theorem q1427 : (Jvm.Cond.instanceMethod ({ cls := "StrokesHeardModel", name := "note", desc := "(I)I" } : Jvm.MethodName)) ∈ lw_all := lw_g (lw_at lw_m6 146 rfl) rfl
theorem q1428 : (Jvm.Cond.selects "StrokesHeardModel" ({ cls := "StrokesHeardModel", name := "note", desc := "(I)I" } : Jvm.MethodName) ({ cls := "StrokesHeardModel", name := "note", desc := "(I)I" } : Jvm.MethodName)) ∈ lw_all := lw_g (lw_at lw_m6 147 rfl) rfl
theorem q1429 : (Jvm.Cond.code ({ cls := "StrokesHeardModel", name := "note", desc := "(I)I" } : Jvm.MethodName) prog_18_method_37_code (2 : Nat) (Option.some Jvm.ClassFile.FieldType.int)) ∈ lw_all := lw_g (lw_at lw_m6 148 rfl) rfl
theorem q1430 : (Jvm.Cond.constantLong "StrokesHeardModel" (153 : Nat) (11 : Int64)) ∈ lw_all := lw_g (lw_at lw_m6 149 rfl) rfl
theorem q1431 : (Jvm.Cond.constant "StrokesHeardModel" (67 : Nat) (-1000000005 : Int32)) ∈ lw_all := lw_g (lw_at lw_m6 150 rfl) rfl
theorem q1433 : (Jvm.Cond.instanceMethod ({ cls := "StrokesHeardModel", name := "fits", desc := "(I)I" } : Jvm.MethodName)) ∈ lw_all := lw_g (lw_at lw_m6 152 rfl) rfl
theorem q1434 : (Jvm.Cond.selects "StrokesHeardModel" ({ cls := "StrokesHeardModel", name := "fits", desc := "(I)I" } : Jvm.MethodName) ({ cls := "StrokesHeardModel", name := "fits", desc := "(I)I" } : Jvm.MethodName)) ∈ lw_all := lw_g (lw_at lw_m6 153 rfl) rfl
theorem q1435 : (Jvm.Cond.code ({ cls := "StrokesHeardModel", name := "fits", desc := "(I)I" } : Jvm.MethodName) prog_18_method_44_code (2 : Nat) (Option.some Jvm.ClassFile.FieldType.int)) ∈ lw_all := lw_g (lw_at lw_m6 154 rfl) rfl
theorem q1436 : (Jvm.Cond.methodLink "StrokesHeardModel" (161 : Nat) ({ cls := "StrokesHeardModel", name := "findAll", desc := "()V" } : Jvm.MethodName)) ∈ lw_all := lw_g (lw_at lw_m6 155 rfl) rfl
theorem q1437 : (Jvm.Cond.privateMethod ({ cls := "StrokesHeardModel", name := "findAll", desc := "()V" } : Jvm.MethodName)) ∈ lw_tbl := lw_at lw_m6 156 rfl
theorem q1438 : (Jvm.Cond.instanceMethod ({ cls := "StrokesHeardModel", name := "findAll", desc := "()V" } : Jvm.MethodName)) ∈ lw_all := lw_g (lw_at lw_m6 157 rfl) rfl
theorem q1439 : (Jvm.Cond.code ({ cls := "StrokesHeardModel", name := "findAll", desc := "()V" } : Jvm.MethodName) prog_18_method_38_code (2 : Nat) (Option.none : Option Jvm.ClassFile.FieldType)) ∈ lw_all := lw_g (lw_at lw_m6 158 rfl) rfl
theorem q1440 : (Jvm.Cond.methodLink "StrokesHeardModel" (155 : Nat) ({ cls := "StrokesHeardModel", name := "doesFit", desc := "(I)Z" } : Jvm.MethodName)) ∈ lw_all := lw_g (lw_at lw_m6 159 rfl) rfl
theorem q1441 : (Jvm.Cond.privateMethod ({ cls := "StrokesHeardModel", name := "doesFit", desc := "(I)Z" } : Jvm.MethodName)) ∈ lw_tbl := lw_at lw_m6 160 rfl
theorem q1442 : (Jvm.Cond.instanceMethod ({ cls := "StrokesHeardModel", name := "doesFit", desc := "(I)Z" } : Jvm.MethodName)) ∈ lw_all := lw_g (lw_at lw_m6 161 rfl) rfl
theorem q1443 : (Jvm.Cond.code ({ cls := "StrokesHeardModel", name := "doesFit", desc := "(I)Z" } : Jvm.MethodName) prog_18_method_40_code (6 : Nat) (Option.some Jvm.ClassFile.FieldType.boolean)) ∈ lw_all := lw_g (lw_at lw_m6 162 rfl) rfl
theorem q1445 : (Jvm.Cond.instanceMethod ({ cls := "StrokesHeardModel", name := "may", desc := "(I)I" } : Jvm.MethodName)) ∈ lw_all := lw_g (lw_at lw_m6 164 rfl) rfl
theorem q1446 : (Jvm.Cond.selects "StrokesHeardModel" ({ cls := "StrokesHeardModel", name := "may", desc := "(I)I" } : Jvm.MethodName) ({ cls := "StrokesHeardModel", name := "may", desc := "(I)I" } : Jvm.MethodName)) ∈ lw_all := lw_g (lw_at lw_m6 165 rfl) rfl
theorem q1447 : (Jvm.Cond.code ({ cls := "StrokesHeardModel", name := "may", desc := "(I)I" } : Jvm.MethodName) prog_18_method_45_code (3 : Nat) (Option.some Jvm.ClassFile.FieldType.int)) ∈ lw_all := lw_g (lw_at lw_m6 166 rfl) rfl
theorem q1448 : (Jvm.Cond.methodLink "StrokesHeardModel" (164 : Nat) ({ cls := "StrokesHeardModel", name := "manyFit", desc := "()I" } : Jvm.MethodName)) ∈ lw_all := lw_g (lw_at lw_m6 167 rfl) rfl
theorem q1449 : (Jvm.Cond.privateMethod ({ cls := "StrokesHeardModel", name := "manyFit", desc := "()I" } : Jvm.MethodName)) ∈ lw_tbl := lw_at lw_m6 168 rfl
theorem q1450 : (Jvm.Cond.instanceMethod ({ cls := "StrokesHeardModel", name := "manyFit", desc := "()I" } : Jvm.MethodName)) ∈ lw_all := lw_g (lw_at lw_m6 169 rfl) rfl
theorem q1451 : (Jvm.Cond.code ({ cls := "StrokesHeardModel", name := "manyFit", desc := "()I" } : Jvm.MethodName) prog_18_method_41_code (3 : Nat) (Option.some Jvm.ClassFile.FieldType.int)) ∈ lw_all := lw_g (lw_at lw_m6 170 rfl) rfl
theorem q1452 : (Jvm.Cond.methodLink "StrokesHeardModel" (158 : Nat) ({ cls := "StrokesHeardModel", name := "hoursFit", desc := "()I" } : Jvm.MethodName)) ∈ lw_all := lw_g (lw_at lw_m6 171 rfl) rfl
theorem q1453 : (Jvm.Cond.privateMethod ({ cls := "StrokesHeardModel", name := "hoursFit", desc := "()I" } : Jvm.MethodName)) ∈ lw_tbl := lw_at lw_m6 172 rfl
theorem q1454 : (Jvm.Cond.instanceMethod ({ cls := "StrokesHeardModel", name := "hoursFit", desc := "()I" } : Jvm.MethodName)) ∈ lw_all := lw_g (lw_at lw_m6 173 rfl) rfl
theorem q1455 : (Jvm.Cond.code ({ cls := "StrokesHeardModel", name := "hoursFit", desc := "()I" } : Jvm.MethodName) prog_18_method_42_code (3 : Nat) (Option.some Jvm.ClassFile.FieldType.int)) ∈ lw_all := lw_g (lw_at lw_m6 174 rfl) rfl
theorem q1456 : (Jvm.Cond.methodLink "StrokesHeardModel" (167 : Nat) ({ cls := "StrokesHeardModel", name := "isSure", desc := "()Z" } : Jvm.MethodName)) ∈ lw_all := lw_g (lw_at lw_m6 175 rfl) rfl
theorem q1457 : (Jvm.Cond.privateMethod ({ cls := "StrokesHeardModel", name := "isSure", desc := "()Z" } : Jvm.MethodName)) ∈ lw_tbl := lw_at lw_m6 176 rfl
theorem q1458 : (Jvm.Cond.instanceMethod ({ cls := "StrokesHeardModel", name := "isSure", desc := "()Z" } : Jvm.MethodName)) ∈ lw_all := lw_g (lw_at lw_m6 177 rfl) rfl
theorem q1459 : (Jvm.Cond.code ({ cls := "StrokesHeardModel", name := "isSure", desc := "()Z" } : Jvm.MethodName) prog_18_method_43_code (2 : Nat) (Option.some Jvm.ClassFile.FieldType.boolean)) ∈ lw_all := lw_g (lw_at lw_m6 178 rfl) rfl
theorem q1461 : (Jvm.Cond.instanceMethod ({ cls := "StrokesHeardModel", name := "next", desc := "()I" } : Jvm.MethodName)) ∈ lw_all := lw_g (lw_at lw_m6 180 rfl) rfl
theorem q1462 : (Jvm.Cond.selects "StrokesHeardModel" ({ cls := "StrokesHeardModel", name := "next", desc := "()I" } : Jvm.MethodName) ({ cls := "StrokesHeardModel", name := "next", desc := "()I" } : Jvm.MethodName)) ∈ lw_all := lw_g (lw_at lw_m6 181 rfl) rfl
theorem q1463 : (Jvm.Cond.code ({ cls := "StrokesHeardModel", name := "next", desc := "()I" } : Jvm.MethodName) prog_18_method_46_code (2 : Nat) (Option.some Jvm.ClassFile.FieldType.int)) ∈ lw_all := lw_g (lw_at lw_m6 182 rfl) rfl
theorem q1465 : (Jvm.Cond.instanceMethod ({ cls := "StrokesHeardModel", name := "parts", desc := "(II)I" } : Jvm.MethodName)) ∈ lw_all := lw_g (lw_at lw_m6 184 rfl) rfl
theorem q1466 : (Jvm.Cond.selects "StrokesHeardModel" ({ cls := "StrokesHeardModel", name := "parts", desc := "(II)I" } : Jvm.MethodName) ({ cls := "StrokesHeardModel", name := "parts", desc := "(II)I" } : Jvm.MethodName)) ∈ lw_all := lw_g (lw_at lw_m6 185 rfl) rfl
theorem q1467 : (Jvm.Cond.code ({ cls := "StrokesHeardModel", name := "parts", desc := "(II)I" } : Jvm.MethodName) prog_18_method_47_code (7 : Nat) (Option.some Jvm.ClassFile.FieldType.int)) ∈ lw_all := lw_g (lw_at lw_m6 186 rfl) rfl
theorem q1469 : (Jvm.Cond.instanceMethod ({ cls := "StrokesHeardModel", name := "astray", desc := "(I)I" } : Jvm.MethodName)) ∈ lw_all := lw_g (lw_at lw_m6 188 rfl) rfl
theorem q1470 : (Jvm.Cond.selects "StrokesHeardModel" ({ cls := "StrokesHeardModel", name := "astray", desc := "(I)I" } : Jvm.MethodName) ({ cls := "StrokesHeardModel", name := "astray", desc := "(I)I" } : Jvm.MethodName)) ∈ lw_all := lw_g (lw_at lw_m6 189 rfl) rfl
theorem q1471 : (Jvm.Cond.code ({ cls := "StrokesHeardModel", name := "astray", desc := "(I)I" } : Jvm.MethodName) prog_18_method_48_code (6 : Nat) (Option.some Jvm.ClassFile.FieldType.int)) ∈ lw_all := lw_g (lw_at lw_m6 190 rfl) rfl
theorem q1472 : (Jvm.Cond.methodLink "StrokesHeardModel" (171 : Nat) ({ cls := "StrokesHeardModel", name := "findMore", desc := "(II)V" } : Jvm.MethodName)) ∈ lw_all := lw_g (lw_at lw_m6 191 rfl) rfl
theorem q1473 : (Jvm.Cond.privateMethod ({ cls := "StrokesHeardModel", name := "findMore", desc := "(II)V" } : Jvm.MethodName)) ∈ lw_tbl := lw_at lw_m6 192 rfl
theorem q1474 : (Jvm.Cond.instanceMethod ({ cls := "StrokesHeardModel", name := "findMore", desc := "(II)V" } : Jvm.MethodName)) ∈ lw_all := lw_g (lw_at lw_m6 193 rfl) rfl
theorem q1475 : (Jvm.Cond.code ({ cls := "StrokesHeardModel", name := "findMore", desc := "(II)V" } : Jvm.MethodName) prog_18_method_39_code (4 : Nat) (Option.none : Option Jvm.ClassFile.FieldType)) ∈ lw_all := lw_g (lw_at lw_m6 194 rfl) rfl
theorem q1477 : (Jvm.Cond.instanceMethod ({ cls := "StrokesHeardModel", name := "right", desc := "(II)I" } : Jvm.MethodName)) ∈ lw_all := lw_g (lw_at lw_m6 196 rfl) rfl
theorem q1478 : (Jvm.Cond.selects "StrokesHeardModel" ({ cls := "StrokesHeardModel", name := "right", desc := "(II)I" } : Jvm.MethodName) ({ cls := "StrokesHeardModel", name := "right", desc := "(II)I" } : Jvm.MethodName)) ∈ lw_all := lw_g (lw_at lw_m6 197 rfl) rfl
theorem q1479 : (Jvm.Cond.code ({ cls := "StrokesHeardModel", name := "right", desc := "(II)I" } : Jvm.MethodName) prog_18_method_49_code (8 : Nat) (Option.some Jvm.ClassFile.FieldType.int)) ∈ lw_all := lw_g (lw_at lw_m6 198 rfl) rfl
theorem q1481 : (Jvm.Cond.instanceMethod ({ cls := "StrokesHeardModel", name := "telling", desc := "()I" } : Jvm.MethodName)) ∈ lw_all := lw_g (lw_at lw_m6 200 rfl) rfl
theorem q1482 : (Jvm.Cond.selects "StrokesHeardModel" ({ cls := "StrokesHeardModel", name := "telling", desc := "()I" } : Jvm.MethodName) ({ cls := "StrokesHeardModel", name := "telling", desc := "()I" } : Jvm.MethodName)) ∈ lw_all := lw_g (lw_at lw_m6 201 rfl) rfl
theorem q1483 : (Jvm.Cond.code ({ cls := "StrokesHeardModel", name := "telling", desc := "()I" } : Jvm.MethodName) prog_18_method_50_code (8 : Nat) (Option.some Jvm.ClassFile.FieldType.int)) ∈ lw_all := lw_g (lw_at lw_m6 202 rfl) rfl
theorem q1485 : (Jvm.Cond.instanceMethod ({ cls := "StrokesHeardModel", name := "like", desc := "(II)I" } : Jvm.MethodName)) ∈ lw_all := lw_g (lw_at lw_m6 204 rfl) rfl
theorem q1486 : (Jvm.Cond.selects "StrokesHeardModel" ({ cls := "StrokesHeardModel", name := "like", desc := "(II)I" } : Jvm.MethodName) ({ cls := "StrokesHeardModel", name := "like", desc := "(II)I" } : Jvm.MethodName)) ∈ lw_all := lw_g (lw_at lw_m6 205 rfl) rfl
theorem q1487 : (Jvm.Cond.code ({ cls := "StrokesHeardModel", name := "like", desc := "(II)I" } : Jvm.MethodName) prog_18_method_52_code (7 : Nat) (Option.some Jvm.ClassFile.FieldType.int)) ∈ lw_all := lw_g (lw_at lw_m6 206 rfl) rfl
theorem q1488 : (Jvm.Cond.methodLink "StrokesHeardModel" (178 : Nat) ({ cls := "StrokesHeardModel", name := "isSheet", desc := "(I)Z" } : Jvm.MethodName)) ∈ lw_all := lw_g (lw_at lw_m6 207 rfl) rfl
theorem q1489 : (Jvm.Cond.static ({ cls := "StrokesHeardModel", name := "isSheet", desc := "(I)Z" } : Jvm.MethodName)) ∈ lw_all := lw_g (lw_at lw_m6 208 rfl) rfl
theorem q1490 : (Jvm.Cond.code ({ cls := "StrokesHeardModel", name := "isSheet", desc := "(I)Z" } : Jvm.MethodName) prog_18_method_83_code (1 : Nat) (Option.some Jvm.ClassFile.FieldType.boolean)) ∈ lw_all := lw_g (lw_at lw_m6 209 rfl) rfl
theorem q1491 : (Jvm.Cond.constant "StrokesHeardModel" (181 : Nat) (-1000000011 : Int32)) ∈ lw_all := lw_g (lw_at lw_m6 210 rfl) rfl
theorem q1492 : (Jvm.Cond.methodLink "StrokesHeardModel" (182 : Nat) ({ cls := "StrokesHeardModel", name := "offBy", desc := "(II)I" } : Jvm.MethodName)) ∈ lw_all := lw_g (lw_at lw_m6 211 rfl) rfl
theorem q1493 : (Jvm.Cond.privateMethod ({ cls := "StrokesHeardModel", name := "offBy", desc := "(II)I" } : Jvm.MethodName)) ∈ lw_tbl := lw_at lw_m6 212 rfl
theorem q1494 : (Jvm.Cond.instanceMethod ({ cls := "StrokesHeardModel", name := "offBy", desc := "(II)I" } : Jvm.MethodName)) ∈ lw_all := lw_g (lw_at lw_m6 213 rfl) rfl
theorem q1495 : (Jvm.Cond.code ({ cls := "StrokesHeardModel", name := "offBy", desc := "(II)I" } : Jvm.MethodName) prog_18_method_51_code (6 : Nat) (Option.some Jvm.ClassFile.FieldType.int)) ∈ lw_all := lw_g (lw_at lw_m6 214 rfl) rfl
theorem q1496 : (Jvm.Cond.methodLink "StrokesHeardModel" (175 : Nat) ({ cls := "StrokesHeardModel", name := "off", desc := "(II)I" } : Jvm.MethodName)) ∈ lw_all := lw_g (lw_at lw_m6 215 rfl) rfl
theorem q1497 : (Jvm.Cond.static ({ cls := "StrokesHeardModel", name := "off", desc := "(II)I" } : Jvm.MethodName)) ∈ lw_all := lw_g (lw_at lw_m6 216 rfl) rfl
theorem q1498 : (Jvm.Cond.code ({ cls := "StrokesHeardModel", name := "off", desc := "(II)I" } : Jvm.MethodName) prog_18_method_5_code (2 : Nat) (Option.some Jvm.ClassFile.FieldType.int)) ∈ lw_all := lw_g (lw_at lw_m6 217 rfl) rfl
theorem q1500 : (Jvm.Cond.instanceMethod ({ cls := "StrokesHeardModel", name := "behind", desc := "(II)I" } : Jvm.MethodName)) ∈ lw_all := lw_g (lw_at lw_m6 219 rfl) rfl
theorem q1501 : (Jvm.Cond.selects "StrokesHeardModel" ({ cls := "StrokesHeardModel", name := "behind", desc := "(II)I" } : Jvm.MethodName) ({ cls := "StrokesHeardModel", name := "behind", desc := "(II)I" } : Jvm.MethodName)) ∈ lw_all := lw_g (lw_at lw_m6 220 rfl) rfl
theorem q1502 : (Jvm.Cond.code ({ cls := "StrokesHeardModel", name := "behind", desc := "(II)I" } : Jvm.MethodName) prog_18_method_55_code (4 : Nat) (Option.some Jvm.ClassFile.FieldType.int)) ∈ lw_all := lw_g (lw_at lw_m6 221 rfl) rfl
theorem q1503 : (Jvm.Cond.methodLink "StrokesHeardModel" (185 : Nat) ({ cls := "StrokesHeardModel", name := "laysBy", desc := "()V" } : Jvm.MethodName)) ∈ lw_all := lw_g (lw_at lw_m6 222 rfl) rfl
theorem q1504 : (Jvm.Cond.privateMethod ({ cls := "StrokesHeardModel", name := "laysBy", desc := "()V" } : Jvm.MethodName)) ∈ lw_tbl := lw_at lw_m6 223 rfl
theorem q1505 : (Jvm.Cond.instanceMethod ({ cls := "StrokesHeardModel", name := "laysBy", desc := "()V" } : Jvm.MethodName)) ∈ lw_all := lw_g (lw_at lw_m6 224 rfl) rfl
theorem q1506 : (Jvm.Cond.code ({ cls := "StrokesHeardModel", name := "laysBy", desc := "()V" } : Jvm.MethodName) prog_18_method_53_code (2 : Nat) (Option.none : Option Jvm.ClassFile.FieldType)) ∈ lw_all := lw_g (lw_at lw_m6 225 rfl) rfl
theorem q1507 : (Jvm.Cond.methodLink "StrokesHeardModel" (188 : Nat) ({ cls := "StrokesHeardModel", name := "laysBack", desc := "()V" } : Jvm.MethodName)) ∈ lw_all := lw_g (lw_at lw_m6 226 rfl) rfl
theorem q1508 : (Jvm.Cond.privateMethod ({ cls := "StrokesHeardModel", name := "laysBack", desc := "()V" } : Jvm.MethodName)) ∈ lw_tbl := lw_at lw_m6 227 rfl
theorem q1509 : (Jvm.Cond.instanceMethod ({ cls := "StrokesHeardModel", name := "laysBack", desc := "()V" } : Jvm.MethodName)) ∈ lw_all := lw_g (lw_at lw_m6 228 rfl) rfl
theorem q1510 : (Jvm.Cond.code ({ cls := "StrokesHeardModel", name := "laysBack", desc := "()V" } : Jvm.MethodName) prog_18_method_54_code (2 : Nat) (Option.none : Option Jvm.ClassFile.FieldType)) ∈ lw_all := lw_g (lw_at lw_m6 229 rfl) rfl
theorem q1512 : (Jvm.Cond.instanceMethod ({ cls := "StrokesHeardModel", name := "listen", desc := "()I" } : Jvm.MethodName)) ∈ lw_all := lw_g (lw_at lw_m6 231 rfl) rfl
theorem q1513 : (Jvm.Cond.selects "StrokesHeardModel" ({ cls := "StrokesHeardModel", name := "listen", desc := "()I" } : Jvm.MethodName) ({ cls := "StrokesHeardModel", name := "listen", desc := "()I" } : Jvm.MethodName)) ∈ lw_all := lw_g (lw_at lw_m6 232 rfl) rfl
theorem q1514 : (Jvm.Cond.code ({ cls := "StrokesHeardModel", name := "listen", desc := "()I" } : Jvm.MethodName) prog_18_method_56_code (2 : Nat) (Option.some Jvm.ClassFile.FieldType.int)) ∈ lw_all := lw_g (lw_at lw_m6 233 rfl) rfl
theorem q1516 : (Jvm.Cond.instanceMethod ({ cls := "StrokesHeardModel", name := "fee", desc := "()I" } : Jvm.MethodName)) ∈ lw_all := lw_g (lw_at lw_m6 235 rfl) rfl
theorem q1517 : (Jvm.Cond.selects "StrokesHeardModel" ({ cls := "StrokesHeardModel", name := "fee", desc := "()I" } : Jvm.MethodName) ({ cls := "StrokesHeardModel", name := "fee", desc := "()I" } : Jvm.MethodName)) ∈ lw_all := lw_g (lw_at lw_m6 236 rfl) rfl
theorem q1518 : (Jvm.Cond.code ({ cls := "StrokesHeardModel", name := "fee", desc := "()I" } : Jvm.MethodName) prog_18_method_57_code (2 : Nat) (Option.some Jvm.ClassFile.FieldType.int)) ∈ lw_all := lw_g (lw_at lw_m6 237 rfl) rfl
theorem q1520 : (Jvm.Cond.instanceMethod ({ cls := "StrokesHeardModel", name := "fine", desc := "(I)I" } : Jvm.MethodName)) ∈ lw_all := lw_g (lw_at lw_m6 239 rfl) rfl
theorem q1521 : (Jvm.Cond.selects "StrokesHeardModel" ({ cls := "StrokesHeardModel", name := "fine", desc := "(I)I" } : Jvm.MethodName) ({ cls := "StrokesHeardModel", name := "fine", desc := "(I)I" } : Jvm.MethodName)) ∈ lw_all := lw_g (lw_at lw_m7 0 rfl) rfl
theorem q1522 : (Jvm.Cond.code ({ cls := "StrokesHeardModel", name := "fine", desc := "(I)I" } : Jvm.MethodName) prog_18_method_58_code (3 : Nat) (Option.some Jvm.ClassFile.FieldType.int)) ∈ lw_all := lw_g (lw_at lw_m7 1 rfl) rfl
theorem q1524 : (Jvm.Cond.instanceMethod ({ cls := "StrokesHeardModel", name := "feed", desc := "(III)I" } : Jvm.MethodName)) ∈ lw_all := lw_g (lw_at lw_m7 3 rfl) rfl
theorem q1525 : (Jvm.Cond.selects "StrokesHeardModel" ({ cls := "StrokesHeardModel", name := "feed", desc := "(III)I" } : Jvm.MethodName) ({ cls := "StrokesHeardModel", name := "feed", desc := "(III)I" } : Jvm.MethodName)) ∈ lw_all := lw_g (lw_at lw_m7 4 rfl) rfl
theorem q1526 : (Jvm.Cond.code ({ cls := "StrokesHeardModel", name := "feed", desc := "(III)I" } : Jvm.MethodName) prog_18_method_59_code (6 : Nat) (Option.some Jvm.ClassFile.FieldType.int)) ∈ lw_all := lw_g (lw_at lw_m7 5 rfl) rfl
theorem q1528 : (Jvm.Cond.instanceMethod ({ cls := "StrokesHeardModel", name := "trim", desc := "(I)I" } : Jvm.MethodName)) ∈ lw_all := lw_g (lw_at lw_m7 7 rfl) rfl
theorem q1529 : (Jvm.Cond.selects "StrokesHeardModel" ({ cls := "StrokesHeardModel", name := "trim", desc := "(I)I" } : Jvm.MethodName) ({ cls := "StrokesHeardModel", name := "trim", desc := "(I)I" } : Jvm.MethodName)) ∈ lw_all := lw_g (lw_at lw_m7 8 rfl) rfl
theorem q1530 : (Jvm.Cond.code ({ cls := "StrokesHeardModel", name := "trim", desc := "(I)I" } : Jvm.MethodName) prog_18_method_60_code (2 : Nat) (Option.some Jvm.ClassFile.FieldType.int)) ∈ lw_all := lw_g (lw_at lw_m7 9 rfl) rfl
theorem q1532 : (Jvm.Cond.instanceMethod ({ cls := "StrokesHeardModel", name := "text", desc := "()I" } : Jvm.MethodName)) ∈ lw_all := lw_g (lw_at lw_m7 11 rfl) rfl
theorem q1533 : (Jvm.Cond.selects "StrokesHeardModel" ({ cls := "StrokesHeardModel", name := "text", desc := "()I" } : Jvm.MethodName) ({ cls := "StrokesHeardModel", name := "text", desc := "()I" } : Jvm.MethodName)) ∈ lw_all := lw_g (lw_at lw_m7 12 rfl) rfl
theorem q1534 : (Jvm.Cond.code ({ cls := "StrokesHeardModel", name := "text", desc := "()I" } : Jvm.MethodName) prog_18_method_77_code (3 : Nat) (Option.some Jvm.ClassFile.FieldType.int)) ∈ lw_all := lw_g (lw_at lw_m7 13 rfl) rfl
theorem q1535 : (Jvm.Cond.methodLink "StrokesHeardModel" (283 : Nat) ({ cls := "StrokesHeardModel", name := "parse", desc := "()I" } : Jvm.MethodName)) ∈ lw_all := lw_g (lw_at lw_m7 14 rfl) rfl
theorem q1536 : (Jvm.Cond.privateMethod ({ cls := "StrokesHeardModel", name := "parse", desc := "()I" } : Jvm.MethodName)) ∈ lw_tbl := lw_at lw_m7 15 rfl
theorem q1537 : (Jvm.Cond.instanceMethod ({ cls := "StrokesHeardModel", name := "parse", desc := "()I" } : Jvm.MethodName)) ∈ lw_all := lw_g (lw_at lw_m7 16 rfl) rfl
theorem q1538 : (Jvm.Cond.code ({ cls := "StrokesHeardModel", name := "parse", desc := "()I" } : Jvm.MethodName) prog_18_method_76_code (3 : Nat) (Option.some Jvm.ClassFile.FieldType.int)) ∈ lw_all := lw_g (lw_at lw_m7 17 rfl) rfl
theorem q1539 : (Jvm.Cond.methodLink "StrokesHeardModel" (244 : Nat) ({ cls := "StrokesHeardModel", name := "nextToken", desc := "()V" } : Jvm.MethodName)) ∈ lw_all := lw_g (lw_at lw_m7 18 rfl) rfl
theorem q1540 : (Jvm.Cond.privateMethod ({ cls := "StrokesHeardModel", name := "nextToken", desc := "()V" } : Jvm.MethodName)) ∈ lw_tbl := lw_at lw_m7 19 rfl
theorem q1541 : (Jvm.Cond.instanceMethod ({ cls := "StrokesHeardModel", name := "nextToken", desc := "()V" } : Jvm.MethodName)) ∈ lw_all := lw_g (lw_at lw_m7 20 rfl) rfl
theorem q1542 : (Jvm.Cond.code ({ cls := "StrokesHeardModel", name := "nextToken", desc := "()V" } : Jvm.MethodName) prog_18_method_63_code (3 : Nat) (Option.none : Option Jvm.ClassFile.FieldType)) ∈ lw_all := lw_g (lw_at lw_m7 21 rfl) rfl
theorem q1543 : (Jvm.Cond.methodLink "StrokesHeardModel" (212 : Nat) ({ cls := "StrokesHeardModel", name := "isLetter", desc := "(I)Z" } : Jvm.MethodName)) ∈ lw_all := lw_g (lw_at lw_m7 22 rfl) rfl
theorem q1544 : (Jvm.Cond.privateMethod ({ cls := "StrokesHeardModel", name := "isLetter", desc := "(I)Z" } : Jvm.MethodName)) ∈ lw_tbl := lw_at lw_m7 23 rfl
theorem q1545 : (Jvm.Cond.instanceMethod ({ cls := "StrokesHeardModel", name := "isLetter", desc := "(I)Z" } : Jvm.MethodName)) ∈ lw_all := lw_g (lw_at lw_m7 24 rfl) rfl
theorem q1546 : (Jvm.Cond.code ({ cls := "StrokesHeardModel", name := "isLetter", desc := "(I)Z" } : Jvm.MethodName) prog_18_method_61_code (2 : Nat) (Option.some Jvm.ClassFile.FieldType.boolean)) ∈ lw_all := lw_g (lw_at lw_m7 25 rfl) rfl
theorem q1547 : (Jvm.Cond.constantLong "StrokesHeardModel" (195 : Nat) (97 : Int64)) ∈ lw_all := lw_g (lw_at lw_m7 26 rfl) rfl
theorem q1548 : (Jvm.Cond.constantLong "StrokesHeardModel" (197 : Nat) (122 : Int64)) ∈ lw_all := lw_g (lw_at lw_m7 27 rfl) rfl
theorem q1549 : (Jvm.Cond.methodLink "StrokesHeardModel" (218 : Nat) ({ cls := "StrokesHeardModel", name := "isDigit", desc := "(I)Z" } : Jvm.MethodName)) ∈ lw_all := lw_g (lw_at lw_m7 28 rfl) rfl
theorem q1550 : (Jvm.Cond.privateMethod ({ cls := "StrokesHeardModel", name := "isDigit", desc := "(I)Z" } : Jvm.MethodName)) ∈ lw_tbl := lw_at lw_m7 29 rfl
theorem q1551 : (Jvm.Cond.instanceMethod ({ cls := "StrokesHeardModel", name := "isDigit", desc := "(I)Z" } : Jvm.MethodName)) ∈ lw_all := lw_g (lw_at lw_m7 30 rfl) rfl
theorem q1552 : (Jvm.Cond.code ({ cls := "StrokesHeardModel", name := "isDigit", desc := "(I)Z" } : Jvm.MethodName) prog_18_method_62_code (2 : Nat) (Option.some Jvm.ClassFile.FieldType.boolean)) ∈ lw_all := lw_g (lw_at lw_m7 31 rfl) rfl
theorem q1553 : (Jvm.Cond.constantLong "StrokesHeardModel" (199 : Nat) (48 : Int64)) ∈ lw_all := lw_g (lw_at lw_m7 32 rfl) rfl
theorem q1554 : (Jvm.Cond.constantLong "StrokesHeardModel" (201 : Nat) (57 : Int64)) ∈ lw_all := lw_g (lw_at lw_m7 33 rfl) rfl
theorem q1555 : (Jvm.Cond.methodLink "StrokesHeardModel" (280 : Nat) ({ cls := "StrokesHeardModel", name := "key", desc := "()I" } : Jvm.MethodName)) ∈ lw_all := lw_g (lw_at lw_m7 34 rfl) rfl
theorem q1556 : (Jvm.Cond.privateMethod ({ cls := "StrokesHeardModel", name := "key", desc := "()I" } : Jvm.MethodName)) ∈ lw_tbl := lw_at lw_m7 35 rfl
theorem q1557 : (Jvm.Cond.instanceMethod ({ cls := "StrokesHeardModel", name := "key", desc := "()I" } : Jvm.MethodName)) ∈ lw_all := lw_g (lw_at lw_m7 36 rfl) rfl
theorem q1558 : (Jvm.Cond.code ({ cls := "StrokesHeardModel", name := "key", desc := "()I" } : Jvm.MethodName) prog_18_method_67_code (1 : Nat) (Option.some Jvm.ClassFile.FieldType.int)) ∈ lw_all := lw_g (lw_at lw_m7 37 rfl) rfl
theorem q1559 : (Jvm.Cond.methodLink "StrokesHeardModel" (224 : Nat) ({ cls := "StrokesHeardModel", name := "isLong", desc := "(IIIIII)Z" } : Jvm.MethodName)) ∈ lw_all := lw_g (lw_at lw_m7 38 rfl) rfl
theorem q1560 : (Jvm.Cond.privateMethod ({ cls := "StrokesHeardModel", name := "isLong", desc := "(IIIIII)Z" } : Jvm.MethodName)) ∈ lw_tbl := lw_at lw_m7 39 rfl
theorem q1561 : (Jvm.Cond.instanceMethod ({ cls := "StrokesHeardModel", name := "isLong", desc := "(IIIIII)Z" } : Jvm.MethodName)) ∈ lw_all := lw_g (lw_at lw_m7 40 rfl) rfl
theorem q1562 : (Jvm.Cond.code ({ cls := "StrokesHeardModel", name := "isLong", desc := "(IIIIII)Z" } : Jvm.MethodName) prog_18_method_66_code (8 : Nat) (Option.some Jvm.ClassFile.FieldType.boolean)) ∈ lw_all := lw_g (lw_at lw_m7 41 rfl) rfl
theorem q1563 : (Jvm.Cond.methodLink "StrokesHeardModel" (228 : Nat) ({ cls := "StrokesHeardModel", name := "isWordAt", desc := "(IIII)Z" } : Jvm.MethodName)) ∈ lw_all := lw_g (lw_at lw_m7 42 rfl) rfl
theorem q1564 : (Jvm.Cond.privateMethod ({ cls := "StrokesHeardModel", name := "isWordAt", desc := "(IIII)Z" } : Jvm.MethodName)) ∈ lw_tbl := lw_at lw_m7 43 rfl
theorem q1565 : (Jvm.Cond.instanceMethod ({ cls := "StrokesHeardModel", name := "isWordAt", desc := "(IIII)Z" } : Jvm.MethodName)) ∈ lw_all := lw_g (lw_at lw_m7 44 rfl) rfl
theorem q1566 : (Jvm.Cond.code ({ cls := "StrokesHeardModel", name := "isWordAt", desc := "(IIII)Z" } : Jvm.MethodName) prog_18_method_65_code (6 : Nat) (Option.some Jvm.ClassFile.FieldType.boolean)) ∈ lw_all := lw_g (lw_at lw_m7 45 rfl) rfl
theorem q1567 : (Jvm.Cond.methodLink "StrokesHeardModel" (274 : Nat) ({ cls := "StrokesHeardModel", name := "either", desc := "(I)Z" } : Jvm.MethodName)) ∈ lw_all := lw_g (lw_at lw_m7 46 rfl) rfl
theorem q1568 : (Jvm.Cond.privateMethod ({ cls := "StrokesHeardModel", name := "either", desc := "(I)Z" } : Jvm.MethodName)) ∈ lw_tbl := lw_at lw_m7 47 rfl
theorem q1569 : (Jvm.Cond.instanceMethod ({ cls := "StrokesHeardModel", name := "either", desc := "(I)Z" } : Jvm.MethodName)) ∈ lw_all := lw_g (lw_at lw_m7 48 rfl) rfl
theorem q1570 : (Jvm.Cond.code ({ cls := "StrokesHeardModel", name := "either", desc := "(I)Z" } : Jvm.MethodName) prog_18_method_70_code (2 : Nat) (Option.some Jvm.ClassFile.FieldType.boolean)) ∈ lw_all := lw_g (lw_at lw_m7 49 rfl) rfl
theorem q1571 : (Jvm.Cond.methodLink "StrokesHeardModel" (238 : Nat) ({ cls := "StrokesHeardModel", name := "both", desc := "(I)Z" } : Jvm.MethodName)) ∈ lw_all := lw_g (lw_at lw_m7 50 rfl) rfl
theorem q1572 : (Jvm.Cond.privateMethod ({ cls := "StrokesHeardModel", name := "both", desc := "(I)Z" } : Jvm.MethodName)) ∈ lw_tbl := lw_at lw_m7 51 rfl
theorem q1573 : (Jvm.Cond.instanceMethod ({ cls := "StrokesHeardModel", name := "both", desc := "(I)Z" } : Jvm.MethodName)) ∈ lw_all := lw_g (lw_at lw_m7 52 rfl) rfl
theorem q1574 : (Jvm.Cond.code ({ cls := "StrokesHeardModel", name := "both", desc := "(I)Z" } : Jvm.MethodName) prog_18_method_71_code (2 : Nat) (Option.some Jvm.ClassFile.FieldType.boolean)) ∈ lw_all := lw_g (lw_at lw_m7 53 rfl) rfl
theorem q1575 : (Jvm.Cond.methodLink "StrokesHeardModel" (250 : Nat) ({ cls := "StrokesHeardModel", name := "test", desc := "(I)Z" } : Jvm.MethodName)) ∈ lw_all := lw_g (lw_at lw_m7 54 rfl) rfl
theorem q1576 : (Jvm.Cond.privateMethod ({ cls := "StrokesHeardModel", name := "test", desc := "(I)Z" } : Jvm.MethodName)) ∈ lw_tbl := lw_at lw_m7 55 rfl
theorem q1577 : (Jvm.Cond.instanceMethod ({ cls := "StrokesHeardModel", name := "test", desc := "(I)Z" } : Jvm.MethodName)) ∈ lw_all := lw_g (lw_at lw_m7 56 rfl) rfl
theorem q1578 : (Jvm.Cond.code ({ cls := "StrokesHeardModel", name := "test", desc := "(I)Z" } : Jvm.MethodName) prog_18_method_72_code (3 : Nat) (Option.some Jvm.ClassFile.FieldType.boolean)) ∈ lw_all := lw_g (lw_at lw_m7 57 rfl) rfl
theorem q1579 : (Jvm.Cond.methodLink "StrokesHeardModel" (253 : Nat) ({ cls := "StrokesHeardModel", name := "sum", desc := "(I)Z" } : Jvm.MethodName)) ∈ lw_all := lw_g (lw_at lw_m7 58 rfl) rfl
theorem q1580 : (Jvm.Cond.privateMethod ({ cls := "StrokesHeardModel", name := "sum", desc := "(I)Z" } : Jvm.MethodName)) ∈ lw_tbl := lw_at lw_m7 59 rfl
theorem q1581 : (Jvm.Cond.instanceMethod ({ cls := "StrokesHeardModel", name := "sum", desc := "(I)Z" } : Jvm.MethodName)) ∈ lw_all := lw_g (lw_at lw_m7 60 rfl) rfl
theorem q1582 : (Jvm.Cond.code ({ cls := "StrokesHeardModel", name := "sum", desc := "(I)Z" } : Jvm.MethodName) prog_18_method_73_code (3 : Nat) (Option.some Jvm.ClassFile.FieldType.boolean)) ∈ lw_all := lw_g (lw_at lw_m7 61 rfl) rfl
theorem q1583 : (Jvm.Cond.methodLink "StrokesHeardModel" (256 : Nat) ({ cls := "StrokesHeardModel", name := "term", desc := "(I)Z" } : Jvm.MethodName)) ∈ lw_all := lw_g (lw_at lw_m7 62 rfl) rfl
theorem q1584 : (Jvm.Cond.privateMethod ({ cls := "StrokesHeardModel", name := "term", desc := "(I)Z" } : Jvm.MethodName)) ∈ lw_tbl := lw_at lw_m7 63 rfl
theorem q1585 : (Jvm.Cond.instanceMethod ({ cls := "StrokesHeardModel", name := "term", desc := "(I)Z" } : Jvm.MethodName)) ∈ lw_all := lw_g (lw_at lw_m7 64 rfl) rfl
theorem q1586 : (Jvm.Cond.code ({ cls := "StrokesHeardModel", name := "term", desc := "(I)Z" } : Jvm.MethodName) prog_18_method_74_code (3 : Nat) (Option.some Jvm.ClassFile.FieldType.boolean)) ∈ lw_all := lw_g (lw_at lw_m7 65 rfl) rfl
theorem q1587 : (Jvm.Cond.methodLink "StrokesHeardModel" (259 : Nat) ({ cls := "StrokesHeardModel", name := "part0", desc := "(I)Z" } : Jvm.MethodName)) ∈ lw_all := lw_g (lw_at lw_m7 66 rfl) rfl
theorem q1588 : (Jvm.Cond.privateMethod ({ cls := "StrokesHeardModel", name := "part0", desc := "(I)Z" } : Jvm.MethodName)) ∈ lw_tbl := lw_at lw_m7 67 rfl
theorem q1589 : (Jvm.Cond.instanceMethod ({ cls := "StrokesHeardModel", name := "part0", desc := "(I)Z" } : Jvm.MethodName)) ∈ lw_all := lw_g (lw_at lw_m7 68 rfl) rfl
theorem q1590 : (Jvm.Cond.code ({ cls := "StrokesHeardModel", name := "part0", desc := "(I)Z" } : Jvm.MethodName) prog_18_method_75_code (2 : Nat) (Option.some Jvm.ClassFile.FieldType.boolean)) ∈ lw_all := lw_g (lw_at lw_m7 69 rfl) rfl
theorem q1591 : (Jvm.Cond.methodLink "StrokesHeardModel" (247 : Nat) ({ cls := "StrokesHeardModel", name := "step", desc := "(II)V" } : Jvm.MethodName)) ∈ lw_all := lw_g (lw_at lw_m7 70 rfl) rfl
theorem q1592 : (Jvm.Cond.privateMethod ({ cls := "StrokesHeardModel", name := "step", desc := "(II)V" } : Jvm.MethodName)) ∈ lw_tbl := lw_at lw_m7 71 rfl
theorem q1593 : (Jvm.Cond.instanceMethod ({ cls := "StrokesHeardModel", name := "step", desc := "(II)V" } : Jvm.MethodName)) ∈ lw_all := lw_g (lw_at lw_m7 72 rfl) rfl
theorem q1594 : (Jvm.Cond.code ({ cls := "StrokesHeardModel", name := "step", desc := "(II)V" } : Jvm.MethodName) prog_18_method_69_code (3 : Nat) (Option.none : Option Jvm.ClassFile.FieldType)) ∈ lw_all := lw_g (lw_at lw_m7 73 rfl) rfl
theorem q1595 : (Jvm.Cond.methodLink "StrokesHeardModel" (265 : Nat) ({ cls := "StrokesHeardModel", name := "isName", desc := "(II)Z" } : Jvm.MethodName)) ∈ lw_all := lw_g (lw_at lw_m7 74 rfl) rfl
theorem q1596 : (Jvm.Cond.static ({ cls := "StrokesHeardModel", name := "isName", desc := "(II)Z" } : Jvm.MethodName)) ∈ lw_all := lw_g (lw_at lw_m7 75 rfl) rfl
theorem q1597 : (Jvm.Cond.code ({ cls := "StrokesHeardModel", name := "isName", desc := "(II)Z" } : Jvm.MethodName) prog_18_method_68_code (2 : Nat) (Option.some Jvm.ClassFile.FieldType.boolean)) ∈ lw_all := lw_g (lw_at lw_m7 76 rfl) rfl
theorem q1598 : (Jvm.Cond.methodLink "StrokesHeardModel" (241 : Nat) ({ cls := "StrokesHeardModel", name := "isSign", desc := "(I)Z" } : Jvm.MethodName)) ∈ lw_all := lw_g (lw_at lw_m7 77 rfl) rfl
theorem q1599 : (Jvm.Cond.privateMethod ({ cls := "StrokesHeardModel", name := "isSign", desc := "(I)Z" } : Jvm.MethodName)) ∈ lw_tbl := lw_at lw_m7 78 rfl
theorem q1600 : (Jvm.Cond.instanceMethod ({ cls := "StrokesHeardModel", name := "isSign", desc := "(I)Z" } : Jvm.MethodName)) ∈ lw_all := lw_g (lw_at lw_m7 79 rfl) rfl
theorem q1601 : (Jvm.Cond.code ({ cls := "StrokesHeardModel", name := "isSign", desc := "(I)Z" } : Jvm.MethodName) prog_18_method_64_code (2 : Nat) (Option.some Jvm.ClassFile.FieldType.boolean)) ∈ lw_all := lw_g (lw_at lw_m7 80 rfl) rfl
theorem q1603 : (Jvm.Cond.instanceMethod ({ cls := "StrokesHeardModel", name := "textTold", desc := "(II)I" } : Jvm.MethodName)) ∈ lw_all := lw_g (lw_at lw_m7 82 rfl) rfl
theorem q1604 : (Jvm.Cond.selects "StrokesHeardModel" ({ cls := "StrokesHeardModel", name := "textTold", desc := "(II)I" } : Jvm.MethodName) ({ cls := "StrokesHeardModel", name := "textTold", desc := "(II)I" } : Jvm.MethodName)) ∈ lw_all := lw_g (lw_at lw_m7 83 rfl) rfl
theorem q1605 : (Jvm.Cond.code ({ cls := "StrokesHeardModel", name := "textTold", desc := "(II)I" } : Jvm.MethodName) prog_18_method_78_code (3 : Nat) (Option.some Jvm.ClassFile.FieldType.int)) ∈ lw_all := lw_g (lw_at lw_m7 84 rfl) rfl
theorem q1606 : (Jvm.Cond.methodLink "StrokesHeardModel" (286 : Nat) ({ cls := "StrokesHeardModel", name := "isText", desc := "(I)Z" } : Jvm.MethodName)) ∈ lw_all := lw_g (lw_at lw_m7 85 rfl) rfl
theorem q1607 : (Jvm.Cond.privateMethod ({ cls := "StrokesHeardModel", name := "isText", desc := "(I)Z" } : Jvm.MethodName)) ∈ lw_tbl := lw_at lw_m7 86 rfl
theorem q1608 : (Jvm.Cond.instanceMethod ({ cls := "StrokesHeardModel", name := "isText", desc := "(I)Z" } : Jvm.MethodName)) ∈ lw_all := lw_g (lw_at lw_m7 87 rfl) rfl
theorem q1609 : (Jvm.Cond.code ({ cls := "StrokesHeardModel", name := "isText", desc := "(I)Z" } : Jvm.MethodName) prog_18_method_11_code (2 : Nat) (Option.some Jvm.ClassFile.FieldType.boolean)) ∈ lw_all := lw_g (lw_at lw_m7 88 rfl) rfl
theorem q1611 : (Jvm.Cond.instanceMethod ({ cls := "StrokesHeardModel", name := "why", desc := "(I)I" } : Jvm.MethodName)) ∈ lw_all := lw_g (lw_at lw_m7 90 rfl) rfl
theorem q1612 : (Jvm.Cond.selects "StrokesHeardModel" ({ cls := "StrokesHeardModel", name := "why", desc := "(I)I" } : Jvm.MethodName) ({ cls := "StrokesHeardModel", name := "why", desc := "(I)I" } : Jvm.MethodName)) ∈ lw_all := lw_g (lw_at lw_m7 91 rfl) rfl
theorem q1613 : (Jvm.Cond.code ({ cls := "StrokesHeardModel", name := "why", desc := "(I)I" } : Jvm.MethodName) prog_18_method_80_code (2 : Nat) (Option.some Jvm.ClassFile.FieldType.int)) ∈ lw_all := lw_g (lw_at lw_m7 92 rfl) rfl
theorem q1614 : (Jvm.Cond.methodLink "StrokesHeardModel" (289 : Nat) ({ cls := "StrokesHeardModel", name := "orNone", desc := "(I)I" } : Jvm.MethodName)) ∈ lw_all := lw_g (lw_at lw_m7 93 rfl) rfl
theorem q1615 : (Jvm.Cond.static ({ cls := "StrokesHeardModel", name := "orNone", desc := "(I)I" } : Jvm.MethodName)) ∈ lw_all := lw_g (lw_at lw_m7 94 rfl) rfl
theorem q1616 : (Jvm.Cond.code ({ cls := "StrokesHeardModel", name := "orNone", desc := "(I)I" } : Jvm.MethodName) prog_18_method_3_code (1 : Nat) (Option.some Jvm.ClassFile.FieldType.int)) ∈ lw_all := lw_g (lw_at lw_m7 95 rfl) rfl
theorem q1618 : (Jvm.Cond.instanceMethod ({ cls := "StrokesHeardModel", name := "sheet", desc := "(III)I" } : Jvm.MethodName)) ∈ lw_all := lw_g (lw_at lw_m7 97 rfl) rfl
theorem q1619 : (Jvm.Cond.selects "StrokesHeardModel" ({ cls := "StrokesHeardModel", name := "sheet", desc := "(III)I" } : Jvm.MethodName) ({ cls := "StrokesHeardModel", name := "sheet", desc := "(III)I" } : Jvm.MethodName)) ∈ lw_all := lw_g (lw_at lw_m7 98 rfl) rfl
theorem q1620 : (Jvm.Cond.code ({ cls := "StrokesHeardModel", name := "sheet", desc := "(III)I" } : Jvm.MethodName) prog_18_method_84_code (5 : Nat) (Option.some Jvm.ClassFile.FieldType.int)) ∈ lw_all := lw_g (lw_at lw_m7 99 rfl) rfl
theorem q1621 : (Jvm.Cond.constantLong "StrokesHeardModel" (296 : Nat) (-1 : Int64)) ∈ lw_all := lw_g (lw_at lw_m7 100 rfl) rfl
theorem q1622 : (Jvm.Cond.constant "StrokesHeardModel" (298 : Nat) (-1000000014 : Int32)) ∈ lw_all := lw_g (lw_at lw_m7 101 rfl) rfl
theorem q1624 : (Jvm.Cond.instanceMethod ({ cls := "StrokesHeardModel", name := "mark", desc := "(III)I" } : Jvm.MethodName)) ∈ lw_all := lw_g (lw_at lw_m7 103 rfl) rfl
theorem q1625 : (Jvm.Cond.selects "StrokesHeardModel" ({ cls := "StrokesHeardModel", name := "mark", desc := "(III)I" } : Jvm.MethodName) ({ cls := "StrokesHeardModel", name := "mark", desc := "(III)I" } : Jvm.MethodName)) ∈ lw_all := lw_g (lw_at lw_m7 104 rfl) rfl
theorem q1626 : (Jvm.Cond.code ({ cls := "StrokesHeardModel", name := "mark", desc := "(III)I" } : Jvm.MethodName) prog_18_method_85_code (4 : Nat) (Option.some Jvm.ClassFile.FieldType.int)) ∈ lw_all := lw_g (lw_at lw_m7 105 rfl) rfl
theorem q1627 : (Jvm.Cond.constant "StrokesHeardModel" (299 : Nat) (-1000000013 : Int32)) ∈ lw_all := lw_g (lw_at lw_m7 106 rfl) rfl
theorem q1628 : (Jvm.Cond.constantLong "StrokesHeardModel" (300 : Nat) (-99999 : Int64)) ∈ lw_all := lw_g (lw_at lw_m7 107 rfl) rfl
theorem q1629 : (Jvm.Cond.constantLong "StrokesHeardModel" (302 : Nat) (99999 : Int64)) ∈ lw_all := lw_g (lw_at lw_m7 108 rfl) rfl
theorem q1631 : (Jvm.Cond.instanceMethod ({ cls := "StrokesHeardModel", name := "pour", desc := "(I)I" } : Jvm.MethodName)) ∈ lw_all := lw_g (lw_at lw_m7 110 rfl) rfl
theorem q1632 : (Jvm.Cond.selects "StrokesHeardModel" ({ cls := "StrokesHeardModel", name := "pour", desc := "(I)I" } : Jvm.MethodName) ({ cls := "StrokesHeardModel", name := "pour", desc := "(I)I" } : Jvm.MethodName)) ∈ lw_all := lw_g (lw_at lw_m7 111 rfl) rfl
theorem q1633 : (Jvm.Cond.code ({ cls := "StrokesHeardModel", name := "pour", desc := "(I)I" } : Jvm.MethodName) prog_18_method_86_code (6 : Nat) (Option.some Jvm.ClassFile.FieldType.int)) ∈ lw_all := lw_g (lw_at lw_m7 112 rfl) rfl
theorem q1634 : (Jvm.Cond.methodLink "StrokesHeardModel" (304 : Nat) ({ cls := "StrokesHeardModel", name := "within", desc := "(II)I" } : Jvm.MethodName)) ∈ lw_all := lw_g (lw_at lw_m7 113 rfl) rfl
theorem q1635 : (Jvm.Cond.static ({ cls := "StrokesHeardModel", name := "within", desc := "(II)I" } : Jvm.MethodName)) ∈ lw_all := lw_g (lw_at lw_m7 114 rfl) rfl
theorem q1636 : (Jvm.Cond.code ({ cls := "StrokesHeardModel", name := "within", desc := "(II)I" } : Jvm.MethodName) prog_18_method_4_code (2 : Nat) (Option.some Jvm.ClassFile.FieldType.int)) ∈ lw_all := lw_g (lw_at lw_m7 115 rfl) rfl
theorem q1638 : (Jvm.Cond.instanceMethod ({ cls := "StrokesHeardModel", name := "reads", desc := "(I)I" } : Jvm.MethodName)) ∈ lw_all := lw_g (lw_at lw_m7 117 rfl) rfl
theorem q1639 : (Jvm.Cond.selects "StrokesHeardModel" ({ cls := "StrokesHeardModel", name := "reads", desc := "(I)I" } : Jvm.MethodName) ({ cls := "StrokesHeardModel", name := "reads", desc := "(I)I" } : Jvm.MethodName)) ∈ lw_all := lw_g (lw_at lw_m7 118 rfl) rfl
theorem q1640 : (Jvm.Cond.code ({ cls := "StrokesHeardModel", name := "reads", desc := "(I)I" } : Jvm.MethodName) prog_18_method_87_code (4 : Nat) (Option.some Jvm.ClassFile.FieldType.int)) ∈ lw_all := lw_g (lw_at lw_m7 119 rfl) rfl
theorem q1642 : (Jvm.Cond.instanceMethod ({ cls := "StrokesHeardModel", name := "copy", desc := "(IIIII)I" } : Jvm.MethodName)) ∈ lw_all := lw_g (lw_at lw_m7 121 rfl) rfl
theorem q1643 : (Jvm.Cond.selects "StrokesHeardModel" ({ cls := "StrokesHeardModel", name := "copy", desc := "(IIIII)I" } : Jvm.MethodName) ({ cls := "StrokesHeardModel", name := "copy", desc := "(IIIII)I" } : Jvm.MethodName)) ∈ lw_all := lw_g (lw_at lw_m7 122 rfl) rfl
theorem q1644 : (Jvm.Cond.code ({ cls := "StrokesHeardModel", name := "copy", desc := "(IIIII)I" } : Jvm.MethodName) prog_18_method_88_code (7 : Nat) (Option.some Jvm.ClassFile.FieldType.int)) ∈ lw_all := lw_g (lw_at lw_m7 123 rfl) rfl
theorem q1646 : (Jvm.Cond.instanceMethod ({ cls := "StrokesHeardModel", name := "lay", desc := "(III)I" } : Jvm.MethodName)) ∈ lw_all := lw_g (lw_at lw_m7 125 rfl) rfl
theorem q1647 : (Jvm.Cond.selects "StrokesHeardModel" ({ cls := "StrokesHeardModel", name := "lay", desc := "(III)I" } : Jvm.MethodName) ({ cls := "StrokesHeardModel", name := "lay", desc := "(III)I" } : Jvm.MethodName)) ∈ lw_all := lw_g (lw_at lw_m7 126 rfl) rfl
theorem q1648 : (Jvm.Cond.code ({ cls := "StrokesHeardModel", name := "lay", desc := "(III)I" } : Jvm.MethodName) prog_18_method_90_code (7 : Nat) (Option.some Jvm.ClassFile.FieldType.int)) ∈ lw_all := lw_g (lw_at lw_m7 127 rfl) rfl
theorem q1649 : (Jvm.Cond.methodLink "StrokesHeardModel" (309 : Nat) ({ cls := "StrokesHeardModel", name := "isSlot", desc := "(I)Z" } : Jvm.MethodName)) ∈ lw_all := lw_g (lw_at lw_m7 128 rfl) rfl
theorem q1650 : (Jvm.Cond.static ({ cls := "StrokesHeardModel", name := "isSlot", desc := "(I)Z" } : Jvm.MethodName)) ∈ lw_all := lw_g (lw_at lw_m7 129 rfl) rfl
theorem q1651 : (Jvm.Cond.code ({ cls := "StrokesHeardModel", name := "isSlot", desc := "(I)Z" } : Jvm.MethodName) prog_18_method_89_code (1 : Nat) (Option.some Jvm.ClassFile.FieldType.boolean)) ∈ lw_all := lw_g (lw_at lw_m7 130 rfl) rfl
theorem q1652 : (Jvm.Cond.constantLong "StrokesHeardModel" (307 : Nat) (4 : Int64)) ∈ lw_all := lw_g (lw_at lw_m7 131 rfl) rfl
theorem q1654 : (Jvm.Cond.instanceMethod ({ cls := "StrokesHeardModel", name := "ask", desc := "(II)I" } : Jvm.MethodName)) ∈ lw_all := lw_g (lw_at lw_m7 133 rfl) rfl
theorem q1655 : (Jvm.Cond.selects "StrokesHeardModel" ({ cls := "StrokesHeardModel", name := "ask", desc := "(II)I" } : Jvm.MethodName) ({ cls := "StrokesHeardModel", name := "ask", desc := "(II)I" } : Jvm.MethodName)) ∈ lw_all := lw_g (lw_at lw_m7 134 rfl) rfl
theorem q1656 : (Jvm.Cond.code ({ cls := "StrokesHeardModel", name := "ask", desc := "(II)I" } : Jvm.MethodName) prog_18_method_91_code (3 : Nat) (Option.some Jvm.ClassFile.FieldType.int)) ∈ lw_all := lw_g (lw_at lw_m7 135 rfl) rfl
theorem q1658 : (Jvm.Cond.instanceMethod ({ cls := "StrokesHeardModel", name := "item", desc := "(II)I" } : Jvm.MethodName)) ∈ lw_all := lw_g (lw_at lw_m7 137 rfl) rfl
theorem q1659 : (Jvm.Cond.selects "StrokesHeardModel" ({ cls := "StrokesHeardModel", name := "item", desc := "(II)I" } : Jvm.MethodName) ({ cls := "StrokesHeardModel", name := "item", desc := "(II)I" } : Jvm.MethodName)) ∈ lw_all := lw_g (lw_at lw_m7 138 rfl) rfl
theorem q1660 : (Jvm.Cond.code ({ cls := "StrokesHeardModel", name := "item", desc := "(II)I" } : Jvm.MethodName) prog_18_method_92_code (4 : Nat) (Option.some Jvm.ClassFile.FieldType.int)) ∈ lw_all := lw_g (lw_at lw_m7 139 rfl) rfl
theorem q1662 : (Jvm.Cond.instanceMethod ({ cls := "StrokesHeardModel", name := "rest", desc := "(II)I" } : Jvm.MethodName)) ∈ lw_all := lw_g (lw_at lw_m7 141 rfl) rfl
theorem q1663 : (Jvm.Cond.selects "StrokesHeardModel" ({ cls := "StrokesHeardModel", name := "rest", desc := "(II)I" } : Jvm.MethodName) ({ cls := "StrokesHeardModel", name := "rest", desc := "(II)I" } : Jvm.MethodName)) ∈ lw_all := lw_g (lw_at lw_m7 142 rfl) rfl
theorem q1664 : (Jvm.Cond.code ({ cls := "StrokesHeardModel", name := "rest", desc := "(II)I" } : Jvm.MethodName) prog_18_method_93_code (3 : Nat) (Option.some Jvm.ClassFile.FieldType.int)) ∈ lw_all := lw_g (lw_at lw_m7 143 rfl) rfl
theorem q1665 : (Jvm.Cond.constant "StrokesHeardModel" (312 : Nat) (-1000000002 : Int32)) ∈ lw_all := lw_g (lw_at lw_m7 144 rfl) rfl
theorem q1667 : (Jvm.Cond.instanceMethod ({ cls := "StrokesHeardModel", name := "tell", desc := "(I)I" } : Jvm.MethodName)) ∈ lw_all := lw_g (lw_at lw_m7 146 rfl) rfl
theorem q1668 : (Jvm.Cond.selects "StrokesHeardModel" ({ cls := "StrokesHeardModel", name := "tell", desc := "(I)I" } : Jvm.MethodName) ({ cls := "StrokesHeardModel", name := "tell", desc := "(I)I" } : Jvm.MethodName)) ∈ lw_all := lw_g (lw_at lw_m7 147 rfl) rfl
theorem q1669 : (Jvm.Cond.code ({ cls := "StrokesHeardModel", name := "tell", desc := "(I)I" } : Jvm.MethodName) prog_18_method_94_code (2 : Nat) (Option.some Jvm.ClassFile.FieldType.int)) ∈ lw_all := lw_g (lw_at lw_m7 148 rfl) rfl
theorem q1671 : (Jvm.Cond.instanceMethod ({ cls := "StrokesHeardModel", name := "check", desc := "(I)I" } : Jvm.MethodName)) ∈ lw_all := lw_g (lw_at lw_m7 150 rfl) rfl
theorem q1672 : (Jvm.Cond.selects "StrokesHeardModel" ({ cls := "StrokesHeardModel", name := "check", desc := "(I)I" } : Jvm.MethodName) ({ cls := "StrokesHeardModel", name := "check", desc := "(I)I" } : Jvm.MethodName)) ∈ lw_all := lw_g (lw_at lw_m7 151 rfl) rfl
theorem q1673 : (Jvm.Cond.code ({ cls := "StrokesHeardModel", name := "check", desc := "(I)I" } : Jvm.MethodName) prog_18_method_96_code (5 : Nat) (Option.some Jvm.ClassFile.FieldType.int)) ∈ lw_all := lw_g (lw_at lw_m7 152 rfl) rfl
theorem q1674 : (Jvm.Cond.constantLong "StrokesHeardModel" (316 : Nat) (30 : Int64)) ∈ lw_all := lw_g (lw_at lw_m7 153 rfl) rfl
theorem q1675 : (Jvm.Cond.methodLink "StrokesHeardModel" (322 : Nat) ({ cls := "StrokesHeardModel", name := "setAside", desc := "([I[I)V" } : Jvm.MethodName)) ∈ lw_all := lw_g (lw_at lw_m7 154 rfl) rfl
theorem q1676 : (Jvm.Cond.privateMethod ({ cls := "StrokesHeardModel", name := "setAside", desc := "([I[I)V" } : Jvm.MethodName)) ∈ lw_tbl := lw_at lw_m7 155 rfl
theorem q1677 : (Jvm.Cond.instanceMethod ({ cls := "StrokesHeardModel", name := "setAside", desc := "([I[I)V" } : Jvm.MethodName)) ∈ lw_all := lw_g (lw_at lw_m7 156 rfl) rfl
theorem q1678 : (Jvm.Cond.code ({ cls := "StrokesHeardModel", name := "setAside", desc := "([I[I)V" } : Jvm.MethodName) prog_18_method_95_code (4 : Nat) (Option.none : Option Jvm.ClassFile.FieldType)) ∈ lw_all := lw_g (lw_at lw_m7 157 rfl) rfl
theorem q1680 : (Jvm.Cond.instanceMethod ({ cls := "StrokesHeardModel", name := "keep", desc := "()I" } : Jvm.MethodName)) ∈ lw_all := lw_g (lw_at lw_m7 159 rfl) rfl
theorem q1681 : (Jvm.Cond.selects "StrokesHeardModel" ({ cls := "StrokesHeardModel", name := "keep", desc := "()I" } : Jvm.MethodName) ({ cls := "StrokesHeardModel", name := "keep", desc := "()I" } : Jvm.MethodName)) ∈ lw_all := lw_g (lw_at lw_m7 160 rfl) rfl
theorem q1682 : (Jvm.Cond.code ({ cls := "StrokesHeardModel", name := "keep", desc := "()I" } : Jvm.MethodName) prog_18_method_97_code (1 : Nat) (Option.some Jvm.ClassFile.FieldType.int)) ∈ lw_all := lw_g (lw_at lw_m7 161 rfl) rfl
theorem q1684 : (Jvm.Cond.instanceMethod ({ cls := "StrokesHeardModel", name := "back", desc := "()I" } : Jvm.MethodName)) ∈ lw_all := lw_g (lw_at lw_m7 163 rfl) rfl
theorem q1685 : (Jvm.Cond.selects "StrokesHeardModel" ({ cls := "StrokesHeardModel", name := "back", desc := "()I" } : Jvm.MethodName) ({ cls := "StrokesHeardModel", name := "back", desc := "()I" } : Jvm.MethodName)) ∈ lw_all := lw_g (lw_at lw_m7 164 rfl) rfl
theorem q1686 : (Jvm.Cond.code ({ cls := "StrokesHeardModel", name := "back", desc := "()I" } : Jvm.MethodName) prog_18_method_98_code (1 : Nat) (Option.some Jvm.ClassFile.FieldType.int)) ∈ lw_all := lw_g (lw_at lw_m7 165 rfl) rfl
theorem q1688 : (Jvm.Cond.instanceMethod ({ cls := "StrokesHeardModel", name := "count", desc := "(I)I" } : Jvm.MethodName)) ∈ lw_all := lw_g (lw_at lw_m7 167 rfl) rfl
theorem q1689 : (Jvm.Cond.selects "StrokesHeardModel" ({ cls := "StrokesHeardModel", name := "count", desc := "(I)I" } : Jvm.MethodName) ({ cls := "StrokesHeardModel", name := "count", desc := "(I)I" } : Jvm.MethodName)) ∈ lw_all := lw_g (lw_at lw_m7 168 rfl) rfl
theorem q1690 : (Jvm.Cond.code ({ cls := "StrokesHeardModel", name := "count", desc := "(I)I" } : Jvm.MethodName) prog_18_method_99_code (2 : Nat) (Option.some Jvm.ClassFile.FieldType.int)) ∈ lw_all := lw_g (lw_at lw_m7 169 rfl) rfl
theorem in_X5 : ∀ w ∈ wsX50, w ∈ lw_all := lw_in wsX50 [1221, 1223, 1225, 1227, 1229, 1231, 1233, 1235, 1237, 1239, 1241, 1243, 1245, 1247, 1249, 1251, 1253, 1255, 1257, 1259, 1261, 1263, 1265, 1267, 1269, 1271, 1273, 1275, 1277, 1279, 1281, 1283] (by decide +kernel) (by decide +kernel)
