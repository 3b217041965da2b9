/-! ToolUnionModel -/
set_option maxRecDepth 100000
def RX3 : String := "ToolUnionModel"
def TX3 : u_T := fun k => match k with
  | 0 => ("ToolUnionModel", "w", "[I", true)
  | 1 => ("ToolUnionModel", "kept", "[I", true)
  | 2 => ("ToolUnionModel", "back", "[I", true)
  | 3 => ("ToolUnionModel", "lying", "[I", true)
  | 4 => ("ToolUnionModel", "backMany", "I", false)
  | 5 => ("ToolUnionModel", "hasImage", "Z", false)
  | 6 => ("ToolUnionModel", "freshLine", "[I", true)
  | 7 => ("ToolUnionModel", "freshStep", "[I", true)
  | 8 => ("ToolUnionModel", "freshRow", "[I", true)
  | 9 => ("ToolUnionModel", "tape", "[I", true)
  | 10 => ("ToolUnionModel", "pile", "[I", true)
  | 11 => ("ToolUnionModel", "facts", "[I", true)
  | 12 => ("ToolUnionModel", "reading", "I", false)
  | 13 => ("ToolUnionModel", "lines", "I", false)
  | 14 => ("ToolUnionModel", "steps", "I", false)
  | 15 => ("ToolUnionModel", "rows", "I", false)
  | 16 => ("ToolUnionModel", "taped", "I", false)
  | 17 => ("ToolUnionModel", "at", "I", false)
  | 18 => ("ToolUnionModel", "token", "I", false)
  | 19 => ("ToolUnionModel", "tokenAt", "I", false)
  | 20 => ("ToolUnionModel", "value", "I", false)
  | 21 => ("ToolUnionModel", "wrong", "I", false)
  | 22 => ("ToolUnionModel", "wrongAt", "I", false)
  | 23 => ("ToolUnionModel", "faultKind", "I", false)
  | 24 => ("ToolUnionModel", "depth", "I", false)
  | 25 => ("ToolUnionModel", "faultPlace", "I", false)
  | 26 => ("ToolUnionModel", "numbered", "I", false)
  | 27 => ("ToolUnionModel", "refusedAt", "I", false)
  | 28 => ("ToolUnionModel", "refusedHour", "I", false)
  | 29 => ("ToolUnionModel", "workedMany", "I", false)
  | 30 => ("ToolUnionModel", "menBusy", "I", false)
  | 31 => ("ToolUnionModel", "together", "[Z", true)
  | 32 => ("ToolUnionModel", "reach", "[Z", true)
  | 33 => ("ToolUnionModel", "serving", "[Z", true)
  | 34 => ("ToolUnionModel", "farOf", "[I", true)
  | 35 => ("ToolUnionModel", "manOf", "[I", true)
  | 36 => ("ToolUnionModel", "askedBy", "[I", true)
  | 37 => ("ToolUnionModel", "ahead", "[I", true)
  | _ => ("ToolUnionModel", "onwards", "[I", true)
def tyX3 : Nat → FieldType := fun k => match k with
  | 0 => .array .int
  | 1 => .array .int
  | 2 => .array .int
  | 3 => .array .int
  | 4 => .int
  | 5 => .boolean
  | 6 => .array .int
  | 7 => .array .int
  | 8 => .array .int
  | 9 => .array .int
  | 10 => .array .int
  | 11 => .array .int
  | 12 => .int
  | 13 => .int
  | 14 => .int
  | 15 => .int
  | 16 => .int
  | 17 => .int
  | 18 => .int
  | 19 => .int
  | 20 => .int
  | 21 => .int
  | 22 => .int
  | 23 => .int
  | 24 => .int
  | 25 => .int
  | 26 => .int
  | 27 => .int
  | 28 => .int
  | 29 => .int
  | 30 => .int
  | 31 => .array .boolean
  | 32 => .array .boolean
  | 33 => .array .boolean
  | 34 => .array .int
  | 35 => .array .int
  | 36 => .array .int
  | 37 => .array .int
  | _ => .array .int
abbrev wsX30 : List Cond := u_ws RX3 TX3 39
set_option maxRecDepth 100000 in
theorem nmX3 : ∀ a, a < 39 → ∀ b, b < 39 → a ≠ b → (TX3 a).2.1 ≠ (TX3 b).2.1 := by decide +kernel
set_option maxRecDepth 100000 in
theorem tyX3_ok : ∀ k, k < 39 → parseFieldDescriptor (TX3 k).2.2.1 = some (tyX3 k) := by decide +kernel
abbrev cX3_init : ByteArray := prog_14_method_1_code
def yX3_init : MethodName := ⟨RX3, "<init>", "()V"⟩
def dkwX3_init_8 : List UInt8 := [132, 1, 1, 167, 255, 238, 177]
abbrev dktX3_init_8 : List UInt8 := dkwX3_init_8 ++ []
def dkwX3_init_7 : List UInt8 := [180, 0, 7, 16, 103, 4, 79, 3, 60, 27, 7, 162, 0, 19, 42, 180, 0, 7, 7, 27, 96, 16, 15, 79]
abbrev dktX3_init_7 : List UInt8 := dkwX3_init_7 ++ dktX3_init_8
def dkwX3_init_6 : List UInt8 := [188, 10, 181, 0, 61, 42, 16, 8, 188, 10, 181, 0, 64, 42, 17, 1, 0, 188, 10, 181, 0, 67, 42]
abbrev dktX3_init_6 : List UInt8 := dkwX3_init_6 ++ dktX3_init_7
def dkwX3_init_5 : List UInt8 := [188, 4, 181, 0, 51, 42, 18, 54, 188, 10, 181, 0, 55, 42, 16, 8, 188, 10, 181, 0, 58, 42, 7]
abbrev dktX3_init_5 : List UInt8 := dkwX3_init_5 ++ dktX3_init_6
def dkwX3_init_4 : List UInt8 := [181, 0, 40, 42, 17, 1, 0, 188, 4, 181, 0, 44, 42, 17, 16, 0, 188, 4, 181, 0, 48, 42, 16, 32]
abbrev dktX3_init_4 : List UInt8 := dkwX3_init_4 ++ dktX3_init_5
def dkwX3_init_3 : List UInt8 := [181, 0, 31, 42, 17, 1, 164, 188, 10, 181, 0, 34, 42, 16, 11, 188, 10, 181, 0, 37, 42, 2]
abbrev dktX3_init_3 : List UInt8 := dkwX3_init_3 ++ dktX3_init_4
def dkwX3_init_2 : List UInt8 := [42, 17, 3, 52, 188, 10, 181, 0, 25, 42, 16, 100, 188, 10, 181, 0, 28, 42, 17, 1, 144, 188, 10]
abbrev dktX3_init_2 : List UInt8 := dkwX3_init_2 ++ dktX3_init_3
def dkwX3_init_1 : List UInt8 := [17, 2, 64, 188, 10, 181, 0, 16, 42, 16, 96, 188, 10, 181, 0, 19, 42, 16, 64, 188, 10, 181, 0, 22]
abbrev dktX3_init_1 : List UInt8 := dkwX3_init_1 ++ dktX3_init_2
def dkwX3_init_0 : List UInt8 := [42, 183, 0, 1, 42, 17, 11, 18, 188, 10, 181, 0, 7, 42, 17, 11, 18, 188, 10, 181, 0, 13, 42]
abbrev dktX3_init_0 : List UInt8 := dkwX3_init_0 ++ dktX3_init_1
theorem dksX3_init_0 : cX3_init.data.toList.drop 0 = dktX3_init_0 := by decide +kernel
theorem dksX3_init_1 : cX3_init.data.toList.drop 23 = dktX3_init_1 := dk_seg dksX3_init_0 23 rfl rfl
theorem dksX3_init_2 : cX3_init.data.toList.drop 47 = dktX3_init_2 := dk_seg dksX3_init_1 24 rfl rfl
theorem dksX3_init_3 : cX3_init.data.toList.drop 70 = dktX3_init_3 := dk_seg dksX3_init_2 23 rfl rfl
theorem dksX3_init_4 : cX3_init.data.toList.drop 92 = dktX3_init_4 := dk_seg dksX3_init_3 22 rfl rfl
theorem dksX3_init_5 : cX3_init.data.toList.drop 116 = dktX3_init_5 := dk_seg dksX3_init_4 24 rfl rfl
theorem dksX3_init_6 : cX3_init.data.toList.drop 139 = dktX3_init_6 := dk_seg dksX3_init_5 23 rfl rfl
theorem dksX3_init_7 : cX3_init.data.toList.drop 162 = dktX3_init_7 := dk_seg dksX3_init_6 23 rfl rfl
theorem dksX3_init_8 : cX3_init.data.toList.drop 186 = dktX3_init_8 := dk_seg dksX3_init_7 24 rfl rfl
theorem dX3_init_0 : decode cX3_init 0 = .ok (.aload_n 0, 1) := dk_42 (dk_at dksX3_init_0 0 rfl rfl)
theorem dX3_init_1 : decode cX3_init 1 = .ok (.invokespecial 1, 3) := dk_183 0 1 (dk_at dksX3_init_0 1 rfl rfl)
theorem dX3_init_4 : decode cX3_init 4 = .ok (.aload_n 0, 1) := dk_42 (dk_at dksX3_init_0 4 rfl rfl)
theorem dX3_init_5 : decode cX3_init 5 = .ok (.sipush 2834, 3) := dk_17 11 18 (dk_at dksX3_init_0 5 rfl rfl)
theorem dX3_init_8 : decode cX3_init 8 = .ok (.newarray .int, 2) := dk_188_10 (dk_at dksX3_init_0 8 rfl rfl)
theorem dX3_init_10 : decode cX3_init 10 = .ok (.putfield 7, 3) := dk_181 0 7 (dk_at dksX3_init_0 10 rfl rfl)
theorem dX3_init_13 : decode cX3_init 13 = .ok (.aload_n 0, 1) := dk_42 (dk_at dksX3_init_0 13 rfl rfl)
theorem dX3_init_14 : decode cX3_init 14 = .ok (.sipush 2834, 3) := dk_17 11 18 (dk_at dksX3_init_0 14 rfl rfl)
theorem dX3_init_17 : decode cX3_init 17 = .ok (.newarray .int, 2) := dk_188_10 (dk_at dksX3_init_0 17 rfl rfl)
theorem dX3_init_19 : decode cX3_init 19 = .ok (.putfield 13, 3) := dk_181 0 13 (dk_at dksX3_init_0 19 rfl rfl)
theorem dX3_init_22 : decode cX3_init 22 = .ok (.aload_n 0, 1) := dk_42 (dk_at dksX3_init_0 22 rfl rfl)
theorem dX3_init_23 : decode cX3_init 23 = .ok (.sipush 576, 3) := dk_17 2 64 (dk_at dksX3_init_1 0 rfl rfl)
theorem dX3_init_26 : decode cX3_init 26 = .ok (.newarray .int, 2) := dk_188_10 (dk_at dksX3_init_1 3 rfl rfl)
theorem dX3_init_28 : decode cX3_init 28 = .ok (.putfield 16, 3) := dk_181 0 16 (dk_at dksX3_init_1 5 rfl rfl)
theorem dX3_init_31 : decode cX3_init 31 = .ok (.aload_n 0, 1) := dk_42 (dk_at dksX3_init_1 8 rfl rfl)
theorem dX3_init_32 : decode cX3_init 32 = .ok (.bipush 96, 2) := dk_16 96 (dk_at dksX3_init_1 9 rfl rfl)
theorem dX3_init_34 : decode cX3_init 34 = .ok (.newarray .int, 2) := dk_188_10 (dk_at dksX3_init_1 11 rfl rfl)
theorem dX3_init_36 : decode cX3_init 36 = .ok (.putfield 19, 3) := dk_181 0 19 (dk_at dksX3_init_1 13 rfl rfl)
theorem dX3_init_39 : decode cX3_init 39 = .ok (.aload_n 0, 1) := dk_42 (dk_at dksX3_init_1 16 rfl rfl)
theorem dX3_init_40 : decode cX3_init 40 = .ok (.bipush 64, 2) := dk_16 64 (dk_at dksX3_init_1 17 rfl rfl)
theorem dX3_init_42 : decode cX3_init 42 = .ok (.newarray .int, 2) := dk_188_10 (dk_at dksX3_init_1 19 rfl rfl)
theorem dX3_init_44 : decode cX3_init 44 = .ok (.putfield 22, 3) := dk_181 0 22 (dk_at dksX3_init_1 21 rfl rfl)
theorem dX3_init_47 : decode cX3_init 47 = .ok (.aload_n 0, 1) := dk_42 (dk_at dksX3_init_2 0 rfl rfl)
theorem dX3_init_48 : decode cX3_init 48 = .ok (.sipush 820, 3) := dk_17 3 52 (dk_at dksX3_init_2 1 rfl rfl)
theorem dX3_init_51 : decode cX3_init 51 = .ok (.newarray .int, 2) := dk_188_10 (dk_at dksX3_init_2 4 rfl rfl)
theorem dX3_init_53 : decode cX3_init 53 = .ok (.putfield 25, 3) := dk_181 0 25 (dk_at dksX3_init_2 6 rfl rfl)
theorem dX3_init_56 : decode cX3_init 56 = .ok (.aload_n 0, 1) := dk_42 (dk_at dksX3_init_2 9 rfl rfl)
theorem dX3_init_57 : decode cX3_init 57 = .ok (.bipush 100, 2) := dk_16 100 (dk_at dksX3_init_2 10 rfl rfl)
theorem dX3_init_59 : decode cX3_init 59 = .ok (.newarray .int, 2) := dk_188_10 (dk_at dksX3_init_2 12 rfl rfl)
theorem dX3_init_61 : decode cX3_init 61 = .ok (.putfield 28, 3) := dk_181 0 28 (dk_at dksX3_init_2 14 rfl rfl)
theorem dX3_init_64 : decode cX3_init 64 = .ok (.aload_n 0, 1) := dk_42 (dk_at dksX3_init_2 17 rfl rfl)
theorem dX3_init_65 : decode cX3_init 65 = .ok (.sipush 400, 3) := dk_17 1 144 (dk_at dksX3_init_2 18 rfl rfl)
theorem dX3_init_68 : decode cX3_init 68 = .ok (.newarray .int, 2) := dk_188_10 (dk_at dksX3_init_2 21 rfl rfl)
theorem dX3_init_70 : decode cX3_init 70 = .ok (.putfield 31, 3) := dk_181 0 31 (dk_at dksX3_init_3 0 rfl rfl)
theorem dX3_init_73 : decode cX3_init 73 = .ok (.aload_n 0, 1) := dk_42 (dk_at dksX3_init_3 3 rfl rfl)
theorem dX3_init_74 : decode cX3_init 74 = .ok (.sipush 420, 3) := dk_17 1 164 (dk_at dksX3_init_3 4 rfl rfl)
theorem dX3_init_77 : decode cX3_init 77 = .ok (.newarray .int, 2) := dk_188_10 (dk_at dksX3_init_3 7 rfl rfl)
theorem dX3_init_79 : decode cX3_init 79 = .ok (.putfield 34, 3) := dk_181 0 34 (dk_at dksX3_init_3 9 rfl rfl)
theorem dX3_init_82 : decode cX3_init 82 = .ok (.aload_n 0, 1) := dk_42 (dk_at dksX3_init_3 12 rfl rfl)
theorem dX3_init_83 : decode cX3_init 83 = .ok (.bipush 11, 2) := dk_16 11 (dk_at dksX3_init_3 13 rfl rfl)
theorem dX3_init_85 : decode cX3_init 85 = .ok (.newarray .int, 2) := dk_188_10 (dk_at dksX3_init_3 15 rfl rfl)
theorem dX3_init_87 : decode cX3_init 87 = .ok (.putfield 37, 3) := dk_181 0 37 (dk_at dksX3_init_3 17 rfl rfl)
theorem dX3_init_90 : decode cX3_init 90 = .ok (.aload_n 0, 1) := dk_42 (dk_at dksX3_init_3 20 rfl rfl)
theorem dX3_init_91 : decode cX3_init 91 = .ok (.iconst (-1), 1) := dk_2 (dk_at dksX3_init_3 21 rfl rfl)
theorem dX3_init_92 : decode cX3_init 92 = .ok (.putfield 40, 3) := dk_181 0 40 (dk_at dksX3_init_4 0 rfl rfl)
theorem dX3_init_95 : decode cX3_init 95 = .ok (.aload_n 0, 1) := dk_42 (dk_at dksX3_init_4 3 rfl rfl)
theorem dX3_init_96 : decode cX3_init 96 = .ok (.sipush 256, 3) := dk_17 1 0 (dk_at dksX3_init_4 4 rfl rfl)
theorem dX3_init_99 : decode cX3_init 99 = .ok (.newarray .boolean, 2) := dk_188_4 (dk_at dksX3_init_4 7 rfl rfl)
theorem dX3_init_101 : decode cX3_init 101 = .ok (.putfield 44, 3) := dk_181 0 44 (dk_at dksX3_init_4 9 rfl rfl)
theorem dX3_init_104 : decode cX3_init 104 = .ok (.aload_n 0, 1) := dk_42 (dk_at dksX3_init_4 12 rfl rfl)
theorem dX3_init_105 : decode cX3_init 105 = .ok (.sipush 4096, 3) := dk_17 16 0 (dk_at dksX3_init_4 13 rfl rfl)
theorem dX3_init_108 : decode cX3_init 108 = .ok (.newarray .boolean, 2) := dk_188_4 (dk_at dksX3_init_4 16 rfl rfl)
theorem dX3_init_110 : decode cX3_init 110 = .ok (.putfield 48, 3) := dk_181 0 48 (dk_at dksX3_init_4 18 rfl rfl)
theorem dX3_init_113 : decode cX3_init 113 = .ok (.aload_n 0, 1) := dk_42 (dk_at dksX3_init_4 21 rfl rfl)
theorem dX3_init_114 : decode cX3_init 114 = .ok (.bipush 32, 2) := dk_16 32 (dk_at dksX3_init_4 22 rfl rfl)
theorem dX3_init_116 : decode cX3_init 116 = .ok (.newarray .boolean, 2) := dk_188_4 (dk_at dksX3_init_5 0 rfl rfl)
theorem dX3_init_118 : decode cX3_init 118 = .ok (.putfield 51, 3) := dk_181 0 51 (dk_at dksX3_init_5 2 rfl rfl)
theorem dX3_init_121 : decode cX3_init 121 = .ok (.aload_n 0, 1) := dk_42 (dk_at dksX3_init_5 5 rfl rfl)
theorem dX3_init_122 : decode cX3_init 122 = .ok (.ldc 54, 2) := dk_18 54 (dk_at dksX3_init_5 6 rfl rfl)
theorem dX3_init_124 : decode cX3_init 124 = .ok (.newarray .int, 2) := dk_188_10 (dk_at dksX3_init_5 8 rfl rfl)
theorem dX3_init_126 : decode cX3_init 126 = .ok (.putfield 55, 3) := dk_181 0 55 (dk_at dksX3_init_5 10 rfl rfl)
theorem dX3_init_129 : decode cX3_init 129 = .ok (.aload_n 0, 1) := dk_42 (dk_at dksX3_init_5 13 rfl rfl)
theorem dX3_init_130 : decode cX3_init 130 = .ok (.bipush 8, 2) := dk_16 8 (dk_at dksX3_init_5 14 rfl rfl)
theorem dX3_init_132 : decode cX3_init 132 = .ok (.newarray .int, 2) := dk_188_10 (dk_at dksX3_init_5 16 rfl rfl)
theorem dX3_init_134 : decode cX3_init 134 = .ok (.putfield 58, 3) := dk_181 0 58 (dk_at dksX3_init_5 18 rfl rfl)
theorem dX3_init_137 : decode cX3_init 137 = .ok (.aload_n 0, 1) := dk_42 (dk_at dksX3_init_5 21 rfl rfl)
theorem dX3_init_138 : decode cX3_init 138 = .ok (.iconst 4, 1) := dk_7 (dk_at dksX3_init_5 22 rfl rfl)
theorem dX3_init_139 : decode cX3_init 139 = .ok (.newarray .int, 2) := dk_188_10 (dk_at dksX3_init_6 0 rfl rfl)
theorem dX3_init_141 : decode cX3_init 141 = .ok (.putfield 61, 3) := dk_181 0 61 (dk_at dksX3_init_6 2 rfl rfl)
theorem dX3_init_144 : decode cX3_init 144 = .ok (.aload_n 0, 1) := dk_42 (dk_at dksX3_init_6 5 rfl rfl)
theorem dX3_init_145 : decode cX3_init 145 = .ok (.bipush 8, 2) := dk_16 8 (dk_at dksX3_init_6 6 rfl rfl)
theorem dX3_init_147 : decode cX3_init 147 = .ok (.newarray .int, 2) := dk_188_10 (dk_at dksX3_init_6 8 rfl rfl)
theorem dX3_init_149 : decode cX3_init 149 = .ok (.putfield 64, 3) := dk_181 0 64 (dk_at dksX3_init_6 10 rfl rfl)
theorem dX3_init_152 : decode cX3_init 152 = .ok (.aload_n 0, 1) := dk_42 (dk_at dksX3_init_6 13 rfl rfl)
theorem dX3_init_153 : decode cX3_init 153 = .ok (.sipush 256, 3) := dk_17 1 0 (dk_at dksX3_init_6 14 rfl rfl)
theorem dX3_init_156 : decode cX3_init 156 = .ok (.newarray .int, 2) := dk_188_10 (dk_at dksX3_init_6 17 rfl rfl)
theorem dX3_init_158 : decode cX3_init 158 = .ok (.putfield 67, 3) := dk_181 0 67 (dk_at dksX3_init_6 19 rfl rfl)
theorem dX3_init_161 : decode cX3_init 161 = .ok (.aload_n 0, 1) := dk_42 (dk_at dksX3_init_6 22 rfl rfl)
theorem dX3_init_162 : decode cX3_init 162 = .ok (.getfield 7, 3) := dk_180 0 7 (dk_at dksX3_init_7 0 rfl rfl)
theorem dX3_init_165 : decode cX3_init 165 = .ok (.bipush 103, 2) := dk_16 103 (dk_at dksX3_init_7 3 rfl rfl)
theorem dX3_init_167 : decode cX3_init 167 = .ok (.iconst 1, 1) := dk_4 (dk_at dksX3_init_7 5 rfl rfl)
theorem dX3_init_168 : decode cX3_init 168 = .ok (.iastore, 1) := dk_79 (dk_at dksX3_init_7 6 rfl rfl)
theorem dX3_init_169 : decode cX3_init 169 = .ok (.iconst 0, 1) := dk_3 (dk_at dksX3_init_7 7 rfl rfl)
theorem dX3_init_170 : decode cX3_init 170 = .ok (.istore_n 1, 1) := dk_60 (dk_at dksX3_init_7 8 rfl rfl)
theorem dX3_init_171 : decode cX3_init 171 = .ok (.iload_n 1, 1) := dk_27 (dk_at dksX3_init_7 9 rfl rfl)
theorem dX3_init_172 : decode cX3_init 172 = .ok (.iconst 4, 1) := dk_7 (dk_at dksX3_init_7 10 rfl rfl)
theorem dX3_init_173 : decode cX3_init 173 = .ok (.if_icmp .ge 19, 3) := dk_162 0 19 (dk_at dksX3_init_7 11 rfl rfl)
theorem dX3_init_176 : decode cX3_init 176 = .ok (.aload_n 0, 1) := dk_42 (dk_at dksX3_init_7 14 rfl rfl)
theorem dX3_init_177 : decode cX3_init 177 = .ok (.getfield 7, 3) := dk_180 0 7 (dk_at dksX3_init_7 15 rfl rfl)
theorem dX3_init_180 : decode cX3_init 180 = .ok (.iconst 4, 1) := dk_7 (dk_at dksX3_init_7 18 rfl rfl)
theorem dX3_init_181 : decode cX3_init 181 = .ok (.iload_n 1, 1) := dk_27 (dk_at dksX3_init_7 19 rfl rfl)
theorem dX3_init_182 : decode cX3_init 182 = .ok (.iadd, 1) := dk_96 (dk_at dksX3_init_7 20 rfl rfl)
theorem dX3_init_183 : decode cX3_init 183 = .ok (.bipush 15, 2) := dk_16 15 (dk_at dksX3_init_7 21 rfl rfl)
theorem dX3_init_185 : decode cX3_init 185 = .ok (.iastore, 1) := dk_79 (dk_at dksX3_init_7 23 rfl rfl)
theorem dX3_init_186 : decode cX3_init 186 = .ok (.iinc 1 1, 3) := dk_132 1 1 (dk_at dksX3_init_8 0 rfl rfl)
theorem dX3_init_189 : decode cX3_init 189 = .ok (.goto (-18), 3) := dk_167 255 238 (dk_at dksX3_init_8 3 rfl rfl)
theorem dX3_init_192 : decode cX3_init 192 = .ok (.return_, 1) := dk_177 (dk_at dksX3_init_8 6 rfl rfl)
abbrev cX3_state : ByteArray := prog_14_method_14_code
def yX3_state : MethodName := ⟨RX3, "state", "(I)I"⟩
def dkwX3_state_0 : List UInt8 := [42, 180, 0, 7, 6, 46, 61, 42, 180, 0, 7, 6, 27, 79, 42, 182, 0, 84, 28, 172]
abbrev dktX3_state_0 : List UInt8 := dkwX3_state_0 ++ []
theorem dksX3_state_0 : cX3_state.data.toList.drop 0 = dktX3_state_0 := by decide +kernel
theorem dX3_state_0 : decode cX3_state 0 = .ok (.aload_n 0, 1) := dk_42 (dk_at dksX3_state_0 0 rfl rfl)
theorem dX3_state_1 : decode cX3_state 1 = .ok (.getfield 7, 3) := dk_180 0 7 (dk_at dksX3_state_0 1 rfl rfl)
theorem dX3_state_4 : decode cX3_state 4 = .ok (.iconst 3, 1) := dk_6 (dk_at dksX3_state_0 4 rfl rfl)
theorem dX3_state_5 : decode cX3_state 5 = .ok (.iaload, 1) := dk_46 (dk_at dksX3_state_0 5 rfl rfl)
theorem dX3_state_6 : decode cX3_state 6 = .ok (.istore_n 2, 1) := dk_61 (dk_at dksX3_state_0 6 rfl rfl)
theorem dX3_state_7 : decode cX3_state 7 = .ok (.aload_n 0, 1) := dk_42 (dk_at dksX3_state_0 7 rfl rfl)
theorem dX3_state_8 : decode cX3_state 8 = .ok (.getfield 7, 3) := dk_180 0 7 (dk_at dksX3_state_0 8 rfl rfl)
theorem dX3_state_11 : decode cX3_state 11 = .ok (.iconst 3, 1) := dk_6 (dk_at dksX3_state_0 11 rfl rfl)
theorem dX3_state_12 : decode cX3_state 12 = .ok (.iload_n 1, 1) := dk_27 (dk_at dksX3_state_0 12 rfl rfl)
theorem dX3_state_13 : decode cX3_state 13 = .ok (.iastore, 1) := dk_79 (dk_at dksX3_state_0 13 rfl rfl)
theorem dX3_state_14 : decode cX3_state 14 = .ok (.aload_n 0, 1) := dk_42 (dk_at dksX3_state_0 14 rfl rfl)
theorem dX3_state_15 : decode cX3_state 15 = .ok (.invokevirtual 84, 3) := dk_182 0 84 (dk_at dksX3_state_0 15 rfl rfl)
theorem dX3_state_18 : decode cX3_state 18 = .ok (.iload_n 2, 1) := dk_28 (dk_at dksX3_state_0 18 rfl rfl)
theorem dX3_state_19 : decode cX3_state 19 = .ok (.ireturn, 1) := dk_172 (dk_at dksX3_state_0 19 rfl rfl)
abbrev cX3_forgets : ByteArray := prog_14_method_13_code
def yX3_forgets : MethodName := ⟨RX3, "forgets", "()V"⟩
def dkwX3_forgets_0 : List UInt8 := [42, 3, 181, 0, 81, 177]
abbrev dktX3_forgets_0 : List UInt8 := dkwX3_forgets_0 ++ []
theorem dksX3_forgets_0 : cX3_forgets.data.toList.drop 0 = dktX3_forgets_0 := by decide +kernel
theorem dX3_forgets_0 : decode cX3_forgets 0 = .ok (.aload_n 0, 1) := dk_42 (dk_at dksX3_forgets_0 0 rfl rfl)
theorem dX3_forgets_1 : decode cX3_forgets 1 = .ok (.iconst 0, 1) := dk_3 (dk_at dksX3_forgets_0 1 rfl rfl)
theorem dX3_forgets_2 : decode cX3_forgets 2 = .ok (.putfield 81, 3) := dk_181 0 81 (dk_at dksX3_forgets_0 2 rfl rfl)
theorem dX3_forgets_5 : decode cX3_forgets 5 = .ok (.return_, 1) := dk_177 (dk_at dksX3_forgets_0 5 rfl rfl)
abbrev cX3_tool : ByteArray := prog_14_method_16_code
def yX3_tool : MethodName := ⟨RX3, "tool", "(III)I"⟩
def dkwX3_tool_6 : List UInt8 := [92, 46, 4, 96, 79, 42, 182, 0, 84, 21, 4, 172]
abbrev dktX3_tool_6 : List UInt8 := dkwX3_tool_6 ++ []
def dkwX3_tool_5 : List UInt8 := [42, 21, 4, 16, 8, 3, 182, 0, 89, 42, 21, 4, 16, 9, 3, 182, 0, 89, 42, 180, 0, 7, 16, 96]
abbrev dktX3_tool_5 : List UInt8 := dkwX3_tool_5 ++ dktX3_tool_6
def dkwX3_tool_4 : List UInt8 := [8, 4, 182, 0, 89, 42, 21, 4, 16, 6, 16, 7, 182, 0, 89, 42, 21, 4, 16, 7, 3, 182, 0, 89]
abbrev dktX3_tool_4 : List UInt8 := dkwX3_tool_4 ++ dktX3_tool_5
def dkwX3_tool_3 : List UInt8 := [182, 0, 89, 42, 21, 4, 6, 16, 60, 182, 0, 89, 42, 21, 4, 7, 16, 50, 182, 0, 89, 42, 21, 4]
abbrev dktX3_tool_3 : List UInt8 := dkwX3_tool_3 ++ dktX3_tool_4
def dkwX3_tool_2 : List UInt8 := [54, 4, 42, 21, 4, 3, 27, 182, 0, 89, 42, 21, 4, 4, 28, 182, 0, 89, 42, 21, 4, 5, 29]
abbrev dktX3_tool_2 : List UInt8 := dkwX3_tool_2 ++ dktX3_tool_3
def dkwX3_tool_1 : List UInt8 := [153, 0, 15, 42, 180, 0, 7, 16, 96, 46, 16, 8, 160, 0, 5, 2, 172, 42, 180, 0, 7, 16, 96, 46]
abbrev dktX3_tool_1 : List UInt8 := dkwX3_tool_1 ++ dktX3_tool_2
def dkwX3_tool_0 : List UInt8 := [27, 3, 6, 184, 0, 77, 153, 0, 33, 28, 3, 6, 184, 0, 77, 153, 0, 24, 29, 3, 4, 184, 0, 77]
abbrev dktX3_tool_0 : List UInt8 := dkwX3_tool_0 ++ dktX3_tool_1
theorem dksX3_tool_0 : cX3_tool.data.toList.drop 0 = dktX3_tool_0 := by decide +kernel
theorem dksX3_tool_1 : cX3_tool.data.toList.drop 24 = dktX3_tool_1 := dk_seg dksX3_tool_0 24 rfl rfl
theorem dksX3_tool_2 : cX3_tool.data.toList.drop 48 = dktX3_tool_2 := dk_seg dksX3_tool_1 24 rfl rfl
theorem dksX3_tool_3 : cX3_tool.data.toList.drop 71 = dktX3_tool_3 := dk_seg dksX3_tool_2 23 rfl rfl
theorem dksX3_tool_4 : cX3_tool.data.toList.drop 95 = dktX3_tool_4 := dk_seg dksX3_tool_3 24 rfl rfl
theorem dksX3_tool_5 : cX3_tool.data.toList.drop 119 = dktX3_tool_5 := dk_seg dksX3_tool_4 24 rfl rfl
theorem dksX3_tool_6 : cX3_tool.data.toList.drop 143 = dktX3_tool_6 := dk_seg dksX3_tool_5 24 rfl rfl
theorem dX3_tool_0 : decode cX3_tool 0 = .ok (.iload_n 1, 1) := dk_27 (dk_at dksX3_tool_0 0 rfl rfl)
theorem dX3_tool_1 : decode cX3_tool 1 = .ok (.iconst 0, 1) := dk_3 (dk_at dksX3_tool_0 1 rfl rfl)
theorem dX3_tool_2 : decode cX3_tool 2 = .ok (.iconst 3, 1) := dk_6 (dk_at dksX3_tool_0 2 rfl rfl)
theorem dX3_tool_3 : decode cX3_tool 3 = .ok (.invokestatic 77, 3) := dk_184 0 77 (dk_at dksX3_tool_0 3 rfl rfl)
theorem dX3_tool_6 : decode cX3_tool 6 = .ok (.ifCond .eq 33, 3) := dk_153 0 33 (dk_at dksX3_tool_0 6 rfl rfl)
theorem dX3_tool_9 : decode cX3_tool 9 = .ok (.iload_n 2, 1) := dk_28 (dk_at dksX3_tool_0 9 rfl rfl)
theorem dX3_tool_10 : decode cX3_tool 10 = .ok (.iconst 0, 1) := dk_3 (dk_at dksX3_tool_0 10 rfl rfl)
theorem dX3_tool_11 : decode cX3_tool 11 = .ok (.iconst 3, 1) := dk_6 (dk_at dksX3_tool_0 11 rfl rfl)
theorem dX3_tool_12 : decode cX3_tool 12 = .ok (.invokestatic 77, 3) := dk_184 0 77 (dk_at dksX3_tool_0 12 rfl rfl)
theorem dX3_tool_15 : decode cX3_tool 15 = .ok (.ifCond .eq 24, 3) := dk_153 0 24 (dk_at dksX3_tool_0 15 rfl rfl)
theorem dX3_tool_18 : decode cX3_tool 18 = .ok (.iload_n 3, 1) := dk_29 (dk_at dksX3_tool_0 18 rfl rfl)
theorem dX3_tool_19 : decode cX3_tool 19 = .ok (.iconst 0, 1) := dk_3 (dk_at dksX3_tool_0 19 rfl rfl)
theorem dX3_tool_20 : decode cX3_tool 20 = .ok (.iconst 1, 1) := dk_4 (dk_at dksX3_tool_0 20 rfl rfl)
theorem dX3_tool_21 : decode cX3_tool 21 = .ok (.invokestatic 77, 3) := dk_184 0 77 (dk_at dksX3_tool_0 21 rfl rfl)
theorem dX3_tool_24 : decode cX3_tool 24 = .ok (.ifCond .eq 15, 3) := dk_153 0 15 (dk_at dksX3_tool_1 0 rfl rfl)
theorem dX3_tool_27 : decode cX3_tool 27 = .ok (.aload_n 0, 1) := dk_42 (dk_at dksX3_tool_1 3 rfl rfl)
theorem dX3_tool_28 : decode cX3_tool 28 = .ok (.getfield 7, 3) := dk_180 0 7 (dk_at dksX3_tool_1 4 rfl rfl)
theorem dX3_tool_31 : decode cX3_tool 31 = .ok (.bipush 96, 2) := dk_16 96 (dk_at dksX3_tool_1 7 rfl rfl)
theorem dX3_tool_33 : decode cX3_tool 33 = .ok (.iaload, 1) := dk_46 (dk_at dksX3_tool_1 9 rfl rfl)
theorem dX3_tool_34 : decode cX3_tool 34 = .ok (.bipush 8, 2) := dk_16 8 (dk_at dksX3_tool_1 10 rfl rfl)
theorem dX3_tool_36 : decode cX3_tool 36 = .ok (.if_icmp .ne 5, 3) := dk_160 0 5 (dk_at dksX3_tool_1 12 rfl rfl)
theorem dX3_tool_39 : decode cX3_tool 39 = .ok (.iconst (-1), 1) := dk_2 (dk_at dksX3_tool_1 15 rfl rfl)
theorem dX3_tool_40 : decode cX3_tool 40 = .ok (.ireturn, 1) := dk_172 (dk_at dksX3_tool_1 16 rfl rfl)
theorem dX3_tool_41 : decode cX3_tool 41 = .ok (.aload_n 0, 1) := dk_42 (dk_at dksX3_tool_1 17 rfl rfl)
theorem dX3_tool_42 : decode cX3_tool 42 = .ok (.getfield 7, 3) := dk_180 0 7 (dk_at dksX3_tool_1 18 rfl rfl)
theorem dX3_tool_45 : decode cX3_tool 45 = .ok (.bipush 96, 2) := dk_16 96 (dk_at dksX3_tool_1 21 rfl rfl)
theorem dX3_tool_47 : decode cX3_tool 47 = .ok (.iaload, 1) := dk_46 (dk_at dksX3_tool_1 23 rfl rfl)
theorem dX3_tool_48 : decode cX3_tool 48 = .ok (.istore 4, 2) := dk_54 4 (dk_at dksX3_tool_2 0 rfl rfl)
theorem dX3_tool_50 : decode cX3_tool 50 = .ok (.aload_n 0, 1) := dk_42 (dk_at dksX3_tool_2 2 rfl rfl)
theorem dX3_tool_51 : decode cX3_tool 51 = .ok (.iload 4, 2) := dk_21 4 (dk_at dksX3_tool_2 3 rfl rfl)
theorem dX3_tool_53 : decode cX3_tool 53 = .ok (.iconst 0, 1) := dk_3 (dk_at dksX3_tool_2 5 rfl rfl)
theorem dX3_tool_54 : decode cX3_tool 54 = .ok (.iload_n 1, 1) := dk_27 (dk_at dksX3_tool_2 6 rfl rfl)
theorem dX3_tool_55 : decode cX3_tool 55 = .ok (.invokevirtual 89, 3) := dk_182 0 89 (dk_at dksX3_tool_2 7 rfl rfl)
theorem dX3_tool_58 : decode cX3_tool 58 = .ok (.aload_n 0, 1) := dk_42 (dk_at dksX3_tool_2 10 rfl rfl)
theorem dX3_tool_59 : decode cX3_tool 59 = .ok (.iload 4, 2) := dk_21 4 (dk_at dksX3_tool_2 11 rfl rfl)
theorem dX3_tool_61 : decode cX3_tool 61 = .ok (.iconst 1, 1) := dk_4 (dk_at dksX3_tool_2 13 rfl rfl)
theorem dX3_tool_62 : decode cX3_tool 62 = .ok (.iload_n 2, 1) := dk_28 (dk_at dksX3_tool_2 14 rfl rfl)
theorem dX3_tool_63 : decode cX3_tool 63 = .ok (.invokevirtual 89, 3) := dk_182 0 89 (dk_at dksX3_tool_2 15 rfl rfl)
theorem dX3_tool_66 : decode cX3_tool 66 = .ok (.aload_n 0, 1) := dk_42 (dk_at dksX3_tool_2 18 rfl rfl)
theorem dX3_tool_67 : decode cX3_tool 67 = .ok (.iload 4, 2) := dk_21 4 (dk_at dksX3_tool_2 19 rfl rfl)
theorem dX3_tool_69 : decode cX3_tool 69 = .ok (.iconst 2, 1) := dk_5 (dk_at dksX3_tool_2 21 rfl rfl)
theorem dX3_tool_70 : decode cX3_tool 70 = .ok (.iload_n 3, 1) := dk_29 (dk_at dksX3_tool_2 22 rfl rfl)
theorem dX3_tool_71 : decode cX3_tool 71 = .ok (.invokevirtual 89, 3) := dk_182 0 89 (dk_at dksX3_tool_3 0 rfl rfl)
theorem dX3_tool_74 : decode cX3_tool 74 = .ok (.aload_n 0, 1) := dk_42 (dk_at dksX3_tool_3 3 rfl rfl)
theorem dX3_tool_75 : decode cX3_tool 75 = .ok (.iload 4, 2) := dk_21 4 (dk_at dksX3_tool_3 4 rfl rfl)
theorem dX3_tool_77 : decode cX3_tool 77 = .ok (.iconst 3, 1) := dk_6 (dk_at dksX3_tool_3 6 rfl rfl)
theorem dX3_tool_78 : decode cX3_tool 78 = .ok (.bipush 60, 2) := dk_16 60 (dk_at dksX3_tool_3 7 rfl rfl)
theorem dX3_tool_80 : decode cX3_tool 80 = .ok (.invokevirtual 89, 3) := dk_182 0 89 (dk_at dksX3_tool_3 9 rfl rfl)
theorem dX3_tool_83 : decode cX3_tool 83 = .ok (.aload_n 0, 1) := dk_42 (dk_at dksX3_tool_3 12 rfl rfl)
theorem dX3_tool_84 : decode cX3_tool 84 = .ok (.iload 4, 2) := dk_21 4 (dk_at dksX3_tool_3 13 rfl rfl)
theorem dX3_tool_86 : decode cX3_tool 86 = .ok (.iconst 4, 1) := dk_7 (dk_at dksX3_tool_3 15 rfl rfl)
theorem dX3_tool_87 : decode cX3_tool 87 = .ok (.bipush 50, 2) := dk_16 50 (dk_at dksX3_tool_3 16 rfl rfl)
theorem dX3_tool_89 : decode cX3_tool 89 = .ok (.invokevirtual 89, 3) := dk_182 0 89 (dk_at dksX3_tool_3 18 rfl rfl)
theorem dX3_tool_92 : decode cX3_tool 92 = .ok (.aload_n 0, 1) := dk_42 (dk_at dksX3_tool_3 21 rfl rfl)
theorem dX3_tool_93 : decode cX3_tool 93 = .ok (.iload 4, 2) := dk_21 4 (dk_at dksX3_tool_3 22 rfl rfl)
theorem dX3_tool_95 : decode cX3_tool 95 = .ok (.iconst 5, 1) := dk_8 (dk_at dksX3_tool_4 0 rfl rfl)
theorem dX3_tool_96 : decode cX3_tool 96 = .ok (.iconst 1, 1) := dk_4 (dk_at dksX3_tool_4 1 rfl rfl)
theorem dX3_tool_97 : decode cX3_tool 97 = .ok (.invokevirtual 89, 3) := dk_182 0 89 (dk_at dksX3_tool_4 2 rfl rfl)
theorem dX3_tool_100 : decode cX3_tool 100 = .ok (.aload_n 0, 1) := dk_42 (dk_at dksX3_tool_4 5 rfl rfl)
theorem dX3_tool_101 : decode cX3_tool 101 = .ok (.iload 4, 2) := dk_21 4 (dk_at dksX3_tool_4 6 rfl rfl)
theorem dX3_tool_103 : decode cX3_tool 103 = .ok (.bipush 6, 2) := dk_16 6 (dk_at dksX3_tool_4 8 rfl rfl)
theorem dX3_tool_105 : decode cX3_tool 105 = .ok (.bipush 7, 2) := dk_16 7 (dk_at dksX3_tool_4 10 rfl rfl)
theorem dX3_tool_107 : decode cX3_tool 107 = .ok (.invokevirtual 89, 3) := dk_182 0 89 (dk_at dksX3_tool_4 12 rfl rfl)
theorem dX3_tool_110 : decode cX3_tool 110 = .ok (.aload_n 0, 1) := dk_42 (dk_at dksX3_tool_4 15 rfl rfl)
theorem dX3_tool_111 : decode cX3_tool 111 = .ok (.iload 4, 2) := dk_21 4 (dk_at dksX3_tool_4 16 rfl rfl)
theorem dX3_tool_113 : decode cX3_tool 113 = .ok (.bipush 7, 2) := dk_16 7 (dk_at dksX3_tool_4 18 rfl rfl)
theorem dX3_tool_115 : decode cX3_tool 115 = .ok (.iconst 0, 1) := dk_3 (dk_at dksX3_tool_4 20 rfl rfl)
theorem dX3_tool_116 : decode cX3_tool 116 = .ok (.invokevirtual 89, 3) := dk_182 0 89 (dk_at dksX3_tool_4 21 rfl rfl)
theorem dX3_tool_119 : decode cX3_tool 119 = .ok (.aload_n 0, 1) := dk_42 (dk_at dksX3_tool_5 0 rfl rfl)
theorem dX3_tool_120 : decode cX3_tool 120 = .ok (.iload 4, 2) := dk_21 4 (dk_at dksX3_tool_5 1 rfl rfl)
theorem dX3_tool_122 : decode cX3_tool 122 = .ok (.bipush 8, 2) := dk_16 8 (dk_at dksX3_tool_5 3 rfl rfl)
theorem dX3_tool_124 : decode cX3_tool 124 = .ok (.iconst 0, 1) := dk_3 (dk_at dksX3_tool_5 5 rfl rfl)
theorem dX3_tool_125 : decode cX3_tool 125 = .ok (.invokevirtual 89, 3) := dk_182 0 89 (dk_at dksX3_tool_5 6 rfl rfl)
theorem dX3_tool_128 : decode cX3_tool 128 = .ok (.aload_n 0, 1) := dk_42 (dk_at dksX3_tool_5 9 rfl rfl)
theorem dX3_tool_129 : decode cX3_tool 129 = .ok (.iload 4, 2) := dk_21 4 (dk_at dksX3_tool_5 10 rfl rfl)
theorem dX3_tool_131 : decode cX3_tool 131 = .ok (.bipush 9, 2) := dk_16 9 (dk_at dksX3_tool_5 12 rfl rfl)
theorem dX3_tool_133 : decode cX3_tool 133 = .ok (.iconst 0, 1) := dk_3 (dk_at dksX3_tool_5 14 rfl rfl)
theorem dX3_tool_134 : decode cX3_tool 134 = .ok (.invokevirtual 89, 3) := dk_182 0 89 (dk_at dksX3_tool_5 15 rfl rfl)
theorem dX3_tool_137 : decode cX3_tool 137 = .ok (.aload_n 0, 1) := dk_42 (dk_at dksX3_tool_5 18 rfl rfl)
theorem dX3_tool_138 : decode cX3_tool 138 = .ok (.getfield 7, 3) := dk_180 0 7 (dk_at dksX3_tool_5 19 rfl rfl)
theorem dX3_tool_141 : decode cX3_tool 141 = .ok (.bipush 96, 2) := dk_16 96 (dk_at dksX3_tool_5 22 rfl rfl)
theorem dX3_tool_143 : decode cX3_tool 143 = .ok (.dup2, 1) := dk_92 (dk_at dksX3_tool_6 0 rfl rfl)
theorem dX3_tool_144 : decode cX3_tool 144 = .ok (.iaload, 1) := dk_46 (dk_at dksX3_tool_6 1 rfl rfl)
theorem dX3_tool_145 : decode cX3_tool 145 = .ok (.iconst 1, 1) := dk_4 (dk_at dksX3_tool_6 2 rfl rfl)
theorem dX3_tool_146 : decode cX3_tool 146 = .ok (.iadd, 1) := dk_96 (dk_at dksX3_tool_6 3 rfl rfl)
theorem dX3_tool_147 : decode cX3_tool 147 = .ok (.iastore, 1) := dk_79 (dk_at dksX3_tool_6 4 rfl rfl)
theorem dX3_tool_148 : decode cX3_tool 148 = .ok (.aload_n 0, 1) := dk_42 (dk_at dksX3_tool_6 5 rfl rfl)
theorem dX3_tool_149 : decode cX3_tool 149 = .ok (.invokevirtual 84, 3) := dk_182 0 84 (dk_at dksX3_tool_6 6 rfl rfl)
theorem dX3_tool_152 : decode cX3_tool 152 = .ok (.iload 4, 2) := dk_21 4 (dk_at dksX3_tool_6 9 rfl rfl)
theorem dX3_tool_154 : decode cX3_tool 154 = .ok (.ireturn, 1) := dk_172 (dk_at dksX3_tool_6 11 rfl rfl)
abbrev cX3_isIn : ByteArray := prog_14_method_2_code
def yX3_isIn : MethodName := ⟨RX3, "isIn", "(III)Z"⟩
def dkwX3_isIn_0 : List UInt8 := [26, 27, 161, 0, 12, 26, 28, 163, 0, 7, 4, 167, 0, 4, 3, 172]
abbrev dktX3_isIn_0 : List UInt8 := dkwX3_isIn_0 ++ []
theorem dksX3_isIn_0 : cX3_isIn.data.toList.drop 0 = dktX3_isIn_0 := by decide +kernel
theorem dX3_isIn_0 : decode cX3_isIn 0 = .ok (.iload_n 0, 1) := dk_26 (dk_at dksX3_isIn_0 0 rfl rfl)
theorem dX3_isIn_1 : decode cX3_isIn 1 = .ok (.iload_n 1, 1) := dk_27 (dk_at dksX3_isIn_0 1 rfl rfl)
theorem dX3_isIn_2 : decode cX3_isIn 2 = .ok (.if_icmp .lt 12, 3) := dk_161 0 12 (dk_at dksX3_isIn_0 2 rfl rfl)
theorem dX3_isIn_5 : decode cX3_isIn 5 = .ok (.iload_n 0, 1) := dk_26 (dk_at dksX3_isIn_0 5 rfl rfl)
theorem dX3_isIn_6 : decode cX3_isIn 6 = .ok (.iload_n 2, 1) := dk_28 (dk_at dksX3_isIn_0 6 rfl rfl)
theorem dX3_isIn_7 : decode cX3_isIn 7 = .ok (.if_icmp .gt 7, 3) := dk_163 0 7 (dk_at dksX3_isIn_0 7 rfl rfl)
theorem dX3_isIn_10 : decode cX3_isIn 10 = .ok (.iconst 1, 1) := dk_4 (dk_at dksX3_isIn_0 10 rfl rfl)
theorem dX3_isIn_11 : decode cX3_isIn 11 = .ok (.goto 4, 3) := dk_167 0 4 (dk_at dksX3_isIn_0 11 rfl rfl)
theorem dX3_isIn_14 : decode cX3_isIn 14 = .ok (.iconst 0, 1) := dk_3 (dk_at dksX3_isIn_0 14 rfl rfl)
theorem dX3_isIn_15 : decode cX3_isIn 15 = .ok (.ireturn, 1) := dk_172 (dk_at dksX3_isIn_0 15 rfl rfl)
abbrev cX3_tools : ByteArray := prog_14_method_10_code
def yX3_tools : MethodName := ⟨RX3, "tools", "(III)V"⟩
def dkwX3_tools_0 : List UInt8 := [42, 180, 0, 7, 16, 16, 16, 10, 27, 104, 96, 28, 96, 29, 79, 177]
abbrev dktX3_tools_0 : List UInt8 := dkwX3_tools_0 ++ []
theorem dksX3_tools_0 : cX3_tools.data.toList.drop 0 = dktX3_tools_0 := by decide +kernel
theorem dX3_tools_0 : decode cX3_tools 0 = .ok (.aload_n 0, 1) := dk_42 (dk_at dksX3_tools_0 0 rfl rfl)
theorem dX3_tools_1 : decode cX3_tools 1 = .ok (.getfield 7, 3) := dk_180 0 7 (dk_at dksX3_tools_0 1 rfl rfl)
theorem dX3_tools_4 : decode cX3_tools 4 = .ok (.bipush 16, 2) := dk_16 16 (dk_at dksX3_tools_0 4 rfl rfl)
theorem dX3_tools_6 : decode cX3_tools 6 = .ok (.bipush 10, 2) := dk_16 10 (dk_at dksX3_tools_0 6 rfl rfl)
theorem dX3_tools_8 : decode cX3_tools 8 = .ok (.iload_n 1, 1) := dk_27 (dk_at dksX3_tools_0 8 rfl rfl)
theorem dX3_tools_9 : decode cX3_tools 9 = .ok (.imul, 1) := dk_104 (dk_at dksX3_tools_0 9 rfl rfl)
theorem dX3_tools_10 : decode cX3_tools 10 = .ok (.iadd, 1) := dk_96 (dk_at dksX3_tools_0 10 rfl rfl)
theorem dX3_tools_11 : decode cX3_tools 11 = .ok (.iload_n 2, 1) := dk_28 (dk_at dksX3_tools_0 11 rfl rfl)
theorem dX3_tools_12 : decode cX3_tools 12 = .ok (.iadd, 1) := dk_96 (dk_at dksX3_tools_0 12 rfl rfl)
theorem dX3_tools_13 : decode cX3_tools 13 = .ok (.iload_n 3, 1) := dk_29 (dk_at dksX3_tools_0 13 rfl rfl)
theorem dX3_tools_14 : decode cX3_tools 14 = .ok (.iastore, 1) := dk_79 (dk_at dksX3_tools_0 14 rfl rfl)
theorem dX3_tools_15 : decode cX3_tools 15 = .ok (.return_, 1) := dk_177 (dk_at dksX3_tools_0 15 rfl rfl)
abbrev cX3_man : ByteArray := prog_14_method_17_code
def yX3_man : MethodName := ⟨RX3, "man", "(II)I"⟩
def dkwX3_man_3 : List UInt8 := [180, 0, 7, 16, 97, 92, 46, 4, 96, 79, 42, 182, 0, 84, 29, 172]
abbrev dktX3_man_3 : List UInt8 := dkwX3_man_3 ++ []
def dkwX3_man_2 : List UInt8 := [5, 29, 104, 96, 3, 96, 27, 79, 42, 180, 0, 7, 17, 0, 130, 5, 29, 104, 96, 4, 96, 28, 79, 42]
abbrev dktX3_man_2 : List UInt8 := dkwX3_man_2 ++ dktX3_man_3
def dkwX3_man_1 : List UInt8 := [16, 97, 46, 7, 160, 0, 5, 2, 172, 42, 180, 0, 7, 16, 97, 46, 62, 42, 180, 0, 7, 17, 0, 130]
abbrev dktX3_man_1 : List UInt8 := dkwX3_man_1 ++ dktX3_man_2
def dkwX3_man_0 : List UInt8 := [27, 3, 16, 99, 184, 0, 77, 153, 0, 23, 28, 3, 4, 184, 0, 77, 153, 0, 14, 42, 180, 0, 7]
abbrev dktX3_man_0 : List UInt8 := dkwX3_man_0 ++ dktX3_man_1
theorem dksX3_man_0 : cX3_man.data.toList.drop 0 = dktX3_man_0 := by decide +kernel
theorem dksX3_man_1 : cX3_man.data.toList.drop 23 = dktX3_man_1 := dk_seg dksX3_man_0 23 rfl rfl
theorem dksX3_man_2 : cX3_man.data.toList.drop 47 = dktX3_man_2 := dk_seg dksX3_man_1 24 rfl rfl
theorem dksX3_man_3 : cX3_man.data.toList.drop 71 = dktX3_man_3 := dk_seg dksX3_man_2 24 rfl rfl
theorem dX3_man_0 : decode cX3_man 0 = .ok (.iload_n 1, 1) := dk_27 (dk_at dksX3_man_0 0 rfl rfl)
theorem dX3_man_1 : decode cX3_man 1 = .ok (.iconst 0, 1) := dk_3 (dk_at dksX3_man_0 1 rfl rfl)
theorem dX3_man_2 : decode cX3_man 2 = .ok (.bipush 99, 2) := dk_16 99 (dk_at dksX3_man_0 2 rfl rfl)
theorem dX3_man_4 : decode cX3_man 4 = .ok (.invokestatic 77, 3) := dk_184 0 77 (dk_at dksX3_man_0 4 rfl rfl)
theorem dX3_man_7 : decode cX3_man 7 = .ok (.ifCond .eq 23, 3) := dk_153 0 23 (dk_at dksX3_man_0 7 rfl rfl)
theorem dX3_man_10 : decode cX3_man 10 = .ok (.iload_n 2, 1) := dk_28 (dk_at dksX3_man_0 10 rfl rfl)
theorem dX3_man_11 : decode cX3_man 11 = .ok (.iconst 0, 1) := dk_3 (dk_at dksX3_man_0 11 rfl rfl)
theorem dX3_man_12 : decode cX3_man 12 = .ok (.iconst 1, 1) := dk_4 (dk_at dksX3_man_0 12 rfl rfl)
theorem dX3_man_13 : decode cX3_man 13 = .ok (.invokestatic 77, 3) := dk_184 0 77 (dk_at dksX3_man_0 13 rfl rfl)
theorem dX3_man_16 : decode cX3_man 16 = .ok (.ifCond .eq 14, 3) := dk_153 0 14 (dk_at dksX3_man_0 16 rfl rfl)
theorem dX3_man_19 : decode cX3_man 19 = .ok (.aload_n 0, 1) := dk_42 (dk_at dksX3_man_0 19 rfl rfl)
theorem dX3_man_20 : decode cX3_man 20 = .ok (.getfield 7, 3) := dk_180 0 7 (dk_at dksX3_man_0 20 rfl rfl)
theorem dX3_man_23 : decode cX3_man 23 = .ok (.bipush 97, 2) := dk_16 97 (dk_at dksX3_man_1 0 rfl rfl)
theorem dX3_man_25 : decode cX3_man 25 = .ok (.iaload, 1) := dk_46 (dk_at dksX3_man_1 2 rfl rfl)
theorem dX3_man_26 : decode cX3_man 26 = .ok (.iconst 4, 1) := dk_7 (dk_at dksX3_man_1 3 rfl rfl)
theorem dX3_man_27 : decode cX3_man 27 = .ok (.if_icmp .ne 5, 3) := dk_160 0 5 (dk_at dksX3_man_1 4 rfl rfl)
theorem dX3_man_30 : decode cX3_man 30 = .ok (.iconst (-1), 1) := dk_2 (dk_at dksX3_man_1 7 rfl rfl)
theorem dX3_man_31 : decode cX3_man 31 = .ok (.ireturn, 1) := dk_172 (dk_at dksX3_man_1 8 rfl rfl)
theorem dX3_man_32 : decode cX3_man 32 = .ok (.aload_n 0, 1) := dk_42 (dk_at dksX3_man_1 9 rfl rfl)
theorem dX3_man_33 : decode cX3_man 33 = .ok (.getfield 7, 3) := dk_180 0 7 (dk_at dksX3_man_1 10 rfl rfl)
theorem dX3_man_36 : decode cX3_man 36 = .ok (.bipush 97, 2) := dk_16 97 (dk_at dksX3_man_1 13 rfl rfl)
theorem dX3_man_38 : decode cX3_man 38 = .ok (.iaload, 1) := dk_46 (dk_at dksX3_man_1 15 rfl rfl)
theorem dX3_man_39 : decode cX3_man 39 = .ok (.istore_n 3, 1) := dk_62 (dk_at dksX3_man_1 16 rfl rfl)
theorem dX3_man_40 : decode cX3_man 40 = .ok (.aload_n 0, 1) := dk_42 (dk_at dksX3_man_1 17 rfl rfl)
theorem dX3_man_41 : decode cX3_man 41 = .ok (.getfield 7, 3) := dk_180 0 7 (dk_at dksX3_man_1 18 rfl rfl)
theorem dX3_man_44 : decode cX3_man 44 = .ok (.sipush 130, 3) := dk_17 0 130 (dk_at dksX3_man_1 21 rfl rfl)
theorem dX3_man_47 : decode cX3_man 47 = .ok (.iconst 2, 1) := dk_5 (dk_at dksX3_man_2 0 rfl rfl)
theorem dX3_man_48 : decode cX3_man 48 = .ok (.iload_n 3, 1) := dk_29 (dk_at dksX3_man_2 1 rfl rfl)
theorem dX3_man_49 : decode cX3_man 49 = .ok (.imul, 1) := dk_104 (dk_at dksX3_man_2 2 rfl rfl)
theorem dX3_man_50 : decode cX3_man 50 = .ok (.iadd, 1) := dk_96 (dk_at dksX3_man_2 3 rfl rfl)
theorem dX3_man_51 : decode cX3_man 51 = .ok (.iconst 0, 1) := dk_3 (dk_at dksX3_man_2 4 rfl rfl)
theorem dX3_man_52 : decode cX3_man 52 = .ok (.iadd, 1) := dk_96 (dk_at dksX3_man_2 5 rfl rfl)
theorem dX3_man_53 : decode cX3_man 53 = .ok (.iload_n 1, 1) := dk_27 (dk_at dksX3_man_2 6 rfl rfl)
theorem dX3_man_54 : decode cX3_man 54 = .ok (.iastore, 1) := dk_79 (dk_at dksX3_man_2 7 rfl rfl)
theorem dX3_man_55 : decode cX3_man 55 = .ok (.aload_n 0, 1) := dk_42 (dk_at dksX3_man_2 8 rfl rfl)
theorem dX3_man_56 : decode cX3_man 56 = .ok (.getfield 7, 3) := dk_180 0 7 (dk_at dksX3_man_2 9 rfl rfl)
theorem dX3_man_59 : decode cX3_man 59 = .ok (.sipush 130, 3) := dk_17 0 130 (dk_at dksX3_man_2 12 rfl rfl)
theorem dX3_man_62 : decode cX3_man 62 = .ok (.iconst 2, 1) := dk_5 (dk_at dksX3_man_2 15 rfl rfl)
theorem dX3_man_63 : decode cX3_man 63 = .ok (.iload_n 3, 1) := dk_29 (dk_at dksX3_man_2 16 rfl rfl)
theorem dX3_man_64 : decode cX3_man 64 = .ok (.imul, 1) := dk_104 (dk_at dksX3_man_2 17 rfl rfl)
theorem dX3_man_65 : decode cX3_man 65 = .ok (.iadd, 1) := dk_96 (dk_at dksX3_man_2 18 rfl rfl)
theorem dX3_man_66 : decode cX3_man 66 = .ok (.iconst 1, 1) := dk_4 (dk_at dksX3_man_2 19 rfl rfl)
theorem dX3_man_67 : decode cX3_man 67 = .ok (.iadd, 1) := dk_96 (dk_at dksX3_man_2 20 rfl rfl)
theorem dX3_man_68 : decode cX3_man 68 = .ok (.iload_n 2, 1) := dk_28 (dk_at dksX3_man_2 21 rfl rfl)
theorem dX3_man_69 : decode cX3_man 69 = .ok (.iastore, 1) := dk_79 (dk_at dksX3_man_2 22 rfl rfl)
theorem dX3_man_70 : decode cX3_man 70 = .ok (.aload_n 0, 1) := dk_42 (dk_at dksX3_man_2 23 rfl rfl)
theorem dX3_man_71 : decode cX3_man 71 = .ok (.getfield 7, 3) := dk_180 0 7 (dk_at dksX3_man_3 0 rfl rfl)
theorem dX3_man_74 : decode cX3_man 74 = .ok (.bipush 97, 2) := dk_16 97 (dk_at dksX3_man_3 3 rfl rfl)
theorem dX3_man_76 : decode cX3_man 76 = .ok (.dup2, 1) := dk_92 (dk_at dksX3_man_3 5 rfl rfl)
theorem dX3_man_77 : decode cX3_man 77 = .ok (.iaload, 1) := dk_46 (dk_at dksX3_man_3 6 rfl rfl)
theorem dX3_man_78 : decode cX3_man 78 = .ok (.iconst 1, 1) := dk_4 (dk_at dksX3_man_3 7 rfl rfl)
theorem dX3_man_79 : decode cX3_man 79 = .ok (.iadd, 1) := dk_96 (dk_at dksX3_man_3 8 rfl rfl)
theorem dX3_man_80 : decode cX3_man 80 = .ok (.iastore, 1) := dk_79 (dk_at dksX3_man_3 9 rfl rfl)
theorem dX3_man_81 : decode cX3_man 81 = .ok (.aload_n 0, 1) := dk_42 (dk_at dksX3_man_3 10 rfl rfl)
theorem dX3_man_82 : decode cX3_man 82 = .ok (.invokevirtual 84, 3) := dk_182 0 84 (dk_at dksX3_man_3 11 rfl rfl)
theorem dX3_man_85 : decode cX3_man 85 = .ok (.iload_n 3, 1) := dk_29 (dk_at dksX3_man_3 14 rfl rfl)
theorem dX3_man_86 : decode cX3_man 86 = .ok (.ireturn, 1) := dk_172 (dk_at dksX3_man_3 15 rfl rfl)
abbrev cX3_set : ByteArray := prog_14_method_19_code
def yX3_set : MethodName := ⟨RX3, "set", "(III)Z"⟩
def dkwX3_set_4 : List UInt8 := [29, 79, 167, 0, 15, 42, 180, 0, 7, 16, 102, 27, 96, 8, 100, 29, 79, 42, 182, 0, 84, 4, 172]
abbrev dktX3_set_4 : List UInt8 := dkwX3_set_4 ++ []
def dkwX3_set_3 : List UInt8 := [182, 0, 89, 167, 0, 38, 27, 7, 160, 0, 21, 42, 180, 0, 7, 17, 0, 130, 5, 28, 104, 96, 3, 96]
abbrev dktX3_set_3 : List UInt8 := dkwX3_set_3 ++ dktX3_set_4
def dkwX3_set_2 : List UInt8 := [160, 0, 13, 42, 28, 182, 0, 101, 154, 0, 5, 3, 172, 27, 7, 162, 0, 15, 42, 28, 6, 27, 96, 29]
abbrev dktX3_set_2 : List UInt8 := dkwX3_set_2 ++ dktX3_set_3
def dkwX3_set_1 : List UInt8 := [184, 0, 93, 184, 0, 77, 153, 0, 29, 27, 7, 162, 0, 11, 42, 28, 182, 0, 97, 153, 0, 16, 27, 7]
abbrev dktX3_set_1 : List UInt8 := dkwX3_set_1 ++ dktX3_set_2
def dkwX3_set_0 : List UInt8 := [27, 3, 16, 6, 184, 0, 77, 153, 0, 51, 29, 27, 16, 6, 160, 0, 7, 4, 167, 0, 4, 3, 27]
abbrev dktX3_set_0 : List UInt8 := dkwX3_set_0 ++ dktX3_set_1
theorem dksX3_set_0 : cX3_set.data.toList.drop 0 = dktX3_set_0 := by decide +kernel
theorem dksX3_set_1 : cX3_set.data.toList.drop 23 = dktX3_set_1 := dk_seg dksX3_set_0 23 rfl rfl
theorem dksX3_set_2 : cX3_set.data.toList.drop 47 = dktX3_set_2 := dk_seg dksX3_set_1 24 rfl rfl
theorem dksX3_set_3 : cX3_set.data.toList.drop 71 = dktX3_set_3 := dk_seg dksX3_set_2 24 rfl rfl
theorem dksX3_set_4 : cX3_set.data.toList.drop 95 = dktX3_set_4 := dk_seg dksX3_set_3 24 rfl rfl
theorem dX3_set_0 : decode cX3_set 0 = .ok (.iload_n 1, 1) := dk_27 (dk_at dksX3_set_0 0 rfl rfl)
theorem dX3_set_1 : decode cX3_set 1 = .ok (.iconst 0, 1) := dk_3 (dk_at dksX3_set_0 1 rfl rfl)
theorem dX3_set_2 : decode cX3_set 2 = .ok (.bipush 6, 2) := dk_16 6 (dk_at dksX3_set_0 2 rfl rfl)
theorem dX3_set_4 : decode cX3_set 4 = .ok (.invokestatic 77, 3) := dk_184 0 77 (dk_at dksX3_set_0 4 rfl rfl)
theorem dX3_set_7 : decode cX3_set 7 = .ok (.ifCond .eq 51, 3) := dk_153 0 51 (dk_at dksX3_set_0 7 rfl rfl)
theorem dX3_set_10 : decode cX3_set 10 = .ok (.iload_n 3, 1) := dk_29 (dk_at dksX3_set_0 10 rfl rfl)
theorem dX3_set_11 : decode cX3_set 11 = .ok (.iload_n 1, 1) := dk_27 (dk_at dksX3_set_0 11 rfl rfl)
theorem dX3_set_12 : decode cX3_set 12 = .ok (.bipush 6, 2) := dk_16 6 (dk_at dksX3_set_0 12 rfl rfl)
theorem dX3_set_14 : decode cX3_set 14 = .ok (.if_icmp .ne 7, 3) := dk_160 0 7 (dk_at dksX3_set_0 14 rfl rfl)
theorem dX3_set_17 : decode cX3_set 17 = .ok (.iconst 1, 1) := dk_4 (dk_at dksX3_set_0 17 rfl rfl)
theorem dX3_set_18 : decode cX3_set 18 = .ok (.goto 4, 3) := dk_167 0 4 (dk_at dksX3_set_0 18 rfl rfl)
theorem dX3_set_21 : decode cX3_set 21 = .ok (.iconst 0, 1) := dk_3 (dk_at dksX3_set_0 21 rfl rfl)
theorem dX3_set_22 : decode cX3_set 22 = .ok (.iload_n 1, 1) := dk_27 (dk_at dksX3_set_0 22 rfl rfl)
theorem dX3_set_23 : decode cX3_set 23 = .ok (.invokestatic 93, 3) := dk_184 0 93 (dk_at dksX3_set_1 0 rfl rfl)
theorem dX3_set_26 : decode cX3_set 26 = .ok (.invokestatic 77, 3) := dk_184 0 77 (dk_at dksX3_set_1 3 rfl rfl)
theorem dX3_set_29 : decode cX3_set 29 = .ok (.ifCond .eq 29, 3) := dk_153 0 29 (dk_at dksX3_set_1 6 rfl rfl)
theorem dX3_set_32 : decode cX3_set 32 = .ok (.iload_n 1, 1) := dk_27 (dk_at dksX3_set_1 9 rfl rfl)
theorem dX3_set_33 : decode cX3_set 33 = .ok (.iconst 4, 1) := dk_7 (dk_at dksX3_set_1 10 rfl rfl)
theorem dX3_set_34 : decode cX3_set 34 = .ok (.if_icmp .ge 11, 3) := dk_162 0 11 (dk_at dksX3_set_1 11 rfl rfl)
theorem dX3_set_37 : decode cX3_set 37 = .ok (.aload_n 0, 1) := dk_42 (dk_at dksX3_set_1 14 rfl rfl)
theorem dX3_set_38 : decode cX3_set 38 = .ok (.iload_n 2, 1) := dk_28 (dk_at dksX3_set_1 15 rfl rfl)
theorem dX3_set_39 : decode cX3_set 39 = .ok (.invokevirtual 97, 3) := dk_182 0 97 (dk_at dksX3_set_1 16 rfl rfl)
theorem dX3_set_42 : decode cX3_set 42 = .ok (.ifCond .eq 16, 3) := dk_153 0 16 (dk_at dksX3_set_1 19 rfl rfl)
theorem dX3_set_45 : decode cX3_set 45 = .ok (.iload_n 1, 1) := dk_27 (dk_at dksX3_set_1 22 rfl rfl)
theorem dX3_set_46 : decode cX3_set 46 = .ok (.iconst 4, 1) := dk_7 (dk_at dksX3_set_1 23 rfl rfl)
theorem dX3_set_47 : decode cX3_set 47 = .ok (.if_icmp .ne 13, 3) := dk_160 0 13 (dk_at dksX3_set_2 0 rfl rfl)
theorem dX3_set_50 : decode cX3_set 50 = .ok (.aload_n 0, 1) := dk_42 (dk_at dksX3_set_2 3 rfl rfl)
theorem dX3_set_51 : decode cX3_set 51 = .ok (.iload_n 2, 1) := dk_28 (dk_at dksX3_set_2 4 rfl rfl)
theorem dX3_set_52 : decode cX3_set 52 = .ok (.invokevirtual 101, 3) := dk_182 0 101 (dk_at dksX3_set_2 5 rfl rfl)
theorem dX3_set_55 : decode cX3_set 55 = .ok (.ifCond .ne 5, 3) := dk_154 0 5 (dk_at dksX3_set_2 8 rfl rfl)
theorem dX3_set_58 : decode cX3_set 58 = .ok (.iconst 0, 1) := dk_3 (dk_at dksX3_set_2 11 rfl rfl)
theorem dX3_set_59 : decode cX3_set 59 = .ok (.ireturn, 1) := dk_172 (dk_at dksX3_set_2 12 rfl rfl)
theorem dX3_set_60 : decode cX3_set 60 = .ok (.iload_n 1, 1) := dk_27 (dk_at dksX3_set_2 13 rfl rfl)
theorem dX3_set_61 : decode cX3_set 61 = .ok (.iconst 4, 1) := dk_7 (dk_at dksX3_set_2 14 rfl rfl)
theorem dX3_set_62 : decode cX3_set 62 = .ok (.if_icmp .ge 15, 3) := dk_162 0 15 (dk_at dksX3_set_2 15 rfl rfl)
theorem dX3_set_65 : decode cX3_set 65 = .ok (.aload_n 0, 1) := dk_42 (dk_at dksX3_set_2 18 rfl rfl)
theorem dX3_set_66 : decode cX3_set 66 = .ok (.iload_n 2, 1) := dk_28 (dk_at dksX3_set_2 19 rfl rfl)
theorem dX3_set_67 : decode cX3_set 67 = .ok (.iconst 3, 1) := dk_6 (dk_at dksX3_set_2 20 rfl rfl)
theorem dX3_set_68 : decode cX3_set 68 = .ok (.iload_n 1, 1) := dk_27 (dk_at dksX3_set_2 21 rfl rfl)
theorem dX3_set_69 : decode cX3_set 69 = .ok (.iadd, 1) := dk_96 (dk_at dksX3_set_2 22 rfl rfl)
theorem dX3_set_70 : decode cX3_set 70 = .ok (.iload_n 3, 1) := dk_29 (dk_at dksX3_set_2 23 rfl rfl)
theorem dX3_set_71 : decode cX3_set 71 = .ok (.invokevirtual 89, 3) := dk_182 0 89 (dk_at dksX3_set_3 0 rfl rfl)
theorem dX3_set_74 : decode cX3_set 74 = .ok (.goto 38, 3) := dk_167 0 38 (dk_at dksX3_set_3 3 rfl rfl)
theorem dX3_set_77 : decode cX3_set 77 = .ok (.iload_n 1, 1) := dk_27 (dk_at dksX3_set_3 6 rfl rfl)
theorem dX3_set_78 : decode cX3_set 78 = .ok (.iconst 4, 1) := dk_7 (dk_at dksX3_set_3 7 rfl rfl)
theorem dX3_set_79 : decode cX3_set 79 = .ok (.if_icmp .ne 21, 3) := dk_160 0 21 (dk_at dksX3_set_3 8 rfl rfl)
theorem dX3_set_82 : decode cX3_set 82 = .ok (.aload_n 0, 1) := dk_42 (dk_at dksX3_set_3 11 rfl rfl)
theorem dX3_set_83 : decode cX3_set 83 = .ok (.getfield 7, 3) := dk_180 0 7 (dk_at dksX3_set_3 12 rfl rfl)
theorem dX3_set_86 : decode cX3_set 86 = .ok (.sipush 130, 3) := dk_17 0 130 (dk_at dksX3_set_3 15 rfl rfl)
theorem dX3_set_89 : decode cX3_set 89 = .ok (.iconst 2, 1) := dk_5 (dk_at dksX3_set_3 18 rfl rfl)
theorem dX3_set_90 : decode cX3_set 90 = .ok (.iload_n 2, 1) := dk_28 (dk_at dksX3_set_3 19 rfl rfl)
theorem dX3_set_91 : decode cX3_set 91 = .ok (.imul, 1) := dk_104 (dk_at dksX3_set_3 20 rfl rfl)
theorem dX3_set_92 : decode cX3_set 92 = .ok (.iadd, 1) := dk_96 (dk_at dksX3_set_3 21 rfl rfl)
theorem dX3_set_93 : decode cX3_set 93 = .ok (.iconst 0, 1) := dk_3 (dk_at dksX3_set_3 22 rfl rfl)
theorem dX3_set_94 : decode cX3_set 94 = .ok (.iadd, 1) := dk_96 (dk_at dksX3_set_3 23 rfl rfl)
theorem dX3_set_95 : decode cX3_set 95 = .ok (.iload_n 3, 1) := dk_29 (dk_at dksX3_set_4 0 rfl rfl)
theorem dX3_set_96 : decode cX3_set 96 = .ok (.iastore, 1) := dk_79 (dk_at dksX3_set_4 1 rfl rfl)
theorem dX3_set_97 : decode cX3_set 97 = .ok (.goto 15, 3) := dk_167 0 15 (dk_at dksX3_set_4 2 rfl rfl)
theorem dX3_set_100 : decode cX3_set 100 = .ok (.aload_n 0, 1) := dk_42 (dk_at dksX3_set_4 5 rfl rfl)
theorem dX3_set_101 : decode cX3_set 101 = .ok (.getfield 7, 3) := dk_180 0 7 (dk_at dksX3_set_4 6 rfl rfl)
theorem dX3_set_104 : decode cX3_set 104 = .ok (.bipush 102, 2) := dk_16 102 (dk_at dksX3_set_4 9 rfl rfl)
theorem dX3_set_106 : decode cX3_set 106 = .ok (.iload_n 1, 1) := dk_27 (dk_at dksX3_set_4 11 rfl rfl)
theorem dX3_set_107 : decode cX3_set 107 = .ok (.iadd, 1) := dk_96 (dk_at dksX3_set_4 12 rfl rfl)
theorem dX3_set_108 : decode cX3_set 108 = .ok (.iconst 5, 1) := dk_8 (dk_at dksX3_set_4 13 rfl rfl)
theorem dX3_set_109 : decode cX3_set 109 = .ok (.isub, 1) := dk_100 (dk_at dksX3_set_4 14 rfl rfl)
theorem dX3_set_110 : decode cX3_set 110 = .ok (.iload_n 3, 1) := dk_29 (dk_at dksX3_set_4 15 rfl rfl)
theorem dX3_set_111 : decode cX3_set 111 = .ok (.iastore, 1) := dk_79 (dk_at dksX3_set_4 16 rfl rfl)
theorem dX3_set_112 : decode cX3_set 112 = .ok (.aload_n 0, 1) := dk_42 (dk_at dksX3_set_4 17 rfl rfl)
theorem dX3_set_113 : decode cX3_set 113 = .ok (.invokevirtual 84, 3) := dk_182 0 84 (dk_at dksX3_set_4 18 rfl rfl)
theorem dX3_set_116 : decode cX3_set 116 = .ok (.iconst 1, 1) := dk_4 (dk_at dksX3_set_4 21 rfl rfl)
theorem dX3_set_117 : decode cX3_set 117 = .ok (.ireturn, 1) := dk_172 (dk_at dksX3_set_4 22 rfl rfl)
abbrev cX3_mostOf : ByteArray := prog_14_method_18_code
def yX3_mostOf : MethodName := ⟨RX3, "mostOf", "(I)I"⟩
def dkwX3_mostOf_2 : List UInt8 := [16, 9, 172, 16, 7, 172, 17, 3, 232, 172, 16, 80, 172, 16, 99, 172]
abbrev dktX3_mostOf_2 : List UInt8 := dkwX3_mostOf_2 ++ []
def dkwX3_mostOf_1 : List UInt8 := [170, 0, 0, 0, 0, 0, 48, 0, 0, 0, 2, 0, 0, 0, 6, 0, 0, 0, 35, 0, 0, 0, 38, 0, 0, 0, 48, 0, 0, 0, 41, 0, 0, 0, 45]
abbrev dktX3_mostOf_1 : List UInt8 := dkwX3_mostOf_1 ++ dktX3_mostOf_2
def dkwX3_mostOf_0 : List UInt8 := [26]
abbrev dktX3_mostOf_0 : List UInt8 := dkwX3_mostOf_0 ++ dktX3_mostOf_1
theorem dksX3_mostOf_0 : cX3_mostOf.data.toList.drop 0 = dktX3_mostOf_0 := by decide +kernel
theorem dksX3_mostOf_1 : cX3_mostOf.data.toList.drop 1 = dktX3_mostOf_1 := dk_seg dksX3_mostOf_0 1 rfl rfl
theorem dksX3_mostOf_2 : cX3_mostOf.data.toList.drop 36 = dktX3_mostOf_2 := dk_seg dksX3_mostOf_1 35 rfl rfl
theorem dX3_mostOf_0 : decode cX3_mostOf 0 = .ok (.iload_n 0, 1) := dk_26 (dk_at dksX3_mostOf_0 0 rfl rfl)
theorem dX3_mostOf_1 : decode cX3_mostOf 1 = .ok (.tableswitch 48 2 6 #[35, 38, 48, 41, 45], 35) := by decide +kernel
theorem dX3_mostOf_36 : decode cX3_mostOf 36 = .ok (.bipush 9, 2) := dk_16 9 (dk_at dksX3_mostOf_2 0 rfl rfl)
theorem dX3_mostOf_38 : decode cX3_mostOf 38 = .ok (.ireturn, 1) := dk_172 (dk_at dksX3_mostOf_2 2 rfl rfl)
theorem dX3_mostOf_39 : decode cX3_mostOf 39 = .ok (.bipush 7, 2) := dk_16 7 (dk_at dksX3_mostOf_2 3 rfl rfl)
theorem dX3_mostOf_41 : decode cX3_mostOf 41 = .ok (.ireturn, 1) := dk_172 (dk_at dksX3_mostOf_2 5 rfl rfl)
theorem dX3_mostOf_42 : decode cX3_mostOf 42 = .ok (.sipush 1000, 3) := dk_17 3 232 (dk_at dksX3_mostOf_2 6 rfl rfl)
theorem dX3_mostOf_45 : decode cX3_mostOf 45 = .ok (.ireturn, 1) := dk_172 (dk_at dksX3_mostOf_2 9 rfl rfl)
theorem dX3_mostOf_46 : decode cX3_mostOf 46 = .ok (.bipush 80, 2) := dk_16 80 (dk_at dksX3_mostOf_2 10 rfl rfl)
theorem dX3_mostOf_48 : decode cX3_mostOf 48 = .ok (.ireturn, 1) := dk_172 (dk_at dksX3_mostOf_2 12 rfl rfl)
theorem dX3_mostOf_49 : decode cX3_mostOf 49 = .ok (.bipush 99, 2) := dk_16 99 (dk_at dksX3_mostOf_2 13 rfl rfl)
theorem dX3_mostOf_51 : decode cX3_mostOf 51 = .ok (.ireturn, 1) := dk_172 (dk_at dksX3_mostOf_2 15 rfl rfl)
abbrev cX3_isTool : ByteArray := prog_14_method_6_code
def yX3_isTool : MethodName := ⟨RX3, "isTool", "(I)Z"⟩
def dkwX3_isTool_0 : List UInt8 := [27, 3, 42, 180, 0, 7, 16, 96, 46, 4, 100, 184, 0, 77, 172]
abbrev dktX3_isTool_0 : List UInt8 := dkwX3_isTool_0 ++ []
theorem dksX3_isTool_0 : cX3_isTool.data.toList.drop 0 = dktX3_isTool_0 := by decide +kernel
theorem dX3_isTool_0 : decode cX3_isTool 0 = .ok (.iload_n 1, 1) := dk_27 (dk_at dksX3_isTool_0 0 rfl rfl)
theorem dX3_isTool_1 : decode cX3_isTool 1 = .ok (.iconst 0, 1) := dk_3 (dk_at dksX3_isTool_0 1 rfl rfl)
theorem dX3_isTool_2 : decode cX3_isTool 2 = .ok (.aload_n 0, 1) := dk_42 (dk_at dksX3_isTool_0 2 rfl rfl)
theorem dX3_isTool_3 : decode cX3_isTool 3 = .ok (.getfield 7, 3) := dk_180 0 7 (dk_at dksX3_isTool_0 3 rfl rfl)
theorem dX3_isTool_6 : decode cX3_isTool 6 = .ok (.bipush 96, 2) := dk_16 96 (dk_at dksX3_isTool_0 6 rfl rfl)
theorem dX3_isTool_8 : decode cX3_isTool 8 = .ok (.iaload, 1) := dk_46 (dk_at dksX3_isTool_0 8 rfl rfl)
theorem dX3_isTool_9 : decode cX3_isTool 9 = .ok (.iconst 1, 1) := dk_4 (dk_at dksX3_isTool_0 9 rfl rfl)
theorem dX3_isTool_10 : decode cX3_isTool 10 = .ok (.isub, 1) := dk_100 (dk_at dksX3_isTool_0 10 rfl rfl)
theorem dX3_isTool_11 : decode cX3_isTool 11 = .ok (.invokestatic 77, 3) := dk_184 0 77 (dk_at dksX3_isTool_0 11 rfl rfl)
theorem dX3_isTool_14 : decode cX3_isTool 14 = .ok (.ireturn, 1) := dk_172 (dk_at dksX3_isTool_0 14 rfl rfl)
abbrev cX3_isMan : ByteArray := prog_14_method_7_code
def yX3_isMan : MethodName := ⟨RX3, "isMan", "(I)Z"⟩
def dkwX3_isMan_0 : List UInt8 := [27, 3, 42, 180, 0, 7, 16, 97, 46, 4, 100, 184, 0, 77, 172]
abbrev dktX3_isMan_0 : List UInt8 := dkwX3_isMan_0 ++ []
theorem dksX3_isMan_0 : cX3_isMan.data.toList.drop 0 = dktX3_isMan_0 := by decide +kernel
theorem dX3_isMan_0 : decode cX3_isMan 0 = .ok (.iload_n 1, 1) := dk_27 (dk_at dksX3_isMan_0 0 rfl rfl)
theorem dX3_isMan_1 : decode cX3_isMan 1 = .ok (.iconst 0, 1) := dk_3 (dk_at dksX3_isMan_0 1 rfl rfl)
theorem dX3_isMan_2 : decode cX3_isMan 2 = .ok (.aload_n 0, 1) := dk_42 (dk_at dksX3_isMan_0 2 rfl rfl)
theorem dX3_isMan_3 : decode cX3_isMan 3 = .ok (.getfield 7, 3) := dk_180 0 7 (dk_at dksX3_isMan_0 3 rfl rfl)
theorem dX3_isMan_6 : decode cX3_isMan 6 = .ok (.bipush 97, 2) := dk_16 97 (dk_at dksX3_isMan_0 6 rfl rfl)
theorem dX3_isMan_8 : decode cX3_isMan 8 = .ok (.iaload, 1) := dk_46 (dk_at dksX3_isMan_0 8 rfl rfl)
theorem dX3_isMan_9 : decode cX3_isMan 9 = .ok (.iconst 1, 1) := dk_4 (dk_at dksX3_isMan_0 9 rfl rfl)
theorem dX3_isMan_10 : decode cX3_isMan 10 = .ok (.isub, 1) := dk_100 (dk_at dksX3_isMan_0 10 rfl rfl)
theorem dX3_isMan_11 : decode cX3_isMan 11 = .ok (.invokestatic 77, 3) := dk_184 0 77 (dk_at dksX3_isMan_0 11 rfl rfl)
theorem dX3_isMan_14 : decode cX3_isMan 14 = .ok (.ireturn, 1) := dk_172 (dk_at dksX3_isMan_0 14 rfl rfl)
abbrev cX3_feed : ByteArray := prog_14_method_20_code
def yX3_feed : MethodName := ⟨RX3, "feed", "(IIIII)I"⟩
def dkwX3_feed_5 : List UInt8 := [180, 0, 104, 172]
abbrev dktX3_feed_5 : List UInt8 := dkwX3_feed_5 ++ []
def dkwX3_feed_4 : List UInt8 := [122, 17, 0, 255, 126, 79, 42, 89, 180, 0, 104, 4, 96, 181, 0, 104, 132, 6, 1, 167, 255, 162, 42]
abbrev dktX3_feed_4 : List UInt8 := dkwX3_feed_4 ++ dktX3_feed_5
def dkwX3_feed_3 : List UInt8 := [21, 5, 54, 7, 42, 180, 0, 31, 42, 180, 0, 104, 21, 7, 16, 24, 16, 8, 21, 6, 7, 112, 104, 100]
abbrev dktX3_feed_3 : List UInt8 := dkwX3_feed_3 ++ dktX3_feed_4
def dkwX3_feed_2 : List UInt8 := [21, 6, 16, 12, 162, 0, 7, 29, 167, 0, 17, 21, 6, 16, 16, 162, 0, 8, 21, 4, 167, 0, 5]
abbrev dktX3_feed_2 : List UInt8 := dkwX3_feed_2 ++ dktX3_feed_3
def dkwX3_feed_1 : List UInt8 := [162, 0, 93, 21, 6, 7, 162, 0, 7, 27, 167, 0, 39, 21, 6, 16, 8, 162, 0, 7, 28, 167, 0, 28]
abbrev dktX3_feed_1 : List UInt8 := dkwX3_feed_1 ++ dktX3_feed_2
def dkwX3_feed_0 : List UInt8 := [42, 180, 0, 104, 16, 20, 96, 17, 1, 144, 164, 0, 5, 2, 172, 3, 54, 6, 21, 6, 16, 20]
abbrev dktX3_feed_0 : List UInt8 := dkwX3_feed_0 ++ dktX3_feed_1
theorem dksX3_feed_0 : cX3_feed.data.toList.drop 0 = dktX3_feed_0 := by decide +kernel
theorem dksX3_feed_1 : cX3_feed.data.toList.drop 22 = dktX3_feed_1 := dk_seg dksX3_feed_0 22 rfl rfl
theorem dksX3_feed_2 : cX3_feed.data.toList.drop 46 = dktX3_feed_2 := dk_seg dksX3_feed_1 24 rfl rfl
theorem dksX3_feed_3 : cX3_feed.data.toList.drop 69 = dktX3_feed_3 := dk_seg dksX3_feed_2 23 rfl rfl
theorem dksX3_feed_4 : cX3_feed.data.toList.drop 93 = dktX3_feed_4 := dk_seg dksX3_feed_3 24 rfl rfl
theorem dksX3_feed_5 : cX3_feed.data.toList.drop 116 = dktX3_feed_5 := dk_seg dksX3_feed_4 23 rfl rfl
theorem dX3_feed_0 : decode cX3_feed 0 = .ok (.aload_n 0, 1) := dk_42 (dk_at dksX3_feed_0 0 rfl rfl)
theorem dX3_feed_1 : decode cX3_feed 1 = .ok (.getfield 104, 3) := dk_180 0 104 (dk_at dksX3_feed_0 1 rfl rfl)
theorem dX3_feed_4 : decode cX3_feed 4 = .ok (.bipush 20, 2) := dk_16 20 (dk_at dksX3_feed_0 4 rfl rfl)
theorem dX3_feed_6 : decode cX3_feed 6 = .ok (.iadd, 1) := dk_96 (dk_at dksX3_feed_0 6 rfl rfl)
theorem dX3_feed_7 : decode cX3_feed 7 = .ok (.sipush 400, 3) := dk_17 1 144 (dk_at dksX3_feed_0 7 rfl rfl)
theorem dX3_feed_10 : decode cX3_feed 10 = .ok (.if_icmp .le 5, 3) := dk_164 0 5 (dk_at dksX3_feed_0 10 rfl rfl)
theorem dX3_feed_13 : decode cX3_feed 13 = .ok (.iconst (-1), 1) := dk_2 (dk_at dksX3_feed_0 13 rfl rfl)
theorem dX3_feed_14 : decode cX3_feed 14 = .ok (.ireturn, 1) := dk_172 (dk_at dksX3_feed_0 14 rfl rfl)
theorem dX3_feed_15 : decode cX3_feed 15 = .ok (.iconst 0, 1) := dk_3 (dk_at dksX3_feed_0 15 rfl rfl)
theorem dX3_feed_16 : decode cX3_feed 16 = .ok (.istore 6, 2) := dk_54 6 (dk_at dksX3_feed_0 16 rfl rfl)
theorem dX3_feed_18 : decode cX3_feed 18 = .ok (.iload 6, 2) := dk_21 6 (dk_at dksX3_feed_0 18 rfl rfl)
theorem dX3_feed_20 : decode cX3_feed 20 = .ok (.bipush 20, 2) := dk_16 20 (dk_at dksX3_feed_0 20 rfl rfl)
theorem dX3_feed_22 : decode cX3_feed 22 = .ok (.if_icmp .ge 93, 3) := dk_162 0 93 (dk_at dksX3_feed_1 0 rfl rfl)
theorem dX3_feed_25 : decode cX3_feed 25 = .ok (.iload 6, 2) := dk_21 6 (dk_at dksX3_feed_1 3 rfl rfl)
theorem dX3_feed_27 : decode cX3_feed 27 = .ok (.iconst 4, 1) := dk_7 (dk_at dksX3_feed_1 5 rfl rfl)
theorem dX3_feed_28 : decode cX3_feed 28 = .ok (.if_icmp .ge 7, 3) := dk_162 0 7 (dk_at dksX3_feed_1 6 rfl rfl)
theorem dX3_feed_31 : decode cX3_feed 31 = .ok (.iload_n 1, 1) := dk_27 (dk_at dksX3_feed_1 9 rfl rfl)
theorem dX3_feed_32 : decode cX3_feed 32 = .ok (.goto 39, 3) := dk_167 0 39 (dk_at dksX3_feed_1 10 rfl rfl)
theorem dX3_feed_35 : decode cX3_feed 35 = .ok (.iload 6, 2) := dk_21 6 (dk_at dksX3_feed_1 13 rfl rfl)
theorem dX3_feed_37 : decode cX3_feed 37 = .ok (.bipush 8, 2) := dk_16 8 (dk_at dksX3_feed_1 15 rfl rfl)
theorem dX3_feed_39 : decode cX3_feed 39 = .ok (.if_icmp .ge 7, 3) := dk_162 0 7 (dk_at dksX3_feed_1 17 rfl rfl)
theorem dX3_feed_42 : decode cX3_feed 42 = .ok (.iload_n 2, 1) := dk_28 (dk_at dksX3_feed_1 20 rfl rfl)
theorem dX3_feed_43 : decode cX3_feed 43 = .ok (.goto 28, 3) := dk_167 0 28 (dk_at dksX3_feed_1 21 rfl rfl)
theorem dX3_feed_46 : decode cX3_feed 46 = .ok (.iload 6, 2) := dk_21 6 (dk_at dksX3_feed_2 0 rfl rfl)
theorem dX3_feed_48 : decode cX3_feed 48 = .ok (.bipush 12, 2) := dk_16 12 (dk_at dksX3_feed_2 2 rfl rfl)
theorem dX3_feed_50 : decode cX3_feed 50 = .ok (.if_icmp .ge 7, 3) := dk_162 0 7 (dk_at dksX3_feed_2 4 rfl rfl)
theorem dX3_feed_53 : decode cX3_feed 53 = .ok (.iload_n 3, 1) := dk_29 (dk_at dksX3_feed_2 7 rfl rfl)
theorem dX3_feed_54 : decode cX3_feed 54 = .ok (.goto 17, 3) := dk_167 0 17 (dk_at dksX3_feed_2 8 rfl rfl)
theorem dX3_feed_57 : decode cX3_feed 57 = .ok (.iload 6, 2) := dk_21 6 (dk_at dksX3_feed_2 11 rfl rfl)
theorem dX3_feed_59 : decode cX3_feed 59 = .ok (.bipush 16, 2) := dk_16 16 (dk_at dksX3_feed_2 13 rfl rfl)
theorem dX3_feed_61 : decode cX3_feed 61 = .ok (.if_icmp .ge 8, 3) := dk_162 0 8 (dk_at dksX3_feed_2 15 rfl rfl)
theorem dX3_feed_64 : decode cX3_feed 64 = .ok (.iload 4, 2) := dk_21 4 (dk_at dksX3_feed_2 18 rfl rfl)
theorem dX3_feed_66 : decode cX3_feed 66 = .ok (.goto 5, 3) := dk_167 0 5 (dk_at dksX3_feed_2 20 rfl rfl)
theorem dX3_feed_69 : decode cX3_feed 69 = .ok (.iload 5, 2) := dk_21 5 (dk_at dksX3_feed_3 0 rfl rfl)
theorem dX3_feed_71 : decode cX3_feed 71 = .ok (.istore 7, 2) := dk_54 7 (dk_at dksX3_feed_3 2 rfl rfl)
theorem dX3_feed_73 : decode cX3_feed 73 = .ok (.aload_n 0, 1) := dk_42 (dk_at dksX3_feed_3 4 rfl rfl)
theorem dX3_feed_74 : decode cX3_feed 74 = .ok (.getfield 31, 3) := dk_180 0 31 (dk_at dksX3_feed_3 5 rfl rfl)
theorem dX3_feed_77 : decode cX3_feed 77 = .ok (.aload_n 0, 1) := dk_42 (dk_at dksX3_feed_3 8 rfl rfl)
theorem dX3_feed_78 : decode cX3_feed 78 = .ok (.getfield 104, 3) := dk_180 0 104 (dk_at dksX3_feed_3 9 rfl rfl)
theorem dX3_feed_81 : decode cX3_feed 81 = .ok (.iload 7, 2) := dk_21 7 (dk_at dksX3_feed_3 12 rfl rfl)
theorem dX3_feed_83 : decode cX3_feed 83 = .ok (.bipush 24, 2) := dk_16 24 (dk_at dksX3_feed_3 14 rfl rfl)
theorem dX3_feed_85 : decode cX3_feed 85 = .ok (.bipush 8, 2) := dk_16 8 (dk_at dksX3_feed_3 16 rfl rfl)
theorem dX3_feed_87 : decode cX3_feed 87 = .ok (.iload 6, 2) := dk_21 6 (dk_at dksX3_feed_3 18 rfl rfl)
theorem dX3_feed_89 : decode cX3_feed 89 = .ok (.iconst 4, 1) := dk_7 (dk_at dksX3_feed_3 20 rfl rfl)
theorem dX3_feed_90 : decode cX3_feed 90 = .ok (.irem, 1) := dk_112 (dk_at dksX3_feed_3 21 rfl rfl)
theorem dX3_feed_91 : decode cX3_feed 91 = .ok (.imul, 1) := dk_104 (dk_at dksX3_feed_3 22 rfl rfl)
theorem dX3_feed_92 : decode cX3_feed 92 = .ok (.isub, 1) := dk_100 (dk_at dksX3_feed_3 23 rfl rfl)
theorem dX3_feed_93 : decode cX3_feed 93 = .ok (.ishr, 1) := dk_122 (dk_at dksX3_feed_4 0 rfl rfl)
theorem dX3_feed_94 : decode cX3_feed 94 = .ok (.sipush 255, 3) := dk_17 0 255 (dk_at dksX3_feed_4 1 rfl rfl)
theorem dX3_feed_97 : decode cX3_feed 97 = .ok (.iand, 1) := dk_126 (dk_at dksX3_feed_4 4 rfl rfl)
theorem dX3_feed_98 : decode cX3_feed 98 = .ok (.iastore, 1) := dk_79 (dk_at dksX3_feed_4 5 rfl rfl)
theorem dX3_feed_99 : decode cX3_feed 99 = .ok (.aload_n 0, 1) := dk_42 (dk_at dksX3_feed_4 6 rfl rfl)
theorem dX3_feed_100 : decode cX3_feed 100 = .ok (.dup, 1) := dk_89 (dk_at dksX3_feed_4 7 rfl rfl)
theorem dX3_feed_101 : decode cX3_feed 101 = .ok (.getfield 104, 3) := dk_180 0 104 (dk_at dksX3_feed_4 8 rfl rfl)
theorem dX3_feed_104 : decode cX3_feed 104 = .ok (.iconst 1, 1) := dk_4 (dk_at dksX3_feed_4 11 rfl rfl)
theorem dX3_feed_105 : decode cX3_feed 105 = .ok (.iadd, 1) := dk_96 (dk_at dksX3_feed_4 12 rfl rfl)
theorem dX3_feed_106 : decode cX3_feed 106 = .ok (.putfield 104, 3) := dk_181 0 104 (dk_at dksX3_feed_4 13 rfl rfl)
theorem dX3_feed_109 : decode cX3_feed 109 = .ok (.iinc 6 1, 3) := dk_132 6 1 (dk_at dksX3_feed_4 16 rfl rfl)
theorem dX3_feed_112 : decode cX3_feed 112 = .ok (.goto (-94), 3) := dk_167 255 162 (dk_at dksX3_feed_4 19 rfl rfl)
theorem dX3_feed_115 : decode cX3_feed 115 = .ok (.aload_n 0, 1) := dk_42 (dk_at dksX3_feed_4 22 rfl rfl)
theorem dX3_feed_116 : decode cX3_feed 116 = .ok (.getfield 104, 3) := dk_180 0 104 (dk_at dksX3_feed_5 0 rfl rfl)
theorem dX3_feed_119 : decode cX3_feed 119 = .ok (.ireturn, 1) := dk_172 (dk_at dksX3_feed_5 3 rfl rfl)
abbrev cX3_end : ByteArray := prog_14_method_21_code
def yX3_end : MethodName := ⟨RX3, "end", "(I)Z"⟩
def dkwX3_end_0 : List UInt8 := [27, 3, 42, 180, 0, 104, 184, 0, 77, 154, 0, 5, 3, 172, 42, 27, 181, 0, 104, 4, 172]
abbrev dktX3_end_0 : List UInt8 := dkwX3_end_0 ++ []
theorem dksX3_end_0 : cX3_end.data.toList.drop 0 = dktX3_end_0 := by decide +kernel
theorem dX3_end_0 : decode cX3_end 0 = .ok (.iload_n 1, 1) := dk_27 (dk_at dksX3_end_0 0 rfl rfl)
theorem dX3_end_1 : decode cX3_end 1 = .ok (.iconst 0, 1) := dk_3 (dk_at dksX3_end_0 1 rfl rfl)
theorem dX3_end_2 : decode cX3_end 2 = .ok (.aload_n 0, 1) := dk_42 (dk_at dksX3_end_0 2 rfl rfl)
theorem dX3_end_3 : decode cX3_end 3 = .ok (.getfield 104, 3) := dk_180 0 104 (dk_at dksX3_end_0 3 rfl rfl)
theorem dX3_end_6 : decode cX3_end 6 = .ok (.invokestatic 77, 3) := dk_184 0 77 (dk_at dksX3_end_0 6 rfl rfl)
theorem dX3_end_9 : decode cX3_end 9 = .ok (.ifCond .ne 5, 3) := dk_154 0 5 (dk_at dksX3_end_0 9 rfl rfl)
theorem dX3_end_12 : decode cX3_end 12 = .ok (.iconst 0, 1) := dk_3 (dk_at dksX3_end_0 12 rfl rfl)
theorem dX3_end_13 : decode cX3_end 13 = .ok (.ireturn, 1) := dk_172 (dk_at dksX3_end_0 13 rfl rfl)
theorem dX3_end_14 : decode cX3_end 14 = .ok (.aload_n 0, 1) := dk_42 (dk_at dksX3_end_0 14 rfl rfl)
theorem dX3_end_15 : decode cX3_end 15 = .ok (.iload_n 1, 1) := dk_27 (dk_at dksX3_end_0 15 rfl rfl)
theorem dX3_end_16 : decode cX3_end 16 = .ok (.putfield 104, 3) := dk_181 0 104 (dk_at dksX3_end_0 16 rfl rfl)
theorem dX3_end_19 : decode cX3_end 19 = .ok (.iconst 1, 1) := dk_4 (dk_at dksX3_end_0 19 rfl rfl)
theorem dX3_end_20 : decode cX3_end 20 = .ok (.ireturn, 1) := dk_172 (dk_at dksX3_end_0 20 rfl rfl)
abbrev cX3_text : ByteArray := prog_14_method_52_code
def yX3_text : MethodName := ⟨RX3, "text", "(I)I"⟩
def dkwX3_text_5 : List UInt8 := [2, 172]
abbrev dktX3_text_5 : List UInt8 := dkwX3_text_5 ++ []
def dkwX3_text_4 : List UInt8 := [167, 0, 7, 42, 182, 1, 44, 172, 42, 42, 180, 0, 212, 181, 1, 29, 42, 42, 180, 0, 215, 181, 0, 40]
abbrev dktX3_text_4 : List UInt8 := dkwX3_text_4 ++ dktX3_text_5
def dkwX3_text_3 : List UInt8 := [27, 5, 162, 0, 11, 42, 27, 182, 1, 38, 167, 0, 19, 27, 5, 160, 0, 10, 42, 182, 1, 41]
abbrev dktX3_text_3 : List UInt8 := dkwX3_text_3 ++ dktX3_text_4
def dkwX3_text_2 : List UInt8 := [162, 0, 10, 42, 182, 1, 32, 167, 0, 7, 42, 182, 1, 35, 61, 42, 3, 181, 0, 104, 28, 153, 0, 33]
abbrev dktX3_text_2 : List UInt8 := dkwX3_text_2 ++ dktX3_text_3
def dkwX3_text_1 : List UInt8 := [2, 172, 42, 3, 181, 0, 212, 42, 3, 181, 0, 107, 42, 27, 181, 0, 155, 42, 182, 0, 221, 27, 5]
abbrev dktX3_text_1 : List UInt8 := dkwX3_text_1 ++ dktX3_text_2
def dkwX3_text_0 : List UInt8 := [42, 3, 181, 1, 29, 42, 2, 181, 0, 40, 27, 3, 6, 184, 0, 77, 154, 0, 10, 42, 3, 181, 0, 104]
abbrev dktX3_text_0 : List UInt8 := dkwX3_text_0 ++ dktX3_text_1
theorem dksX3_text_0 : cX3_text.data.toList.drop 0 = dktX3_text_0 := by decide +kernel
theorem dksX3_text_1 : cX3_text.data.toList.drop 24 = dktX3_text_1 := dk_seg dksX3_text_0 24 rfl rfl
theorem dksX3_text_2 : cX3_text.data.toList.drop 47 = dktX3_text_2 := dk_seg dksX3_text_1 23 rfl rfl
theorem dksX3_text_3 : cX3_text.data.toList.drop 71 = dktX3_text_3 := dk_seg dksX3_text_2 24 rfl rfl
theorem dksX3_text_4 : cX3_text.data.toList.drop 93 = dktX3_text_4 := dk_seg dksX3_text_3 22 rfl rfl
theorem dksX3_text_5 : cX3_text.data.toList.drop 117 = dktX3_text_5 := dk_seg dksX3_text_4 24 rfl rfl
theorem dX3_text_0 : decode cX3_text 0 = .ok (.aload_n 0, 1) := dk_42 (dk_at dksX3_text_0 0 rfl rfl)
theorem dX3_text_1 : decode cX3_text 1 = .ok (.iconst 0, 1) := dk_3 (dk_at dksX3_text_0 1 rfl rfl)
theorem dX3_text_2 : decode cX3_text 2 = .ok (.putfield 285, 3) := dk_181 1 29 (dk_at dksX3_text_0 2 rfl rfl)
theorem dX3_text_5 : decode cX3_text 5 = .ok (.aload_n 0, 1) := dk_42 (dk_at dksX3_text_0 5 rfl rfl)
theorem dX3_text_6 : decode cX3_text 6 = .ok (.iconst (-1), 1) := dk_2 (dk_at dksX3_text_0 6 rfl rfl)
theorem dX3_text_7 : decode cX3_text 7 = .ok (.putfield 40, 3) := dk_181 0 40 (dk_at dksX3_text_0 7 rfl rfl)
theorem dX3_text_10 : decode cX3_text 10 = .ok (.iload_n 1, 1) := dk_27 (dk_at dksX3_text_0 10 rfl rfl)
theorem dX3_text_11 : decode cX3_text 11 = .ok (.iconst 0, 1) := dk_3 (dk_at dksX3_text_0 11 rfl rfl)
theorem dX3_text_12 : decode cX3_text 12 = .ok (.iconst 3, 1) := dk_6 (dk_at dksX3_text_0 12 rfl rfl)
theorem dX3_text_13 : decode cX3_text 13 = .ok (.invokestatic 77, 3) := dk_184 0 77 (dk_at dksX3_text_0 13 rfl rfl)
theorem dX3_text_16 : decode cX3_text 16 = .ok (.ifCond .ne 10, 3) := dk_154 0 10 (dk_at dksX3_text_0 16 rfl rfl)
theorem dX3_text_19 : decode cX3_text 19 = .ok (.aload_n 0, 1) := dk_42 (dk_at dksX3_text_0 19 rfl rfl)
theorem dX3_text_20 : decode cX3_text 20 = .ok (.iconst 0, 1) := dk_3 (dk_at dksX3_text_0 20 rfl rfl)
theorem dX3_text_21 : decode cX3_text 21 = .ok (.putfield 104, 3) := dk_181 0 104 (dk_at dksX3_text_0 21 rfl rfl)
theorem dX3_text_24 : decode cX3_text 24 = .ok (.iconst (-1), 1) := dk_2 (dk_at dksX3_text_1 0 rfl rfl)
theorem dX3_text_25 : decode cX3_text 25 = .ok (.ireturn, 1) := dk_172 (dk_at dksX3_text_1 1 rfl rfl)
theorem dX3_text_26 : decode cX3_text 26 = .ok (.aload_n 0, 1) := dk_42 (dk_at dksX3_text_1 2 rfl rfl)
theorem dX3_text_27 : decode cX3_text 27 = .ok (.iconst 0, 1) := dk_3 (dk_at dksX3_text_1 3 rfl rfl)
theorem dX3_text_28 : decode cX3_text 28 = .ok (.putfield 212, 3) := dk_181 0 212 (dk_at dksX3_text_1 4 rfl rfl)
theorem dX3_text_31 : decode cX3_text 31 = .ok (.aload_n 0, 1) := dk_42 (dk_at dksX3_text_1 7 rfl rfl)
theorem dX3_text_32 : decode cX3_text 32 = .ok (.iconst 0, 1) := dk_3 (dk_at dksX3_text_1 8 rfl rfl)
theorem dX3_text_33 : decode cX3_text 33 = .ok (.putfield 107, 3) := dk_181 0 107 (dk_at dksX3_text_1 9 rfl rfl)
theorem dX3_text_36 : decode cX3_text 36 = .ok (.aload_n 0, 1) := dk_42 (dk_at dksX3_text_1 12 rfl rfl)
theorem dX3_text_37 : decode cX3_text 37 = .ok (.iload_n 1, 1) := dk_27 (dk_at dksX3_text_1 13 rfl rfl)
theorem dX3_text_38 : decode cX3_text 38 = .ok (.putfield 155, 3) := dk_181 0 155 (dk_at dksX3_text_1 14 rfl rfl)
theorem dX3_text_41 : decode cX3_text 41 = .ok (.aload_n 0, 1) := dk_42 (dk_at dksX3_text_1 17 rfl rfl)
theorem dX3_text_42 : decode cX3_text 42 = .ok (.invokevirtual 221, 3) := dk_182 0 221 (dk_at dksX3_text_1 18 rfl rfl)
theorem dX3_text_45 : decode cX3_text 45 = .ok (.iload_n 1, 1) := dk_27 (dk_at dksX3_text_1 21 rfl rfl)
theorem dX3_text_46 : decode cX3_text 46 = .ok (.iconst 2, 1) := dk_5 (dk_at dksX3_text_1 22 rfl rfl)
theorem dX3_text_47 : decode cX3_text 47 = .ok (.if_icmp .ge 10, 3) := dk_162 0 10 (dk_at dksX3_text_2 0 rfl rfl)
theorem dX3_text_50 : decode cX3_text 50 = .ok (.aload_n 0, 1) := dk_42 (dk_at dksX3_text_2 3 rfl rfl)
theorem dX3_text_51 : decode cX3_text 51 = .ok (.invokevirtual 288, 3) := dk_182 1 32 (dk_at dksX3_text_2 4 rfl rfl)
theorem dX3_text_54 : decode cX3_text 54 = .ok (.goto 7, 3) := dk_167 0 7 (dk_at dksX3_text_2 7 rfl rfl)
theorem dX3_text_57 : decode cX3_text 57 = .ok (.aload_n 0, 1) := dk_42 (dk_at dksX3_text_2 10 rfl rfl)
theorem dX3_text_58 : decode cX3_text 58 = .ok (.invokevirtual 291, 3) := dk_182 1 35 (dk_at dksX3_text_2 11 rfl rfl)
theorem dX3_text_61 : decode cX3_text 61 = .ok (.istore_n 2, 1) := dk_61 (dk_at dksX3_text_2 14 rfl rfl)
theorem dX3_text_62 : decode cX3_text 62 = .ok (.aload_n 0, 1) := dk_42 (dk_at dksX3_text_2 15 rfl rfl)
theorem dX3_text_63 : decode cX3_text 63 = .ok (.iconst 0, 1) := dk_3 (dk_at dksX3_text_2 16 rfl rfl)
theorem dX3_text_64 : decode cX3_text 64 = .ok (.putfield 104, 3) := dk_181 0 104 (dk_at dksX3_text_2 17 rfl rfl)
theorem dX3_text_67 : decode cX3_text 67 = .ok (.iload_n 2, 1) := dk_28 (dk_at dksX3_text_2 20 rfl rfl)
theorem dX3_text_68 : decode cX3_text 68 = .ok (.ifCond .eq 33, 3) := dk_153 0 33 (dk_at dksX3_text_2 21 rfl rfl)
theorem dX3_text_71 : decode cX3_text 71 = .ok (.iload_n 1, 1) := dk_27 (dk_at dksX3_text_3 0 rfl rfl)
theorem dX3_text_72 : decode cX3_text 72 = .ok (.iconst 2, 1) := dk_5 (dk_at dksX3_text_3 1 rfl rfl)
theorem dX3_text_73 : decode cX3_text 73 = .ok (.if_icmp .ge 11, 3) := dk_162 0 11 (dk_at dksX3_text_3 2 rfl rfl)
theorem dX3_text_76 : decode cX3_text 76 = .ok (.aload_n 0, 1) := dk_42 (dk_at dksX3_text_3 5 rfl rfl)
theorem dX3_text_77 : decode cX3_text 77 = .ok (.iload_n 1, 1) := dk_27 (dk_at dksX3_text_3 6 rfl rfl)
theorem dX3_text_78 : decode cX3_text 78 = .ok (.invokevirtual 294, 3) := dk_182 1 38 (dk_at dksX3_text_3 7 rfl rfl)
theorem dX3_text_81 : decode cX3_text 81 = .ok (.goto 19, 3) := dk_167 0 19 (dk_at dksX3_text_3 10 rfl rfl)
theorem dX3_text_84 : decode cX3_text 84 = .ok (.iload_n 1, 1) := dk_27 (dk_at dksX3_text_3 13 rfl rfl)
theorem dX3_text_85 : decode cX3_text 85 = .ok (.iconst 2, 1) := dk_5 (dk_at dksX3_text_3 14 rfl rfl)
theorem dX3_text_86 : decode cX3_text 86 = .ok (.if_icmp .ne 10, 3) := dk_160 0 10 (dk_at dksX3_text_3 15 rfl rfl)
theorem dX3_text_89 : decode cX3_text 89 = .ok (.aload_n 0, 1) := dk_42 (dk_at dksX3_text_3 18 rfl rfl)
theorem dX3_text_90 : decode cX3_text 90 = .ok (.invokevirtual 297, 3) := dk_182 1 41 (dk_at dksX3_text_3 19 rfl rfl)
theorem dX3_text_93 : decode cX3_text 93 = .ok (.goto 7, 3) := dk_167 0 7 (dk_at dksX3_text_4 0 rfl rfl)
theorem dX3_text_96 : decode cX3_text 96 = .ok (.aload_n 0, 1) := dk_42 (dk_at dksX3_text_4 3 rfl rfl)
theorem dX3_text_97 : decode cX3_text 97 = .ok (.invokevirtual 300, 3) := dk_182 1 44 (dk_at dksX3_text_4 4 rfl rfl)
theorem dX3_text_100 : decode cX3_text 100 = .ok (.ireturn, 1) := dk_172 (dk_at dksX3_text_4 7 rfl rfl)
theorem dX3_text_101 : decode cX3_text 101 = .ok (.aload_n 0, 1) := dk_42 (dk_at dksX3_text_4 8 rfl rfl)
theorem dX3_text_102 : decode cX3_text 102 = .ok (.aload_n 0, 1) := dk_42 (dk_at dksX3_text_4 9 rfl rfl)
theorem dX3_text_103 : decode cX3_text 103 = .ok (.getfield 212, 3) := dk_180 0 212 (dk_at dksX3_text_4 10 rfl rfl)
theorem dX3_text_106 : decode cX3_text 106 = .ok (.putfield 285, 3) := dk_181 1 29 (dk_at dksX3_text_4 13 rfl rfl)
theorem dX3_text_109 : decode cX3_text 109 = .ok (.aload_n 0, 1) := dk_42 (dk_at dksX3_text_4 16 rfl rfl)
theorem dX3_text_110 : decode cX3_text 110 = .ok (.aload_n 0, 1) := dk_42 (dk_at dksX3_text_4 17 rfl rfl)
theorem dX3_text_111 : decode cX3_text 111 = .ok (.getfield 215, 3) := dk_180 0 215 (dk_at dksX3_text_4 18 rfl rfl)
theorem dX3_text_114 : decode cX3_text 114 = .ok (.putfield 40, 3) := dk_181 0 40 (dk_at dksX3_text_4 21 rfl rfl)
theorem dX3_text_117 : decode cX3_text 117 = .ok (.iconst (-1), 1) := dk_2 (dk_at dksX3_text_5 0 rfl rfl)
theorem dX3_text_118 : decode cX3_text 118 = .ok (.ireturn, 1) := dk_172 (dk_at dksX3_text_5 1 rfl rfl)
abbrev cX3_next0 : ByteArray := prog_14_method_31_code
def yX3_next0 : MethodName := ⟨RX3, "next0", "()V"⟩
def dkwX3_next0_13 : List UInt8 := [181, 0, 197, 177]
abbrev dktX3_next0_13 : List UInt8 := dkwX3_next0_13 ++ []
def dkwX3_next0_12 : List UInt8 := [16, 62, 160, 0, 7, 4, 167, 0, 4, 3, 61, 42, 28, 153, 0, 10, 16, 100, 27, 96, 167, 0, 4, 4]
abbrev dktX3_next0_12 : List UInt8 := dkwX3_next0_12 ++ dktX3_next0_13
def dkwX3_next0_11 : List UInt8 := [16, 40, 159, 0, 27, 27, 16, 41, 159, 0, 21, 27, 16, 60, 159, 0, 15, 27, 16, 61, 159, 0, 9, 27]
abbrev dktX3_next0_11 : List UInt8 := dkwX3_next0_11 ++ dktX3_next0_12
def dkwX3_next0_10 : List UInt8 := [16, 43, 159, 0, 51, 27, 16, 45, 159, 0, 45, 27, 16, 42, 159, 0, 39, 27, 16, 47, 159, 0, 33, 27]
abbrev dktX3_next0_10 : List UInt8 := dkwX3_next0_10 ++ dktX3_next0_11
def dkwX3_next0_9 : List UInt8 := [4, 181, 0, 197, 167, 0, 95, 42, 89, 180, 0, 107, 4, 96, 181, 0, 107, 27, 16, 59, 159, 0, 57, 27]
abbrev dktX3_next0_9 : List UInt8 := dkwX3_next0_9 ++ dktX3_next0_10
def dkwX3_next0_8 : List UInt8 := [181, 0, 107, 167, 255, 196, 42, 42, 180, 0, 107, 42, 180, 0, 110, 100, 8, 162, 0, 7, 5, 167, 0, 4]
abbrev dktX3_next0_8 : List UInt8 := dkwX3_next0_8 ++ dktX3_next0_9
def dkwX3_next0_7 : List UInt8 := [42, 42, 180, 0, 107, 182, 0, 194, 96, 16, 48, 100, 181, 0, 209, 42, 89, 180, 0, 107, 4, 96]
abbrev dktX3_next0_7 : List UInt8 := dkwX3_next0_7 ++ dktX3_next0_8
def dkwX3_next0_6 : List UInt8 := [153, 0, 52, 42, 180, 0, 107, 42, 180, 0, 110, 7, 96, 162, 0, 26, 42, 16, 10, 42, 180, 0, 209, 104]
abbrev dktX3_next0_6 : List UInt8 := dkwX3_next0_6 ++ dktX3_next0_7
def dkwX3_next0_5 : List UInt8 := [184, 0, 206, 153, 0, 96, 42, 3, 181, 0, 209, 42, 42, 180, 0, 107, 182, 0, 194, 184, 0, 206]
abbrev dktX3_next0_5 : List UInt8 := dkwX3_next0_5 ++ dktX3_next0_6
def dkwX3_next0_4 : List UInt8 := [180, 0, 107, 4, 96, 181, 0, 107, 167, 255, 232, 42, 42, 182, 0, 203, 181, 0, 197, 167, 0, 195, 27]
abbrev dktX3_next0_4 : List UInt8 := dkwX3_next0_4 ++ dktX3_next0_5
def dkwX3_next0_3 : List UInt8 := [184, 0, 200, 153, 0, 41, 42, 42, 180, 0, 107, 182, 0, 194, 184, 0, 200, 153, 0, 16, 42, 89]
abbrev dktX3_next0_3 : List UInt8 := dkwX3_next0_3 ++ dktX3_next0_4
def dkwX3_next0_2 : List UInt8 := [42, 42, 180, 0, 107, 182, 0, 194, 60, 27, 2, 160, 0, 11, 42, 3, 181, 0, 197, 167, 0, 240, 27]
abbrev dktX3_next0_2 : List UInt8 := dkwX3_next0_2 ++ dktX3_next0_3
def dkwX3_next0_1 : List UInt8 := [160, 0, 16, 42, 89, 180, 0, 107, 4, 96, 181, 0, 107, 167, 255, 220, 42, 42, 180, 0, 107, 181, 0, 110]
abbrev dktX3_next0_1 : List UInt8 := dkwX3_next0_1 ++ dktX3_next0_2
def dkwX3_next0_0 : List UInt8 := [42, 42, 180, 0, 107, 182, 0, 194, 16, 32, 159, 0, 16, 42, 42, 180, 0, 107, 182, 0, 194, 16, 10]
abbrev dktX3_next0_0 : List UInt8 := dkwX3_next0_0 ++ dktX3_next0_1
theorem dksX3_next0_0 : cX3_next0.data.toList.drop 0 = dktX3_next0_0 := by decide +kernel
theorem dksX3_next0_1 : cX3_next0.data.toList.drop 23 = dktX3_next0_1 := dk_seg dksX3_next0_0 23 rfl rfl
theorem dksX3_next0_2 : cX3_next0.data.toList.drop 47 = dktX3_next0_2 := dk_seg dksX3_next0_1 24 rfl rfl
theorem dksX3_next0_3 : cX3_next0.data.toList.drop 70 = dktX3_next0_3 := dk_seg dksX3_next0_2 23 rfl rfl
theorem dksX3_next0_4 : cX3_next0.data.toList.drop 92 = dktX3_next0_4 := dk_seg dksX3_next0_3 22 rfl rfl
theorem dksX3_next0_5 : cX3_next0.data.toList.drop 115 = dktX3_next0_5 := dk_seg dksX3_next0_4 23 rfl rfl
theorem dksX3_next0_6 : cX3_next0.data.toList.drop 137 = dktX3_next0_6 := dk_seg dksX3_next0_5 22 rfl rfl
theorem dksX3_next0_7 : cX3_next0.data.toList.drop 161 = dktX3_next0_7 := dk_seg dksX3_next0_6 24 rfl rfl
theorem dksX3_next0_8 : cX3_next0.data.toList.drop 183 = dktX3_next0_8 := dk_seg dksX3_next0_7 22 rfl rfl
theorem dksX3_next0_9 : cX3_next0.data.toList.drop 207 = dktX3_next0_9 := dk_seg dksX3_next0_8 24 rfl rfl
theorem dksX3_next0_10 : cX3_next0.data.toList.drop 231 = dktX3_next0_10 := dk_seg dksX3_next0_9 24 rfl rfl
theorem dksX3_next0_11 : cX3_next0.data.toList.drop 255 = dktX3_next0_11 := dk_seg dksX3_next0_10 24 rfl rfl
theorem dksX3_next0_12 : cX3_next0.data.toList.drop 279 = dktX3_next0_12 := dk_seg dksX3_next0_11 24 rfl rfl
theorem dksX3_next0_13 : cX3_next0.data.toList.drop 303 = dktX3_next0_13 := dk_seg dksX3_next0_12 24 rfl rfl
theorem dX3_next0_0 : decode cX3_next0 0 = .ok (.aload_n 0, 1) := dk_42 (dk_at dksX3_next0_0 0 rfl rfl)
theorem dX3_next0_1 : decode cX3_next0 1 = .ok (.aload_n 0, 1) := dk_42 (dk_at dksX3_next0_0 1 rfl rfl)
theorem dX3_next0_2 : decode cX3_next0 2 = .ok (.getfield 107, 3) := dk_180 0 107 (dk_at dksX3_next0_0 2 rfl rfl)
theorem dX3_next0_5 : decode cX3_next0 5 = .ok (.invokevirtual 194, 3) := dk_182 0 194 (dk_at dksX3_next0_0 5 rfl rfl)
theorem dX3_next0_8 : decode cX3_next0 8 = .ok (.bipush 32, 2) := dk_16 32 (dk_at dksX3_next0_0 8 rfl rfl)
theorem dX3_next0_10 : decode cX3_next0 10 = .ok (.if_icmp .eq 16, 3) := dk_159 0 16 (dk_at dksX3_next0_0 10 rfl rfl)
theorem dX3_next0_13 : decode cX3_next0 13 = .ok (.aload_n 0, 1) := dk_42 (dk_at dksX3_next0_0 13 rfl rfl)
theorem dX3_next0_14 : decode cX3_next0 14 = .ok (.aload_n 0, 1) := dk_42 (dk_at dksX3_next0_0 14 rfl rfl)
theorem dX3_next0_15 : decode cX3_next0 15 = .ok (.getfield 107, 3) := dk_180 0 107 (dk_at dksX3_next0_0 15 rfl rfl)
theorem dX3_next0_18 : decode cX3_next0 18 = .ok (.invokevirtual 194, 3) := dk_182 0 194 (dk_at dksX3_next0_0 18 rfl rfl)
theorem dX3_next0_21 : decode cX3_next0 21 = .ok (.bipush 10, 2) := dk_16 10 (dk_at dksX3_next0_0 21 rfl rfl)
theorem dX3_next0_23 : decode cX3_next0 23 = .ok (.if_icmp .ne 16, 3) := dk_160 0 16 (dk_at dksX3_next0_1 0 rfl rfl)
theorem dX3_next0_26 : decode cX3_next0 26 = .ok (.aload_n 0, 1) := dk_42 (dk_at dksX3_next0_1 3 rfl rfl)
theorem dX3_next0_27 : decode cX3_next0 27 = .ok (.dup, 1) := dk_89 (dk_at dksX3_next0_1 4 rfl rfl)
theorem dX3_next0_28 : decode cX3_next0 28 = .ok (.getfield 107, 3) := dk_180 0 107 (dk_at dksX3_next0_1 5 rfl rfl)
theorem dX3_next0_31 : decode cX3_next0 31 = .ok (.iconst 1, 1) := dk_4 (dk_at dksX3_next0_1 8 rfl rfl)
theorem dX3_next0_32 : decode cX3_next0 32 = .ok (.iadd, 1) := dk_96 (dk_at dksX3_next0_1 9 rfl rfl)
theorem dX3_next0_33 : decode cX3_next0 33 = .ok (.putfield 107, 3) := dk_181 0 107 (dk_at dksX3_next0_1 10 rfl rfl)
theorem dX3_next0_36 : decode cX3_next0 36 = .ok (.goto (-36), 3) := dk_167 255 220 (dk_at dksX3_next0_1 13 rfl rfl)
theorem dX3_next0_39 : decode cX3_next0 39 = .ok (.aload_n 0, 1) := dk_42 (dk_at dksX3_next0_1 16 rfl rfl)
theorem dX3_next0_40 : decode cX3_next0 40 = .ok (.aload_n 0, 1) := dk_42 (dk_at dksX3_next0_1 17 rfl rfl)
theorem dX3_next0_41 : decode cX3_next0 41 = .ok (.getfield 107, 3) := dk_180 0 107 (dk_at dksX3_next0_1 18 rfl rfl)
theorem dX3_next0_44 : decode cX3_next0 44 = .ok (.putfield 110, 3) := dk_181 0 110 (dk_at dksX3_next0_1 21 rfl rfl)
theorem dX3_next0_47 : decode cX3_next0 47 = .ok (.aload_n 0, 1) := dk_42 (dk_at dksX3_next0_2 0 rfl rfl)
theorem dX3_next0_48 : decode cX3_next0 48 = .ok (.aload_n 0, 1) := dk_42 (dk_at dksX3_next0_2 1 rfl rfl)
theorem dX3_next0_49 : decode cX3_next0 49 = .ok (.getfield 107, 3) := dk_180 0 107 (dk_at dksX3_next0_2 2 rfl rfl)
theorem dX3_next0_52 : decode cX3_next0 52 = .ok (.invokevirtual 194, 3) := dk_182 0 194 (dk_at dksX3_next0_2 5 rfl rfl)
theorem dX3_next0_55 : decode cX3_next0 55 = .ok (.istore_n 1, 1) := dk_60 (dk_at dksX3_next0_2 8 rfl rfl)
theorem dX3_next0_56 : decode cX3_next0 56 = .ok (.iload_n 1, 1) := dk_27 (dk_at dksX3_next0_2 9 rfl rfl)
theorem dX3_next0_57 : decode cX3_next0 57 = .ok (.iconst (-1), 1) := dk_2 (dk_at dksX3_next0_2 10 rfl rfl)
theorem dX3_next0_58 : decode cX3_next0 58 = .ok (.if_icmp .ne 11, 3) := dk_160 0 11 (dk_at dksX3_next0_2 11 rfl rfl)
theorem dX3_next0_61 : decode cX3_next0 61 = .ok (.aload_n 0, 1) := dk_42 (dk_at dksX3_next0_2 14 rfl rfl)
theorem dX3_next0_62 : decode cX3_next0 62 = .ok (.iconst 0, 1) := dk_3 (dk_at dksX3_next0_2 15 rfl rfl)
theorem dX3_next0_63 : decode cX3_next0 63 = .ok (.putfield 197, 3) := dk_181 0 197 (dk_at dksX3_next0_2 16 rfl rfl)
theorem dX3_next0_66 : decode cX3_next0 66 = .ok (.goto 240, 3) := dk_167 0 240 (dk_at dksX3_next0_2 19 rfl rfl)
theorem dX3_next0_69 : decode cX3_next0 69 = .ok (.iload_n 1, 1) := dk_27 (dk_at dksX3_next0_2 22 rfl rfl)
theorem dX3_next0_70 : decode cX3_next0 70 = .ok (.invokestatic 200, 3) := dk_184 0 200 (dk_at dksX3_next0_3 0 rfl rfl)
theorem dX3_next0_73 : decode cX3_next0 73 = .ok (.ifCond .eq 41, 3) := dk_153 0 41 (dk_at dksX3_next0_3 3 rfl rfl)
theorem dX3_next0_76 : decode cX3_next0 76 = .ok (.aload_n 0, 1) := dk_42 (dk_at dksX3_next0_3 6 rfl rfl)
theorem dX3_next0_77 : decode cX3_next0 77 = .ok (.aload_n 0, 1) := dk_42 (dk_at dksX3_next0_3 7 rfl rfl)
theorem dX3_next0_78 : decode cX3_next0 78 = .ok (.getfield 107, 3) := dk_180 0 107 (dk_at dksX3_next0_3 8 rfl rfl)
theorem dX3_next0_81 : decode cX3_next0 81 = .ok (.invokevirtual 194, 3) := dk_182 0 194 (dk_at dksX3_next0_3 11 rfl rfl)
theorem dX3_next0_84 : decode cX3_next0 84 = .ok (.invokestatic 200, 3) := dk_184 0 200 (dk_at dksX3_next0_3 14 rfl rfl)
theorem dX3_next0_87 : decode cX3_next0 87 = .ok (.ifCond .eq 16, 3) := dk_153 0 16 (dk_at dksX3_next0_3 17 rfl rfl)
theorem dX3_next0_90 : decode cX3_next0 90 = .ok (.aload_n 0, 1) := dk_42 (dk_at dksX3_next0_3 20 rfl rfl)
theorem dX3_next0_91 : decode cX3_next0 91 = .ok (.dup, 1) := dk_89 (dk_at dksX3_next0_3 21 rfl rfl)
theorem dX3_next0_92 : decode cX3_next0 92 = .ok (.getfield 107, 3) := dk_180 0 107 (dk_at dksX3_next0_4 0 rfl rfl)
theorem dX3_next0_95 : decode cX3_next0 95 = .ok (.iconst 1, 1) := dk_4 (dk_at dksX3_next0_4 3 rfl rfl)
theorem dX3_next0_96 : decode cX3_next0 96 = .ok (.iadd, 1) := dk_96 (dk_at dksX3_next0_4 4 rfl rfl)
theorem dX3_next0_97 : decode cX3_next0 97 = .ok (.putfield 107, 3) := dk_181 0 107 (dk_at dksX3_next0_4 5 rfl rfl)
theorem dX3_next0_100 : decode cX3_next0 100 = .ok (.goto (-24), 3) := dk_167 255 232 (dk_at dksX3_next0_4 8 rfl rfl)
theorem dX3_next0_103 : decode cX3_next0 103 = .ok (.aload_n 0, 1) := dk_42 (dk_at dksX3_next0_4 11 rfl rfl)
theorem dX3_next0_104 : decode cX3_next0 104 = .ok (.aload_n 0, 1) := dk_42 (dk_at dksX3_next0_4 12 rfl rfl)
theorem dX3_next0_105 : decode cX3_next0 105 = .ok (.invokevirtual 203, 3) := dk_182 0 203 (dk_at dksX3_next0_4 13 rfl rfl)
theorem dX3_next0_108 : decode cX3_next0 108 = .ok (.putfield 197, 3) := dk_181 0 197 (dk_at dksX3_next0_4 16 rfl rfl)
theorem dX3_next0_111 : decode cX3_next0 111 = .ok (.goto 195, 3) := dk_167 0 195 (dk_at dksX3_next0_4 19 rfl rfl)
theorem dX3_next0_114 : decode cX3_next0 114 = .ok (.iload_n 1, 1) := dk_27 (dk_at dksX3_next0_4 22 rfl rfl)
theorem dX3_next0_115 : decode cX3_next0 115 = .ok (.invokestatic 206, 3) := dk_184 0 206 (dk_at dksX3_next0_5 0 rfl rfl)
theorem dX3_next0_118 : decode cX3_next0 118 = .ok (.ifCond .eq 96, 3) := dk_153 0 96 (dk_at dksX3_next0_5 3 rfl rfl)
theorem dX3_next0_121 : decode cX3_next0 121 = .ok (.aload_n 0, 1) := dk_42 (dk_at dksX3_next0_5 6 rfl rfl)
theorem dX3_next0_122 : decode cX3_next0 122 = .ok (.iconst 0, 1) := dk_3 (dk_at dksX3_next0_5 7 rfl rfl)
theorem dX3_next0_123 : decode cX3_next0 123 = .ok (.putfield 209, 3) := dk_181 0 209 (dk_at dksX3_next0_5 8 rfl rfl)
theorem dX3_next0_126 : decode cX3_next0 126 = .ok (.aload_n 0, 1) := dk_42 (dk_at dksX3_next0_5 11 rfl rfl)
theorem dX3_next0_127 : decode cX3_next0 127 = .ok (.aload_n 0, 1) := dk_42 (dk_at dksX3_next0_5 12 rfl rfl)
theorem dX3_next0_128 : decode cX3_next0 128 = .ok (.getfield 107, 3) := dk_180 0 107 (dk_at dksX3_next0_5 13 rfl rfl)
theorem dX3_next0_131 : decode cX3_next0 131 = .ok (.invokevirtual 194, 3) := dk_182 0 194 (dk_at dksX3_next0_5 16 rfl rfl)
theorem dX3_next0_134 : decode cX3_next0 134 = .ok (.invokestatic 206, 3) := dk_184 0 206 (dk_at dksX3_next0_5 19 rfl rfl)
theorem dX3_next0_137 : decode cX3_next0 137 = .ok (.ifCond .eq 52, 3) := dk_153 0 52 (dk_at dksX3_next0_6 0 rfl rfl)
theorem dX3_next0_140 : decode cX3_next0 140 = .ok (.aload_n 0, 1) := dk_42 (dk_at dksX3_next0_6 3 rfl rfl)
theorem dX3_next0_141 : decode cX3_next0 141 = .ok (.getfield 107, 3) := dk_180 0 107 (dk_at dksX3_next0_6 4 rfl rfl)
theorem dX3_next0_144 : decode cX3_next0 144 = .ok (.aload_n 0, 1) := dk_42 (dk_at dksX3_next0_6 7 rfl rfl)
theorem dX3_next0_145 : decode cX3_next0 145 = .ok (.getfield 110, 3) := dk_180 0 110 (dk_at dksX3_next0_6 8 rfl rfl)
theorem dX3_next0_148 : decode cX3_next0 148 = .ok (.iconst 4, 1) := dk_7 (dk_at dksX3_next0_6 11 rfl rfl)
theorem dX3_next0_149 : decode cX3_next0 149 = .ok (.iadd, 1) := dk_96 (dk_at dksX3_next0_6 12 rfl rfl)
theorem dX3_next0_150 : decode cX3_next0 150 = .ok (.if_icmp .ge 26, 3) := dk_162 0 26 (dk_at dksX3_next0_6 13 rfl rfl)
theorem dX3_next0_153 : decode cX3_next0 153 = .ok (.aload_n 0, 1) := dk_42 (dk_at dksX3_next0_6 16 rfl rfl)
theorem dX3_next0_154 : decode cX3_next0 154 = .ok (.bipush 10, 2) := dk_16 10 (dk_at dksX3_next0_6 17 rfl rfl)
theorem dX3_next0_156 : decode cX3_next0 156 = .ok (.aload_n 0, 1) := dk_42 (dk_at dksX3_next0_6 19 rfl rfl)
theorem dX3_next0_157 : decode cX3_next0 157 = .ok (.getfield 209, 3) := dk_180 0 209 (dk_at dksX3_next0_6 20 rfl rfl)
theorem dX3_next0_160 : decode cX3_next0 160 = .ok (.imul, 1) := dk_104 (dk_at dksX3_next0_6 23 rfl rfl)
theorem dX3_next0_161 : decode cX3_next0 161 = .ok (.aload_n 0, 1) := dk_42 (dk_at dksX3_next0_7 0 rfl rfl)
theorem dX3_next0_162 : decode cX3_next0 162 = .ok (.aload_n 0, 1) := dk_42 (dk_at dksX3_next0_7 1 rfl rfl)
theorem dX3_next0_163 : decode cX3_next0 163 = .ok (.getfield 107, 3) := dk_180 0 107 (dk_at dksX3_next0_7 2 rfl rfl)
theorem dX3_next0_166 : decode cX3_next0 166 = .ok (.invokevirtual 194, 3) := dk_182 0 194 (dk_at dksX3_next0_7 5 rfl rfl)
theorem dX3_next0_169 : decode cX3_next0 169 = .ok (.iadd, 1) := dk_96 (dk_at dksX3_next0_7 8 rfl rfl)
theorem dX3_next0_170 : decode cX3_next0 170 = .ok (.bipush 48, 2) := dk_16 48 (dk_at dksX3_next0_7 9 rfl rfl)
theorem dX3_next0_172 : decode cX3_next0 172 = .ok (.isub, 1) := dk_100 (dk_at dksX3_next0_7 11 rfl rfl)
theorem dX3_next0_173 : decode cX3_next0 173 = .ok (.putfield 209, 3) := dk_181 0 209 (dk_at dksX3_next0_7 12 rfl rfl)
theorem dX3_next0_176 : decode cX3_next0 176 = .ok (.aload_n 0, 1) := dk_42 (dk_at dksX3_next0_7 15 rfl rfl)
theorem dX3_next0_177 : decode cX3_next0 177 = .ok (.dup, 1) := dk_89 (dk_at dksX3_next0_7 16 rfl rfl)
theorem dX3_next0_178 : decode cX3_next0 178 = .ok (.getfield 107, 3) := dk_180 0 107 (dk_at dksX3_next0_7 17 rfl rfl)
theorem dX3_next0_181 : decode cX3_next0 181 = .ok (.iconst 1, 1) := dk_4 (dk_at dksX3_next0_7 20 rfl rfl)
theorem dX3_next0_182 : decode cX3_next0 182 = .ok (.iadd, 1) := dk_96 (dk_at dksX3_next0_7 21 rfl rfl)
theorem dX3_next0_183 : decode cX3_next0 183 = .ok (.putfield 107, 3) := dk_181 0 107 (dk_at dksX3_next0_8 0 rfl rfl)
theorem dX3_next0_186 : decode cX3_next0 186 = .ok (.goto (-60), 3) := dk_167 255 196 (dk_at dksX3_next0_8 3 rfl rfl)
theorem dX3_next0_189 : decode cX3_next0 189 = .ok (.aload_n 0, 1) := dk_42 (dk_at dksX3_next0_8 6 rfl rfl)
theorem dX3_next0_190 : decode cX3_next0 190 = .ok (.aload_n 0, 1) := dk_42 (dk_at dksX3_next0_8 7 rfl rfl)
theorem dX3_next0_191 : decode cX3_next0 191 = .ok (.getfield 107, 3) := dk_180 0 107 (dk_at dksX3_next0_8 8 rfl rfl)
theorem dX3_next0_194 : decode cX3_next0 194 = .ok (.aload_n 0, 1) := dk_42 (dk_at dksX3_next0_8 11 rfl rfl)
theorem dX3_next0_195 : decode cX3_next0 195 = .ok (.getfield 110, 3) := dk_180 0 110 (dk_at dksX3_next0_8 12 rfl rfl)
theorem dX3_next0_198 : decode cX3_next0 198 = .ok (.isub, 1) := dk_100 (dk_at dksX3_next0_8 15 rfl rfl)
theorem dX3_next0_199 : decode cX3_next0 199 = .ok (.iconst 5, 1) := dk_8 (dk_at dksX3_next0_8 16 rfl rfl)
theorem dX3_next0_200 : decode cX3_next0 200 = .ok (.if_icmp .ge 7, 3) := dk_162 0 7 (dk_at dksX3_next0_8 17 rfl rfl)
theorem dX3_next0_203 : decode cX3_next0 203 = .ok (.iconst 2, 1) := dk_5 (dk_at dksX3_next0_8 20 rfl rfl)
theorem dX3_next0_204 : decode cX3_next0 204 = .ok (.goto 4, 3) := dk_167 0 4 (dk_at dksX3_next0_8 21 rfl rfl)
theorem dX3_next0_207 : decode cX3_next0 207 = .ok (.iconst 1, 1) := dk_4 (dk_at dksX3_next0_9 0 rfl rfl)
theorem dX3_next0_208 : decode cX3_next0 208 = .ok (.putfield 197, 3) := dk_181 0 197 (dk_at dksX3_next0_9 1 rfl rfl)
theorem dX3_next0_211 : decode cX3_next0 211 = .ok (.goto 95, 3) := dk_167 0 95 (dk_at dksX3_next0_9 4 rfl rfl)
theorem dX3_next0_214 : decode cX3_next0 214 = .ok (.aload_n 0, 1) := dk_42 (dk_at dksX3_next0_9 7 rfl rfl)
theorem dX3_next0_215 : decode cX3_next0 215 = .ok (.dup, 1) := dk_89 (dk_at dksX3_next0_9 8 rfl rfl)
theorem dX3_next0_216 : decode cX3_next0 216 = .ok (.getfield 107, 3) := dk_180 0 107 (dk_at dksX3_next0_9 9 rfl rfl)
theorem dX3_next0_219 : decode cX3_next0 219 = .ok (.iconst 1, 1) := dk_4 (dk_at dksX3_next0_9 12 rfl rfl)
theorem dX3_next0_220 : decode cX3_next0 220 = .ok (.iadd, 1) := dk_96 (dk_at dksX3_next0_9 13 rfl rfl)
theorem dX3_next0_221 : decode cX3_next0 221 = .ok (.putfield 107, 3) := dk_181 0 107 (dk_at dksX3_next0_9 14 rfl rfl)
theorem dX3_next0_224 : decode cX3_next0 224 = .ok (.iload_n 1, 1) := dk_27 (dk_at dksX3_next0_9 17 rfl rfl)
theorem dX3_next0_225 : decode cX3_next0 225 = .ok (.bipush 59, 2) := dk_16 59 (dk_at dksX3_next0_9 18 rfl rfl)
theorem dX3_next0_227 : decode cX3_next0 227 = .ok (.if_icmp .eq 57, 3) := dk_159 0 57 (dk_at dksX3_next0_9 20 rfl rfl)
theorem dX3_next0_230 : decode cX3_next0 230 = .ok (.iload_n 1, 1) := dk_27 (dk_at dksX3_next0_9 23 rfl rfl)
theorem dX3_next0_231 : decode cX3_next0 231 = .ok (.bipush 43, 2) := dk_16 43 (dk_at dksX3_next0_10 0 rfl rfl)
theorem dX3_next0_233 : decode cX3_next0 233 = .ok (.if_icmp .eq 51, 3) := dk_159 0 51 (dk_at dksX3_next0_10 2 rfl rfl)
theorem dX3_next0_236 : decode cX3_next0 236 = .ok (.iload_n 1, 1) := dk_27 (dk_at dksX3_next0_10 5 rfl rfl)
theorem dX3_next0_237 : decode cX3_next0 237 = .ok (.bipush 45, 2) := dk_16 45 (dk_at dksX3_next0_10 6 rfl rfl)
theorem dX3_next0_239 : decode cX3_next0 239 = .ok (.if_icmp .eq 45, 3) := dk_159 0 45 (dk_at dksX3_next0_10 8 rfl rfl)
theorem dX3_next0_242 : decode cX3_next0 242 = .ok (.iload_n 1, 1) := dk_27 (dk_at dksX3_next0_10 11 rfl rfl)
theorem dX3_next0_243 : decode cX3_next0 243 = .ok (.bipush 42, 2) := dk_16 42 (dk_at dksX3_next0_10 12 rfl rfl)
theorem dX3_next0_245 : decode cX3_next0 245 = .ok (.if_icmp .eq 39, 3) := dk_159 0 39 (dk_at dksX3_next0_10 14 rfl rfl)
theorem dX3_next0_248 : decode cX3_next0 248 = .ok (.iload_n 1, 1) := dk_27 (dk_at dksX3_next0_10 17 rfl rfl)
theorem dX3_next0_249 : decode cX3_next0 249 = .ok (.bipush 47, 2) := dk_16 47 (dk_at dksX3_next0_10 18 rfl rfl)
theorem dX3_next0_251 : decode cX3_next0 251 = .ok (.if_icmp .eq 33, 3) := dk_159 0 33 (dk_at dksX3_next0_10 20 rfl rfl)
theorem dX3_next0_254 : decode cX3_next0 254 = .ok (.iload_n 1, 1) := dk_27 (dk_at dksX3_next0_10 23 rfl rfl)
theorem dX3_next0_255 : decode cX3_next0 255 = .ok (.bipush 40, 2) := dk_16 40 (dk_at dksX3_next0_11 0 rfl rfl)
theorem dX3_next0_257 : decode cX3_next0 257 = .ok (.if_icmp .eq 27, 3) := dk_159 0 27 (dk_at dksX3_next0_11 2 rfl rfl)
theorem dX3_next0_260 : decode cX3_next0 260 = .ok (.iload_n 1, 1) := dk_27 (dk_at dksX3_next0_11 5 rfl rfl)
theorem dX3_next0_261 : decode cX3_next0 261 = .ok (.bipush 41, 2) := dk_16 41 (dk_at dksX3_next0_11 6 rfl rfl)
theorem dX3_next0_263 : decode cX3_next0 263 = .ok (.if_icmp .eq 21, 3) := dk_159 0 21 (dk_at dksX3_next0_11 8 rfl rfl)
theorem dX3_next0_266 : decode cX3_next0 266 = .ok (.iload_n 1, 1) := dk_27 (dk_at dksX3_next0_11 11 rfl rfl)
theorem dX3_next0_267 : decode cX3_next0 267 = .ok (.bipush 60, 2) := dk_16 60 (dk_at dksX3_next0_11 12 rfl rfl)
theorem dX3_next0_269 : decode cX3_next0 269 = .ok (.if_icmp .eq 15, 3) := dk_159 0 15 (dk_at dksX3_next0_11 14 rfl rfl)
theorem dX3_next0_272 : decode cX3_next0 272 = .ok (.iload_n 1, 1) := dk_27 (dk_at dksX3_next0_11 17 rfl rfl)
theorem dX3_next0_273 : decode cX3_next0 273 = .ok (.bipush 61, 2) := dk_16 61 (dk_at dksX3_next0_11 18 rfl rfl)
theorem dX3_next0_275 : decode cX3_next0 275 = .ok (.if_icmp .eq 9, 3) := dk_159 0 9 (dk_at dksX3_next0_11 20 rfl rfl)
theorem dX3_next0_278 : decode cX3_next0 278 = .ok (.iload_n 1, 1) := dk_27 (dk_at dksX3_next0_11 23 rfl rfl)
theorem dX3_next0_279 : decode cX3_next0 279 = .ok (.bipush 62, 2) := dk_16 62 (dk_at dksX3_next0_12 0 rfl rfl)
theorem dX3_next0_281 : decode cX3_next0 281 = .ok (.if_icmp .ne 7, 3) := dk_160 0 7 (dk_at dksX3_next0_12 2 rfl rfl)
theorem dX3_next0_284 : decode cX3_next0 284 = .ok (.iconst 1, 1) := dk_4 (dk_at dksX3_next0_12 5 rfl rfl)
theorem dX3_next0_285 : decode cX3_next0 285 = .ok (.goto 4, 3) := dk_167 0 4 (dk_at dksX3_next0_12 6 rfl rfl)
theorem dX3_next0_288 : decode cX3_next0 288 = .ok (.iconst 0, 1) := dk_3 (dk_at dksX3_next0_12 9 rfl rfl)
theorem dX3_next0_289 : decode cX3_next0 289 = .ok (.istore_n 2, 1) := dk_61 (dk_at dksX3_next0_12 10 rfl rfl)
theorem dX3_next0_290 : decode cX3_next0 290 = .ok (.aload_n 0, 1) := dk_42 (dk_at dksX3_next0_12 11 rfl rfl)
theorem dX3_next0_291 : decode cX3_next0 291 = .ok (.iload_n 2, 1) := dk_28 (dk_at dksX3_next0_12 12 rfl rfl)
theorem dX3_next0_292 : decode cX3_next0 292 = .ok (.ifCond .eq 10, 3) := dk_153 0 10 (dk_at dksX3_next0_12 13 rfl rfl)
theorem dX3_next0_295 : decode cX3_next0 295 = .ok (.bipush 100, 2) := dk_16 100 (dk_at dksX3_next0_12 16 rfl rfl)
theorem dX3_next0_297 : decode cX3_next0 297 = .ok (.iload_n 1, 1) := dk_27 (dk_at dksX3_next0_12 18 rfl rfl)
theorem dX3_next0_298 : decode cX3_next0 298 = .ok (.iadd, 1) := dk_96 (dk_at dksX3_next0_12 19 rfl rfl)
theorem dX3_next0_299 : decode cX3_next0 299 = .ok (.goto 4, 3) := dk_167 0 4 (dk_at dksX3_next0_12 20 rfl rfl)
theorem dX3_next0_302 : decode cX3_next0 302 = .ok (.iconst 1, 1) := dk_4 (dk_at dksX3_next0_12 23 rfl rfl)
theorem dX3_next0_303 : decode cX3_next0 303 = .ok (.putfield 197, 3) := dk_181 0 197 (dk_at dksX3_next0_13 0 rfl rfl)
theorem dX3_next0_306 : decode cX3_next0 306 = .ok (.return_, 1) := dk_177 (dk_at dksX3_next0_13 3 rfl rfl)
abbrev cX3_see : ByteArray := prog_14_method_22_code
def yX3_see : MethodName := ⟨RX3, "see", "(I)I"⟩
def dkwX3_see_0 : List UInt8 := [27, 42, 180, 0, 104, 162, 0, 12, 42, 180, 0, 31, 27, 46, 167, 0, 4, 2, 172]
abbrev dktX3_see_0 : List UInt8 := dkwX3_see_0 ++ []
theorem dksX3_see_0 : cX3_see.data.toList.drop 0 = dktX3_see_0 := by decide +kernel
theorem dX3_see_0 : decode cX3_see 0 = .ok (.iload_n 1, 1) := dk_27 (dk_at dksX3_see_0 0 rfl rfl)
theorem dX3_see_1 : decode cX3_see 1 = .ok (.aload_n 0, 1) := dk_42 (dk_at dksX3_see_0 1 rfl rfl)
theorem dX3_see_2 : decode cX3_see 2 = .ok (.getfield 104, 3) := dk_180 0 104 (dk_at dksX3_see_0 2 rfl rfl)
theorem dX3_see_5 : decode cX3_see 5 = .ok (.if_icmp .ge 12, 3) := dk_162 0 12 (dk_at dksX3_see_0 5 rfl rfl)
theorem dX3_see_8 : decode cX3_see 8 = .ok (.aload_n 0, 1) := dk_42 (dk_at dksX3_see_0 8 rfl rfl)
theorem dX3_see_9 : decode cX3_see 9 = .ok (.getfield 31, 3) := dk_180 0 31 (dk_at dksX3_see_0 9 rfl rfl)
theorem dX3_see_12 : decode cX3_see 12 = .ok (.iload_n 1, 1) := dk_27 (dk_at dksX3_see_0 12 rfl rfl)
theorem dX3_see_13 : decode cX3_see 13 = .ok (.iaload, 1) := dk_46 (dk_at dksX3_see_0 13 rfl rfl)
theorem dX3_see_14 : decode cX3_see 14 = .ok (.goto 4, 3) := dk_167 0 4 (dk_at dksX3_see_0 14 rfl rfl)
theorem dX3_see_17 : decode cX3_see 17 = .ok (.iconst (-1), 1) := dk_2 (dk_at dksX3_see_0 17 rfl rfl)
theorem dX3_see_18 : decode cX3_see 18 = .ok (.ireturn, 1) := dk_172 (dk_at dksX3_see_0 18 rfl rfl)
abbrev cX3_isLetter : ByteArray := prog_14_method_23_code
def yX3_isLetter : MethodName := ⟨RX3, "isLetter", "(I)Z"⟩
def dkwX3_isLetter_1 : List UInt8 := [167, 0, 4, 3, 172]
abbrev dktX3_isLetter_1 : List UInt8 := dkwX3_isLetter_1 ++ []
def dkwX3_isLetter_0 : List UInt8 := [26, 16, 97, 16, 122, 184, 0, 77, 154, 0, 14, 26, 16, 65, 16, 90, 184, 0, 77, 153, 0, 7, 4]
abbrev dktX3_isLetter_0 : List UInt8 := dkwX3_isLetter_0 ++ dktX3_isLetter_1
theorem dksX3_isLetter_0 : cX3_isLetter.data.toList.drop 0 = dktX3_isLetter_0 := by decide +kernel
theorem dksX3_isLetter_1 : cX3_isLetter.data.toList.drop 23 = dktX3_isLetter_1 := dk_seg dksX3_isLetter_0 23 rfl rfl
theorem dX3_isLetter_0 : decode cX3_isLetter 0 = .ok (.iload_n 0, 1) := dk_26 (dk_at dksX3_isLetter_0 0 rfl rfl)
theorem dX3_isLetter_1 : decode cX3_isLetter 1 = .ok (.bipush 97, 2) := dk_16 97 (dk_at dksX3_isLetter_0 1 rfl rfl)
theorem dX3_isLetter_3 : decode cX3_isLetter 3 = .ok (.bipush 122, 2) := dk_16 122 (dk_at dksX3_isLetter_0 3 rfl rfl)
theorem dX3_isLetter_5 : decode cX3_isLetter 5 = .ok (.invokestatic 77, 3) := dk_184 0 77 (dk_at dksX3_isLetter_0 5 rfl rfl)
theorem dX3_isLetter_8 : decode cX3_isLetter 8 = .ok (.ifCond .ne 14, 3) := dk_154 0 14 (dk_at dksX3_isLetter_0 8 rfl rfl)
theorem dX3_isLetter_11 : decode cX3_isLetter 11 = .ok (.iload_n 0, 1) := dk_26 (dk_at dksX3_isLetter_0 11 rfl rfl)
theorem dX3_isLetter_12 : decode cX3_isLetter 12 = .ok (.bipush 65, 2) := dk_16 65 (dk_at dksX3_isLetter_0 12 rfl rfl)
theorem dX3_isLetter_14 : decode cX3_isLetter 14 = .ok (.bipush 90, 2) := dk_16 90 (dk_at dksX3_isLetter_0 14 rfl rfl)
theorem dX3_isLetter_16 : decode cX3_isLetter 16 = .ok (.invokestatic 77, 3) := dk_184 0 77 (dk_at dksX3_isLetter_0 16 rfl rfl)
theorem dX3_isLetter_19 : decode cX3_isLetter 19 = .ok (.ifCond .eq 7, 3) := dk_153 0 7 (dk_at dksX3_isLetter_0 19 rfl rfl)
theorem dX3_isLetter_22 : decode cX3_isLetter 22 = .ok (.iconst 1, 1) := dk_4 (dk_at dksX3_isLetter_0 22 rfl rfl)
theorem dX3_isLetter_23 : decode cX3_isLetter 23 = .ok (.goto 4, 3) := dk_167 0 4 (dk_at dksX3_isLetter_1 0 rfl rfl)
theorem dX3_isLetter_26 : decode cX3_isLetter 26 = .ok (.iconst 0, 1) := dk_3 (dk_at dksX3_isLetter_1 3 rfl rfl)
theorem dX3_isLetter_27 : decode cX3_isLetter 27 = .ok (.ireturn, 1) := dk_172 (dk_at dksX3_isLetter_1 4 rfl rfl)
abbrev cX3_word : ByteArray := prog_14_method_30_code
def yX3_word : MethodName := ⟨RX3, "word", "()I"⟩
def dkwX3_word_1 : List UInt8 := [182, 0, 188, 167, 0, 7, 42, 182, 0, 191, 172]
abbrev dktX3_word_1 : List UInt8 := dkwX3_word_1 ++ []
def dkwX3_word_0 : List UInt8 := [42, 180, 0, 155, 5, 162, 0, 10, 42, 182, 0, 185, 167, 0, 22, 42, 180, 0, 155, 5, 160, 0, 10, 42]
abbrev dktX3_word_0 : List UInt8 := dkwX3_word_0 ++ dktX3_word_1
theorem dksX3_word_0 : cX3_word.data.toList.drop 0 = dktX3_word_0 := by decide +kernel
theorem dksX3_word_1 : cX3_word.data.toList.drop 24 = dktX3_word_1 := dk_seg dksX3_word_0 24 rfl rfl
theorem dX3_word_0 : decode cX3_word 0 = .ok (.aload_n 0, 1) := dk_42 (dk_at dksX3_word_0 0 rfl rfl)
theorem dX3_word_1 : decode cX3_word 1 = .ok (.getfield 155, 3) := dk_180 0 155 (dk_at dksX3_word_0 1 rfl rfl)
theorem dX3_word_4 : decode cX3_word 4 = .ok (.iconst 2, 1) := dk_5 (dk_at dksX3_word_0 4 rfl rfl)
theorem dX3_word_5 : decode cX3_word 5 = .ok (.if_icmp .ge 10, 3) := dk_162 0 10 (dk_at dksX3_word_0 5 rfl rfl)
theorem dX3_word_8 : decode cX3_word 8 = .ok (.aload_n 0, 1) := dk_42 (dk_at dksX3_word_0 8 rfl rfl)
theorem dX3_word_9 : decode cX3_word 9 = .ok (.invokevirtual 185, 3) := dk_182 0 185 (dk_at dksX3_word_0 9 rfl rfl)
theorem dX3_word_12 : decode cX3_word 12 = .ok (.goto 22, 3) := dk_167 0 22 (dk_at dksX3_word_0 12 rfl rfl)
theorem dX3_word_15 : decode cX3_word 15 = .ok (.aload_n 0, 1) := dk_42 (dk_at dksX3_word_0 15 rfl rfl)
theorem dX3_word_16 : decode cX3_word 16 = .ok (.getfield 155, 3) := dk_180 0 155 (dk_at dksX3_word_0 16 rfl rfl)
theorem dX3_word_19 : decode cX3_word 19 = .ok (.iconst 2, 1) := dk_5 (dk_at dksX3_word_0 19 rfl rfl)
theorem dX3_word_20 : decode cX3_word 20 = .ok (.if_icmp .ne 10, 3) := dk_160 0 10 (dk_at dksX3_word_0 20 rfl rfl)
theorem dX3_word_23 : decode cX3_word 23 = .ok (.aload_n 0, 1) := dk_42 (dk_at dksX3_word_0 23 rfl rfl)
theorem dX3_word_24 : decode cX3_word 24 = .ok (.invokevirtual 188, 3) := dk_182 0 188 (dk_at dksX3_word_1 0 rfl rfl)
theorem dX3_word_27 : decode cX3_word 27 = .ok (.goto 7, 3) := dk_167 0 7 (dk_at dksX3_word_1 3 rfl rfl)
theorem dX3_word_30 : decode cX3_word 30 = .ok (.aload_n 0, 1) := dk_42 (dk_at dksX3_word_1 6 rfl rfl)
theorem dX3_word_31 : decode cX3_word 31 = .ok (.invokevirtual 191, 3) := dk_182 0 191 (dk_at dksX3_word_1 7 rfl rfl)
theorem dX3_word_34 : decode cX3_word 34 = .ok (.ireturn, 1) := dk_172 (dk_at dksX3_word_1 10 rfl rfl)
abbrev cX3_lawWord : ByteArray := prog_14_method_27_code
def yX3_lawWord : MethodName := ⟨RX3, "lawWord", "()I"⟩
def dkwX3_lawWord_6 : List UInt8 := [153, 0, 8, 16, 24, 167, 0, 7, 42, 182, 0, 168, 172]
abbrev dktX3_lawWord_6 : List UInt8 := dkwX3_lawWord_6 ++ []
def dkwX3_lawWord_5 : List UInt8 := [182, 0, 125, 153, 0, 6, 16, 23, 172, 42, 180, 0, 155, 4, 160, 0, 17, 42, 18, 166, 182, 0, 125]
abbrev dktX3_lawWord_5 : List UInt8 := dkwX3_lawWord_5 ++ dktX3_lawWord_6
def dkwX3_lawWord_4 : List UInt8 := [18, 162, 182, 0, 125, 153, 0, 6, 16, 22, 172, 42, 180, 0, 155, 4, 160, 0, 15, 42, 18, 164]
abbrev dktX3_lawWord_4 : List UInt8 := dkwX3_lawWord_4 ++ dktX3_lawWord_5
def dkwX3_lawWord_3 : List UInt8 := [154, 0, 15, 42, 18, 160, 182, 0, 125, 153, 0, 6, 16, 21, 172, 42, 180, 0, 155, 4, 160, 0, 15, 42]
abbrev dktX3_lawWord_3 : List UInt8 := dkwX3_lawWord_3 ++ dktX3_lawWord_4
def dkwX3_lawWord_2 : List UInt8 := [180, 0, 155, 154, 0, 15, 42, 18, 158, 182, 0, 125, 153, 0, 6, 16, 20, 172, 42, 180, 0, 155]
abbrev dktX3_lawWord_2 : List UInt8 := dkwX3_lawWord_2 ++ dktX3_lawWord_3
def dkwX3_lawWord_1 : List UInt8 := [18, 151, 182, 0, 125, 153, 0, 5, 8, 172, 42, 18, 153, 182, 0, 125, 153, 0, 6, 16, 6, 172, 42]
abbrev dktX3_lawWord_1 : List UInt8 := dkwX3_lawWord_1 ++ dktX3_lawWord_2
def dkwX3_lawWord_0 : List UInt8 := [42, 18, 147, 182, 0, 125, 153, 0, 5, 6, 172, 42, 18, 149, 182, 0, 125, 153, 0, 5, 7, 172, 42]
abbrev dktX3_lawWord_0 : List UInt8 := dkwX3_lawWord_0 ++ dktX3_lawWord_1
theorem dksX3_lawWord_0 : cX3_lawWord.data.toList.drop 0 = dktX3_lawWord_0 := by decide +kernel
theorem dksX3_lawWord_1 : cX3_lawWord.data.toList.drop 23 = dktX3_lawWord_1 := dk_seg dksX3_lawWord_0 23 rfl rfl
theorem dksX3_lawWord_2 : cX3_lawWord.data.toList.drop 46 = dktX3_lawWord_2 := dk_seg dksX3_lawWord_1 23 rfl rfl
theorem dksX3_lawWord_3 : cX3_lawWord.data.toList.drop 68 = dktX3_lawWord_3 := dk_seg dksX3_lawWord_2 22 rfl rfl
theorem dksX3_lawWord_4 : cX3_lawWord.data.toList.drop 92 = dktX3_lawWord_4 := dk_seg dksX3_lawWord_3 24 rfl rfl
theorem dksX3_lawWord_5 : cX3_lawWord.data.toList.drop 114 = dktX3_lawWord_5 := dk_seg dksX3_lawWord_4 22 rfl rfl
theorem dksX3_lawWord_6 : cX3_lawWord.data.toList.drop 137 = dktX3_lawWord_6 := dk_seg dksX3_lawWord_5 23 rfl rfl
theorem dX3_lawWord_0 : decode cX3_lawWord 0 = .ok (.aload_n 0, 1) := dk_42 (dk_at dksX3_lawWord_0 0 rfl rfl)
theorem dX3_lawWord_1 : decode cX3_lawWord 1 = .ok (.ldc 147, 2) := dk_18 147 (dk_at dksX3_lawWord_0 1 rfl rfl)
theorem dX3_lawWord_3 : decode cX3_lawWord 3 = .ok (.invokevirtual 125, 3) := dk_182 0 125 (dk_at dksX3_lawWord_0 3 rfl rfl)
theorem dX3_lawWord_6 : decode cX3_lawWord 6 = .ok (.ifCond .eq 5, 3) := dk_153 0 5 (dk_at dksX3_lawWord_0 6 rfl rfl)
theorem dX3_lawWord_9 : decode cX3_lawWord 9 = .ok (.iconst 3, 1) := dk_6 (dk_at dksX3_lawWord_0 9 rfl rfl)
theorem dX3_lawWord_10 : decode cX3_lawWord 10 = .ok (.ireturn, 1) := dk_172 (dk_at dksX3_lawWord_0 10 rfl rfl)
theorem dX3_lawWord_11 : decode cX3_lawWord 11 = .ok (.aload_n 0, 1) := dk_42 (dk_at dksX3_lawWord_0 11 rfl rfl)
theorem dX3_lawWord_12 : decode cX3_lawWord 12 = .ok (.ldc 149, 2) := dk_18 149 (dk_at dksX3_lawWord_0 12 rfl rfl)
theorem dX3_lawWord_14 : decode cX3_lawWord 14 = .ok (.invokevirtual 125, 3) := dk_182 0 125 (dk_at dksX3_lawWord_0 14 rfl rfl)
theorem dX3_lawWord_17 : decode cX3_lawWord 17 = .ok (.ifCond .eq 5, 3) := dk_153 0 5 (dk_at dksX3_lawWord_0 17 rfl rfl)
theorem dX3_lawWord_20 : decode cX3_lawWord 20 = .ok (.iconst 4, 1) := dk_7 (dk_at dksX3_lawWord_0 20 rfl rfl)
theorem dX3_lawWord_21 : decode cX3_lawWord 21 = .ok (.ireturn, 1) := dk_172 (dk_at dksX3_lawWord_0 21 rfl rfl)
theorem dX3_lawWord_22 : decode cX3_lawWord 22 = .ok (.aload_n 0, 1) := dk_42 (dk_at dksX3_lawWord_0 22 rfl rfl)
theorem dX3_lawWord_23 : decode cX3_lawWord 23 = .ok (.ldc 151, 2) := dk_18 151 (dk_at dksX3_lawWord_1 0 rfl rfl)
theorem dX3_lawWord_25 : decode cX3_lawWord 25 = .ok (.invokevirtual 125, 3) := dk_182 0 125 (dk_at dksX3_lawWord_1 2 rfl rfl)
theorem dX3_lawWord_28 : decode cX3_lawWord 28 = .ok (.ifCond .eq 5, 3) := dk_153 0 5 (dk_at dksX3_lawWord_1 5 rfl rfl)
theorem dX3_lawWord_31 : decode cX3_lawWord 31 = .ok (.iconst 5, 1) := dk_8 (dk_at dksX3_lawWord_1 8 rfl rfl)
theorem dX3_lawWord_32 : decode cX3_lawWord 32 = .ok (.ireturn, 1) := dk_172 (dk_at dksX3_lawWord_1 9 rfl rfl)
theorem dX3_lawWord_33 : decode cX3_lawWord 33 = .ok (.aload_n 0, 1) := dk_42 (dk_at dksX3_lawWord_1 10 rfl rfl)
theorem dX3_lawWord_34 : decode cX3_lawWord 34 = .ok (.ldc 153, 2) := dk_18 153 (dk_at dksX3_lawWord_1 11 rfl rfl)
theorem dX3_lawWord_36 : decode cX3_lawWord 36 = .ok (.invokevirtual 125, 3) := dk_182 0 125 (dk_at dksX3_lawWord_1 13 rfl rfl)
theorem dX3_lawWord_39 : decode cX3_lawWord 39 = .ok (.ifCond .eq 6, 3) := dk_153 0 6 (dk_at dksX3_lawWord_1 16 rfl rfl)
theorem dX3_lawWord_42 : decode cX3_lawWord 42 = .ok (.bipush 6, 2) := dk_16 6 (dk_at dksX3_lawWord_1 19 rfl rfl)
theorem dX3_lawWord_44 : decode cX3_lawWord 44 = .ok (.ireturn, 1) := dk_172 (dk_at dksX3_lawWord_1 21 rfl rfl)
theorem dX3_lawWord_45 : decode cX3_lawWord 45 = .ok (.aload_n 0, 1) := dk_42 (dk_at dksX3_lawWord_1 22 rfl rfl)
theorem dX3_lawWord_46 : decode cX3_lawWord 46 = .ok (.getfield 155, 3) := dk_180 0 155 (dk_at dksX3_lawWord_2 0 rfl rfl)
theorem dX3_lawWord_49 : decode cX3_lawWord 49 = .ok (.ifCond .ne 15, 3) := dk_154 0 15 (dk_at dksX3_lawWord_2 3 rfl rfl)
theorem dX3_lawWord_52 : decode cX3_lawWord 52 = .ok (.aload_n 0, 1) := dk_42 (dk_at dksX3_lawWord_2 6 rfl rfl)
theorem dX3_lawWord_53 : decode cX3_lawWord 53 = .ok (.ldc 158, 2) := dk_18 158 (dk_at dksX3_lawWord_2 7 rfl rfl)
theorem dX3_lawWord_55 : decode cX3_lawWord 55 = .ok (.invokevirtual 125, 3) := dk_182 0 125 (dk_at dksX3_lawWord_2 9 rfl rfl)
theorem dX3_lawWord_58 : decode cX3_lawWord 58 = .ok (.ifCond .eq 6, 3) := dk_153 0 6 (dk_at dksX3_lawWord_2 12 rfl rfl)
theorem dX3_lawWord_61 : decode cX3_lawWord 61 = .ok (.bipush 20, 2) := dk_16 20 (dk_at dksX3_lawWord_2 15 rfl rfl)
theorem dX3_lawWord_63 : decode cX3_lawWord 63 = .ok (.ireturn, 1) := dk_172 (dk_at dksX3_lawWord_2 17 rfl rfl)
theorem dX3_lawWord_64 : decode cX3_lawWord 64 = .ok (.aload_n 0, 1) := dk_42 (dk_at dksX3_lawWord_2 18 rfl rfl)
theorem dX3_lawWord_65 : decode cX3_lawWord 65 = .ok (.getfield 155, 3) := dk_180 0 155 (dk_at dksX3_lawWord_2 19 rfl rfl)
theorem dX3_lawWord_68 : decode cX3_lawWord 68 = .ok (.ifCond .ne 15, 3) := dk_154 0 15 (dk_at dksX3_lawWord_3 0 rfl rfl)
theorem dX3_lawWord_71 : decode cX3_lawWord 71 = .ok (.aload_n 0, 1) := dk_42 (dk_at dksX3_lawWord_3 3 rfl rfl)
theorem dX3_lawWord_72 : decode cX3_lawWord 72 = .ok (.ldc 160, 2) := dk_18 160 (dk_at dksX3_lawWord_3 4 rfl rfl)
theorem dX3_lawWord_74 : decode cX3_lawWord 74 = .ok (.invokevirtual 125, 3) := dk_182 0 125 (dk_at dksX3_lawWord_3 6 rfl rfl)
theorem dX3_lawWord_77 : decode cX3_lawWord 77 = .ok (.ifCond .eq 6, 3) := dk_153 0 6 (dk_at dksX3_lawWord_3 9 rfl rfl)
theorem dX3_lawWord_80 : decode cX3_lawWord 80 = .ok (.bipush 21, 2) := dk_16 21 (dk_at dksX3_lawWord_3 12 rfl rfl)
theorem dX3_lawWord_82 : decode cX3_lawWord 82 = .ok (.ireturn, 1) := dk_172 (dk_at dksX3_lawWord_3 14 rfl rfl)
theorem dX3_lawWord_83 : decode cX3_lawWord 83 = .ok (.aload_n 0, 1) := dk_42 (dk_at dksX3_lawWord_3 15 rfl rfl)
theorem dX3_lawWord_84 : decode cX3_lawWord 84 = .ok (.getfield 155, 3) := dk_180 0 155 (dk_at dksX3_lawWord_3 16 rfl rfl)
theorem dX3_lawWord_87 : decode cX3_lawWord 87 = .ok (.iconst 1, 1) := dk_4 (dk_at dksX3_lawWord_3 19 rfl rfl)
theorem dX3_lawWord_88 : decode cX3_lawWord 88 = .ok (.if_icmp .ne 15, 3) := dk_160 0 15 (dk_at dksX3_lawWord_3 20 rfl rfl)
theorem dX3_lawWord_91 : decode cX3_lawWord 91 = .ok (.aload_n 0, 1) := dk_42 (dk_at dksX3_lawWord_3 23 rfl rfl)
theorem dX3_lawWord_92 : decode cX3_lawWord 92 = .ok (.ldc 162, 2) := dk_18 162 (dk_at dksX3_lawWord_4 0 rfl rfl)
theorem dX3_lawWord_94 : decode cX3_lawWord 94 = .ok (.invokevirtual 125, 3) := dk_182 0 125 (dk_at dksX3_lawWord_4 2 rfl rfl)
theorem dX3_lawWord_97 : decode cX3_lawWord 97 = .ok (.ifCond .eq 6, 3) := dk_153 0 6 (dk_at dksX3_lawWord_4 5 rfl rfl)
theorem dX3_lawWord_100 : decode cX3_lawWord 100 = .ok (.bipush 22, 2) := dk_16 22 (dk_at dksX3_lawWord_4 8 rfl rfl)
theorem dX3_lawWord_102 : decode cX3_lawWord 102 = .ok (.ireturn, 1) := dk_172 (dk_at dksX3_lawWord_4 10 rfl rfl)
theorem dX3_lawWord_103 : decode cX3_lawWord 103 = .ok (.aload_n 0, 1) := dk_42 (dk_at dksX3_lawWord_4 11 rfl rfl)
theorem dX3_lawWord_104 : decode cX3_lawWord 104 = .ok (.getfield 155, 3) := dk_180 0 155 (dk_at dksX3_lawWord_4 12 rfl rfl)
theorem dX3_lawWord_107 : decode cX3_lawWord 107 = .ok (.iconst 1, 1) := dk_4 (dk_at dksX3_lawWord_4 15 rfl rfl)
theorem dX3_lawWord_108 : decode cX3_lawWord 108 = .ok (.if_icmp .ne 15, 3) := dk_160 0 15 (dk_at dksX3_lawWord_4 16 rfl rfl)
theorem dX3_lawWord_111 : decode cX3_lawWord 111 = .ok (.aload_n 0, 1) := dk_42 (dk_at dksX3_lawWord_4 19 rfl rfl)
theorem dX3_lawWord_112 : decode cX3_lawWord 112 = .ok (.ldc 164, 2) := dk_18 164 (dk_at dksX3_lawWord_4 20 rfl rfl)
theorem dX3_lawWord_114 : decode cX3_lawWord 114 = .ok (.invokevirtual 125, 3) := dk_182 0 125 (dk_at dksX3_lawWord_5 0 rfl rfl)
theorem dX3_lawWord_117 : decode cX3_lawWord 117 = .ok (.ifCond .eq 6, 3) := dk_153 0 6 (dk_at dksX3_lawWord_5 3 rfl rfl)
theorem dX3_lawWord_120 : decode cX3_lawWord 120 = .ok (.bipush 23, 2) := dk_16 23 (dk_at dksX3_lawWord_5 6 rfl rfl)
theorem dX3_lawWord_122 : decode cX3_lawWord 122 = .ok (.ireturn, 1) := dk_172 (dk_at dksX3_lawWord_5 8 rfl rfl)
theorem dX3_lawWord_123 : decode cX3_lawWord 123 = .ok (.aload_n 0, 1) := dk_42 (dk_at dksX3_lawWord_5 9 rfl rfl)
theorem dX3_lawWord_124 : decode cX3_lawWord 124 = .ok (.getfield 155, 3) := dk_180 0 155 (dk_at dksX3_lawWord_5 10 rfl rfl)
theorem dX3_lawWord_127 : decode cX3_lawWord 127 = .ok (.iconst 1, 1) := dk_4 (dk_at dksX3_lawWord_5 13 rfl rfl)
theorem dX3_lawWord_128 : decode cX3_lawWord 128 = .ok (.if_icmp .ne 17, 3) := dk_160 0 17 (dk_at dksX3_lawWord_5 14 rfl rfl)
theorem dX3_lawWord_131 : decode cX3_lawWord 131 = .ok (.aload_n 0, 1) := dk_42 (dk_at dksX3_lawWord_5 17 rfl rfl)
theorem dX3_lawWord_132 : decode cX3_lawWord 132 = .ok (.ldc 166, 2) := dk_18 166 (dk_at dksX3_lawWord_5 18 rfl rfl)
theorem dX3_lawWord_134 : decode cX3_lawWord 134 = .ok (.invokevirtual 125, 3) := dk_182 0 125 (dk_at dksX3_lawWord_5 20 rfl rfl)
theorem dX3_lawWord_137 : decode cX3_lawWord 137 = .ok (.ifCond .eq 8, 3) := dk_153 0 8 (dk_at dksX3_lawWord_6 0 rfl rfl)
theorem dX3_lawWord_140 : decode cX3_lawWord 140 = .ok (.bipush 24, 2) := dk_16 24 (dk_at dksX3_lawWord_6 3 rfl rfl)
theorem dX3_lawWord_142 : decode cX3_lawWord 142 = .ok (.goto 7, 3) := dk_167 0 7 (dk_at dksX3_lawWord_6 5 rfl rfl)
theorem dX3_lawWord_145 : decode cX3_lawWord 145 = .ok (.aload_n 0, 1) := dk_42 (dk_at dksX3_lawWord_6 8 rfl rfl)
theorem dX3_lawWord_146 : decode cX3_lawWord 146 = .ok (.invokevirtual 168, 3) := dk_182 0 168 (dk_at dksX3_lawWord_6 9 rfl rfl)
theorem dX3_lawWord_149 : decode cX3_lawWord 149 = .ok (.ireturn, 1) := dk_172 (dk_at dksX3_lawWord_6 12 rfl rfl)
abbrev cX3_is : ByteArray := prog_14_method_25_code
def yX3_is : MethodName := ⟨RX3, "is", "(Ljava/lang/String;)Z"⟩
def dkwX3_is_2 : List UInt8 := [29, 182, 0, 119, 160, 0, 7, 4, 167, 0, 4, 3, 61, 132, 3, 1, 167, 255, 216, 28, 172]
abbrev dktX3_is_2 : List UInt8 := dkwX3_is_2 ++ []
def dkwX3_is_1 : List UInt8 := [29, 43, 182, 0, 113, 162, 0, 38, 28, 153, 0, 34, 42, 180, 0, 31, 42, 180, 0, 110, 29, 96, 46, 43]
abbrev dktX3_is_1 : List UInt8 := dkwX3_is_1 ++ dktX3_is_2
def dkwX3_is_0 : List UInt8 := [42, 180, 0, 107, 42, 180, 0, 110, 100, 43, 182, 0, 113, 160, 0, 7, 4, 167, 0, 4, 3, 61, 3, 62]
abbrev dktX3_is_0 : List UInt8 := dkwX3_is_0 ++ dktX3_is_1
theorem dksX3_is_0 : cX3_is.data.toList.drop 0 = dktX3_is_0 := by decide +kernel
theorem dksX3_is_1 : cX3_is.data.toList.drop 24 = dktX3_is_1 := dk_seg dksX3_is_0 24 rfl rfl
theorem dksX3_is_2 : cX3_is.data.toList.drop 48 = dktX3_is_2 := dk_seg dksX3_is_1 24 rfl rfl
theorem dX3_is_0 : decode cX3_is 0 = .ok (.aload_n 0, 1) := dk_42 (dk_at dksX3_is_0 0 rfl rfl)
theorem dX3_is_1 : decode cX3_is 1 = .ok (.getfield 107, 3) := dk_180 0 107 (dk_at dksX3_is_0 1 rfl rfl)
theorem dX3_is_4 : decode cX3_is 4 = .ok (.aload_n 0, 1) := dk_42 (dk_at dksX3_is_0 4 rfl rfl)
theorem dX3_is_5 : decode cX3_is 5 = .ok (.getfield 110, 3) := dk_180 0 110 (dk_at dksX3_is_0 5 rfl rfl)
theorem dX3_is_8 : decode cX3_is 8 = .ok (.isub, 1) := dk_100 (dk_at dksX3_is_0 8 rfl rfl)
theorem dX3_is_9 : decode cX3_is 9 = .ok (.aload_n 1, 1) := dk_43 (dk_at dksX3_is_0 9 rfl rfl)
theorem dX3_is_10 : decode cX3_is 10 = .ok (.invokevirtual 113, 3) := dk_182 0 113 (dk_at dksX3_is_0 10 rfl rfl)
theorem dX3_is_13 : decode cX3_is 13 = .ok (.if_icmp .ne 7, 3) := dk_160 0 7 (dk_at dksX3_is_0 13 rfl rfl)
theorem dX3_is_16 : decode cX3_is 16 = .ok (.iconst 1, 1) := dk_4 (dk_at dksX3_is_0 16 rfl rfl)
theorem dX3_is_17 : decode cX3_is 17 = .ok (.goto 4, 3) := dk_167 0 4 (dk_at dksX3_is_0 17 rfl rfl)
theorem dX3_is_20 : decode cX3_is 20 = .ok (.iconst 0, 1) := dk_3 (dk_at dksX3_is_0 20 rfl rfl)
theorem dX3_is_21 : decode cX3_is 21 = .ok (.istore_n 2, 1) := dk_61 (dk_at dksX3_is_0 21 rfl rfl)
theorem dX3_is_22 : decode cX3_is 22 = .ok (.iconst 0, 1) := dk_3 (dk_at dksX3_is_0 22 rfl rfl)
theorem dX3_is_23 : decode cX3_is 23 = .ok (.istore_n 3, 1) := dk_62 (dk_at dksX3_is_0 23 rfl rfl)
theorem dX3_is_24 : decode cX3_is 24 = .ok (.iload_n 3, 1) := dk_29 (dk_at dksX3_is_1 0 rfl rfl)
theorem dX3_is_25 : decode cX3_is 25 = .ok (.aload_n 1, 1) := dk_43 (dk_at dksX3_is_1 1 rfl rfl)
theorem dX3_is_26 : decode cX3_is 26 = .ok (.invokevirtual 113, 3) := dk_182 0 113 (dk_at dksX3_is_1 2 rfl rfl)
theorem dX3_is_29 : decode cX3_is 29 = .ok (.if_icmp .ge 38, 3) := dk_162 0 38 (dk_at dksX3_is_1 5 rfl rfl)
theorem dX3_is_32 : decode cX3_is 32 = .ok (.iload_n 2, 1) := dk_28 (dk_at dksX3_is_1 8 rfl rfl)
theorem dX3_is_33 : decode cX3_is 33 = .ok (.ifCond .eq 34, 3) := dk_153 0 34 (dk_at dksX3_is_1 9 rfl rfl)
theorem dX3_is_36 : decode cX3_is 36 = .ok (.aload_n 0, 1) := dk_42 (dk_at dksX3_is_1 12 rfl rfl)
theorem dX3_is_37 : decode cX3_is 37 = .ok (.getfield 31, 3) := dk_180 0 31 (dk_at dksX3_is_1 13 rfl rfl)
theorem dX3_is_40 : decode cX3_is 40 = .ok (.aload_n 0, 1) := dk_42 (dk_at dksX3_is_1 16 rfl rfl)
theorem dX3_is_41 : decode cX3_is 41 = .ok (.getfield 110, 3) := dk_180 0 110 (dk_at dksX3_is_1 17 rfl rfl)
theorem dX3_is_44 : decode cX3_is 44 = .ok (.iload_n 3, 1) := dk_29 (dk_at dksX3_is_1 20 rfl rfl)
theorem dX3_is_45 : decode cX3_is 45 = .ok (.iadd, 1) := dk_96 (dk_at dksX3_is_1 21 rfl rfl)
theorem dX3_is_46 : decode cX3_is 46 = .ok (.iaload, 1) := dk_46 (dk_at dksX3_is_1 22 rfl rfl)
theorem dX3_is_47 : decode cX3_is 47 = .ok (.aload_n 1, 1) := dk_43 (dk_at dksX3_is_1 23 rfl rfl)
theorem dX3_is_48 : decode cX3_is 48 = .ok (.iload_n 3, 1) := dk_29 (dk_at dksX3_is_2 0 rfl rfl)
theorem dX3_is_49 : decode cX3_is 49 = .ok (.invokevirtual 119, 3) := dk_182 0 119 (dk_at dksX3_is_2 1 rfl rfl)
theorem dX3_is_52 : decode cX3_is 52 = .ok (.if_icmp .ne 7, 3) := dk_160 0 7 (dk_at dksX3_is_2 4 rfl rfl)
theorem dX3_is_55 : decode cX3_is 55 = .ok (.iconst 1, 1) := dk_4 (dk_at dksX3_is_2 7 rfl rfl)
theorem dX3_is_56 : decode cX3_is 56 = .ok (.goto 4, 3) := dk_167 0 4 (dk_at dksX3_is_2 8 rfl rfl)
theorem dX3_is_59 : decode cX3_is 59 = .ok (.iconst 0, 1) := dk_3 (dk_at dksX3_is_2 11 rfl rfl)
theorem dX3_is_60 : decode cX3_is 60 = .ok (.istore_n 2, 1) := dk_61 (dk_at dksX3_is_2 12 rfl rfl)
theorem dX3_is_61 : decode cX3_is 61 = .ok (.iinc 3 1, 3) := dk_132 3 1 (dk_at dksX3_is_2 13 rfl rfl)
theorem dX3_is_64 : decode cX3_is 64 = .ok (.goto (-40), 3) := dk_167 255 216 (dk_at dksX3_is_2 16 rfl rfl)
theorem dX3_is_67 : decode cX3_is 67 = .ok (.iload_n 2, 1) := dk_28 (dk_at dksX3_is_2 19 rfl rfl)
theorem dX3_is_68 : decode cX3_is 68 = .ok (.ireturn, 1) := dk_172 (dk_at dksX3_is_2 20 rfl rfl)
abbrev cX3_asked : ByteArray := prog_14_method_26_code
def yX3_asked : MethodName := ⟨RX3, "asked", "()I"⟩
def dkwX3_asked_5 : List UInt8 := [167, 0, 4, 4, 172]
abbrev dktX3_asked_5 : List UInt8 := dkwX3_asked_5 ++ []
def dkwX3_asked_4 : List UInt8 := [42, 18, 143, 182, 0, 125, 153, 0, 6, 16, 49, 172, 42, 18, 145, 182, 0, 125, 153, 0, 8, 16, 50]
abbrev dktX3_asked_4 : List UInt8 := dkwX3_asked_4 ++ dktX3_asked_5
def dkwX3_asked_3 : List UInt8 := [42, 18, 139, 182, 0, 125, 153, 0, 6, 16, 47, 172, 42, 18, 141, 182, 0, 125, 153, 0, 6, 16, 48, 172]
abbrev dktX3_asked_3 : List UInt8 := dkwX3_asked_3 ++ dktX3_asked_4
def dkwX3_asked_2 : List UInt8 := [42, 18, 135, 182, 0, 125, 153, 0, 6, 16, 45, 172, 42, 18, 137, 182, 0, 125, 153, 0, 6, 16, 46, 172]
abbrev dktX3_asked_2 : List UInt8 := dkwX3_asked_2 ++ dktX3_asked_3
def dkwX3_asked_1 : List UInt8 := [42, 18, 131, 182, 0, 125, 153, 0, 6, 16, 43, 172, 42, 18, 133, 182, 0, 125, 153, 0, 6, 16, 44, 172]
abbrev dktX3_asked_1 : List UInt8 := dkwX3_asked_1 ++ dktX3_asked_2
def dkwX3_asked_0 : List UInt8 := [42, 18, 123, 182, 0, 125, 153, 0, 6, 16, 41, 172, 42, 18, 129, 182, 0, 125, 153, 0, 6, 16, 42, 172]
abbrev dktX3_asked_0 : List UInt8 := dkwX3_asked_0 ++ dktX3_asked_1
theorem dksX3_asked_0 : cX3_asked.data.toList.drop 0 = dktX3_asked_0 := by decide +kernel
theorem dksX3_asked_1 : cX3_asked.data.toList.drop 24 = dktX3_asked_1 := dk_seg dksX3_asked_0 24 rfl rfl
theorem dksX3_asked_2 : cX3_asked.data.toList.drop 48 = dktX3_asked_2 := dk_seg dksX3_asked_1 24 rfl rfl
theorem dksX3_asked_3 : cX3_asked.data.toList.drop 72 = dktX3_asked_3 := dk_seg dksX3_asked_2 24 rfl rfl
theorem dksX3_asked_4 : cX3_asked.data.toList.drop 96 = dktX3_asked_4 := dk_seg dksX3_asked_3 24 rfl rfl
theorem dksX3_asked_5 : cX3_asked.data.toList.drop 119 = dktX3_asked_5 := dk_seg dksX3_asked_4 23 rfl rfl
theorem dX3_asked_0 : decode cX3_asked 0 = .ok (.aload_n 0, 1) := dk_42 (dk_at dksX3_asked_0 0 rfl rfl)
theorem dX3_asked_1 : decode cX3_asked 1 = .ok (.ldc 123, 2) := dk_18 123 (dk_at dksX3_asked_0 1 rfl rfl)
theorem dX3_asked_3 : decode cX3_asked 3 = .ok (.invokevirtual 125, 3) := dk_182 0 125 (dk_at dksX3_asked_0 3 rfl rfl)
theorem dX3_asked_6 : decode cX3_asked 6 = .ok (.ifCond .eq 6, 3) := dk_153 0 6 (dk_at dksX3_asked_0 6 rfl rfl)
theorem dX3_asked_9 : decode cX3_asked 9 = .ok (.bipush 41, 2) := dk_16 41 (dk_at dksX3_asked_0 9 rfl rfl)
theorem dX3_asked_11 : decode cX3_asked 11 = .ok (.ireturn, 1) := dk_172 (dk_at dksX3_asked_0 11 rfl rfl)
theorem dX3_asked_12 : decode cX3_asked 12 = .ok (.aload_n 0, 1) := dk_42 (dk_at dksX3_asked_0 12 rfl rfl)
theorem dX3_asked_13 : decode cX3_asked 13 = .ok (.ldc 129, 2) := dk_18 129 (dk_at dksX3_asked_0 13 rfl rfl)
theorem dX3_asked_15 : decode cX3_asked 15 = .ok (.invokevirtual 125, 3) := dk_182 0 125 (dk_at dksX3_asked_0 15 rfl rfl)
theorem dX3_asked_18 : decode cX3_asked 18 = .ok (.ifCond .eq 6, 3) := dk_153 0 6 (dk_at dksX3_asked_0 18 rfl rfl)
theorem dX3_asked_21 : decode cX3_asked 21 = .ok (.bipush 42, 2) := dk_16 42 (dk_at dksX3_asked_0 21 rfl rfl)
theorem dX3_asked_23 : decode cX3_asked 23 = .ok (.ireturn, 1) := dk_172 (dk_at dksX3_asked_0 23 rfl rfl)
theorem dX3_asked_24 : decode cX3_asked 24 = .ok (.aload_n 0, 1) := dk_42 (dk_at dksX3_asked_1 0 rfl rfl)
theorem dX3_asked_25 : decode cX3_asked 25 = .ok (.ldc 131, 2) := dk_18 131 (dk_at dksX3_asked_1 1 rfl rfl)
theorem dX3_asked_27 : decode cX3_asked 27 = .ok (.invokevirtual 125, 3) := dk_182 0 125 (dk_at dksX3_asked_1 3 rfl rfl)
theorem dX3_asked_30 : decode cX3_asked 30 = .ok (.ifCond .eq 6, 3) := dk_153 0 6 (dk_at dksX3_asked_1 6 rfl rfl)
theorem dX3_asked_33 : decode cX3_asked 33 = .ok (.bipush 43, 2) := dk_16 43 (dk_at dksX3_asked_1 9 rfl rfl)
theorem dX3_asked_35 : decode cX3_asked 35 = .ok (.ireturn, 1) := dk_172 (dk_at dksX3_asked_1 11 rfl rfl)
theorem dX3_asked_36 : decode cX3_asked 36 = .ok (.aload_n 0, 1) := dk_42 (dk_at dksX3_asked_1 12 rfl rfl)
theorem dX3_asked_37 : decode cX3_asked 37 = .ok (.ldc 133, 2) := dk_18 133 (dk_at dksX3_asked_1 13 rfl rfl)
theorem dX3_asked_39 : decode cX3_asked 39 = .ok (.invokevirtual 125, 3) := dk_182 0 125 (dk_at dksX3_asked_1 15 rfl rfl)
theorem dX3_asked_42 : decode cX3_asked 42 = .ok (.ifCond .eq 6, 3) := dk_153 0 6 (dk_at dksX3_asked_1 18 rfl rfl)
theorem dX3_asked_45 : decode cX3_asked 45 = .ok (.bipush 44, 2) := dk_16 44 (dk_at dksX3_asked_1 21 rfl rfl)
theorem dX3_asked_47 : decode cX3_asked 47 = .ok (.ireturn, 1) := dk_172 (dk_at dksX3_asked_1 23 rfl rfl)
theorem dX3_asked_48 : decode cX3_asked 48 = .ok (.aload_n 0, 1) := dk_42 (dk_at dksX3_asked_2 0 rfl rfl)
theorem dX3_asked_49 : decode cX3_asked 49 = .ok (.ldc 135, 2) := dk_18 135 (dk_at dksX3_asked_2 1 rfl rfl)
theorem dX3_asked_51 : decode cX3_asked 51 = .ok (.invokevirtual 125, 3) := dk_182 0 125 (dk_at dksX3_asked_2 3 rfl rfl)
theorem dX3_asked_54 : decode cX3_asked 54 = .ok (.ifCond .eq 6, 3) := dk_153 0 6 (dk_at dksX3_asked_2 6 rfl rfl)
theorem dX3_asked_57 : decode cX3_asked 57 = .ok (.bipush 45, 2) := dk_16 45 (dk_at dksX3_asked_2 9 rfl rfl)
theorem dX3_asked_59 : decode cX3_asked 59 = .ok (.ireturn, 1) := dk_172 (dk_at dksX3_asked_2 11 rfl rfl)
theorem dX3_asked_60 : decode cX3_asked 60 = .ok (.aload_n 0, 1) := dk_42 (dk_at dksX3_asked_2 12 rfl rfl)
theorem dX3_asked_61 : decode cX3_asked 61 = .ok (.ldc 137, 2) := dk_18 137 (dk_at dksX3_asked_2 13 rfl rfl)
theorem dX3_asked_63 : decode cX3_asked 63 = .ok (.invokevirtual 125, 3) := dk_182 0 125 (dk_at dksX3_asked_2 15 rfl rfl)
theorem dX3_asked_66 : decode cX3_asked 66 = .ok (.ifCond .eq 6, 3) := dk_153 0 6 (dk_at dksX3_asked_2 18 rfl rfl)
theorem dX3_asked_69 : decode cX3_asked 69 = .ok (.bipush 46, 2) := dk_16 46 (dk_at dksX3_asked_2 21 rfl rfl)
theorem dX3_asked_71 : decode cX3_asked 71 = .ok (.ireturn, 1) := dk_172 (dk_at dksX3_asked_2 23 rfl rfl)
theorem dX3_asked_72 : decode cX3_asked 72 = .ok (.aload_n 0, 1) := dk_42 (dk_at dksX3_asked_3 0 rfl rfl)
theorem dX3_asked_73 : decode cX3_asked 73 = .ok (.ldc 139, 2) := dk_18 139 (dk_at dksX3_asked_3 1 rfl rfl)
theorem dX3_asked_75 : decode cX3_asked 75 = .ok (.invokevirtual 125, 3) := dk_182 0 125 (dk_at dksX3_asked_3 3 rfl rfl)
theorem dX3_asked_78 : decode cX3_asked 78 = .ok (.ifCond .eq 6, 3) := dk_153 0 6 (dk_at dksX3_asked_3 6 rfl rfl)
theorem dX3_asked_81 : decode cX3_asked 81 = .ok (.bipush 47, 2) := dk_16 47 (dk_at dksX3_asked_3 9 rfl rfl)
theorem dX3_asked_83 : decode cX3_asked 83 = .ok (.ireturn, 1) := dk_172 (dk_at dksX3_asked_3 11 rfl rfl)
theorem dX3_asked_84 : decode cX3_asked 84 = .ok (.aload_n 0, 1) := dk_42 (dk_at dksX3_asked_3 12 rfl rfl)
theorem dX3_asked_85 : decode cX3_asked 85 = .ok (.ldc 141, 2) := dk_18 141 (dk_at dksX3_asked_3 13 rfl rfl)
theorem dX3_asked_87 : decode cX3_asked 87 = .ok (.invokevirtual 125, 3) := dk_182 0 125 (dk_at dksX3_asked_3 15 rfl rfl)
theorem dX3_asked_90 : decode cX3_asked 90 = .ok (.ifCond .eq 6, 3) := dk_153 0 6 (dk_at dksX3_asked_3 18 rfl rfl)
theorem dX3_asked_93 : decode cX3_asked 93 = .ok (.bipush 48, 2) := dk_16 48 (dk_at dksX3_asked_3 21 rfl rfl)
theorem dX3_asked_95 : decode cX3_asked 95 = .ok (.ireturn, 1) := dk_172 (dk_at dksX3_asked_3 23 rfl rfl)
theorem dX3_asked_96 : decode cX3_asked 96 = .ok (.aload_n 0, 1) := dk_42 (dk_at dksX3_asked_4 0 rfl rfl)
theorem dX3_asked_97 : decode cX3_asked 97 = .ok (.ldc 143, 2) := dk_18 143 (dk_at dksX3_asked_4 1 rfl rfl)
theorem dX3_asked_99 : decode cX3_asked 99 = .ok (.invokevirtual 125, 3) := dk_182 0 125 (dk_at dksX3_asked_4 3 rfl rfl)
theorem dX3_asked_102 : decode cX3_asked 102 = .ok (.ifCond .eq 6, 3) := dk_153 0 6 (dk_at dksX3_asked_4 6 rfl rfl)
theorem dX3_asked_105 : decode cX3_asked 105 = .ok (.bipush 49, 2) := dk_16 49 (dk_at dksX3_asked_4 9 rfl rfl)
theorem dX3_asked_107 : decode cX3_asked 107 = .ok (.ireturn, 1) := dk_172 (dk_at dksX3_asked_4 11 rfl rfl)
theorem dX3_asked_108 : decode cX3_asked 108 = .ok (.aload_n 0, 1) := dk_42 (dk_at dksX3_asked_4 12 rfl rfl)
theorem dX3_asked_109 : decode cX3_asked 109 = .ok (.ldc 145, 2) := dk_18 145 (dk_at dksX3_asked_4 13 rfl rfl)
theorem dX3_asked_111 : decode cX3_asked 111 = .ok (.invokevirtual 125, 3) := dk_182 0 125 (dk_at dksX3_asked_4 15 rfl rfl)
theorem dX3_asked_114 : decode cX3_asked 114 = .ok (.ifCond .eq 8, 3) := dk_153 0 8 (dk_at dksX3_asked_4 18 rfl rfl)
theorem dX3_asked_117 : decode cX3_asked 117 = .ok (.bipush 50, 2) := dk_16 50 (dk_at dksX3_asked_4 21 rfl rfl)
theorem dX3_asked_119 : decode cX3_asked 119 = .ok (.goto 4, 3) := dk_167 0 4 (dk_at dksX3_asked_5 0 rfl rfl)
theorem dX3_asked_122 : decode cX3_asked 122 = .ok (.iconst 1, 1) := dk_4 (dk_at dksX3_asked_5 3 rfl rfl)
theorem dX3_asked_123 : decode cX3_asked 123 = .ok (.ireturn, 1) := dk_172 (dk_at dksX3_asked_5 4 rfl rfl)
abbrev cX3_hullWord : ByteArray := prog_14_method_28_code
def yX3_hullWord : MethodName := ⟨RX3, "hullWord", "()I"⟩
def dkwX3_hullWord_1 : List UInt8 := [42, 18, 175, 182, 0, 125, 153, 0, 8, 16, 9, 167, 0, 4, 4, 172]
abbrev dktX3_hullWord_1 : List UInt8 := dkwX3_hullWord_1 ++ []
def dkwX3_hullWord_0 : List UInt8 := [42, 18, 171, 182, 0, 125, 153, 0, 6, 16, 7, 172, 42, 18, 173, 182, 0, 125, 153, 0, 6, 16, 8, 172]
abbrev dktX3_hullWord_0 : List UInt8 := dkwX3_hullWord_0 ++ dktX3_hullWord_1
theorem dksX3_hullWord_0 : cX3_hullWord.data.toList.drop 0 = dktX3_hullWord_0 := by decide +kernel
theorem dksX3_hullWord_1 : cX3_hullWord.data.toList.drop 24 = dktX3_hullWord_1 := dk_seg dksX3_hullWord_0 24 rfl rfl
theorem dX3_hullWord_0 : decode cX3_hullWord 0 = .ok (.aload_n 0, 1) := dk_42 (dk_at dksX3_hullWord_0 0 rfl rfl)
theorem dX3_hullWord_1 : decode cX3_hullWord 1 = .ok (.ldc 171, 2) := dk_18 171 (dk_at dksX3_hullWord_0 1 rfl rfl)
theorem dX3_hullWord_3 : decode cX3_hullWord 3 = .ok (.invokevirtual 125, 3) := dk_182 0 125 (dk_at dksX3_hullWord_0 3 rfl rfl)
theorem dX3_hullWord_6 : decode cX3_hullWord 6 = .ok (.ifCond .eq 6, 3) := dk_153 0 6 (dk_at dksX3_hullWord_0 6 rfl rfl)
theorem dX3_hullWord_9 : decode cX3_hullWord 9 = .ok (.bipush 7, 2) := dk_16 7 (dk_at dksX3_hullWord_0 9 rfl rfl)
theorem dX3_hullWord_11 : decode cX3_hullWord 11 = .ok (.ireturn, 1) := dk_172 (dk_at dksX3_hullWord_0 11 rfl rfl)
theorem dX3_hullWord_12 : decode cX3_hullWord 12 = .ok (.aload_n 0, 1) := dk_42 (dk_at dksX3_hullWord_0 12 rfl rfl)
theorem dX3_hullWord_13 : decode cX3_hullWord 13 = .ok (.ldc 173, 2) := dk_18 173 (dk_at dksX3_hullWord_0 13 rfl rfl)
theorem dX3_hullWord_15 : decode cX3_hullWord 15 = .ok (.invokevirtual 125, 3) := dk_182 0 125 (dk_at dksX3_hullWord_0 15 rfl rfl)
theorem dX3_hullWord_18 : decode cX3_hullWord 18 = .ok (.ifCond .eq 6, 3) := dk_153 0 6 (dk_at dksX3_hullWord_0 18 rfl rfl)
theorem dX3_hullWord_21 : decode cX3_hullWord 21 = .ok (.bipush 8, 2) := dk_16 8 (dk_at dksX3_hullWord_0 21 rfl rfl)
theorem dX3_hullWord_23 : decode cX3_hullWord 23 = .ok (.ireturn, 1) := dk_172 (dk_at dksX3_hullWord_0 23 rfl rfl)
theorem dX3_hullWord_24 : decode cX3_hullWord 24 = .ok (.aload_n 0, 1) := dk_42 (dk_at dksX3_hullWord_1 0 rfl rfl)
theorem dX3_hullWord_25 : decode cX3_hullWord 25 = .ok (.ldc 175, 2) := dk_18 175 (dk_at dksX3_hullWord_1 1 rfl rfl)
theorem dX3_hullWord_27 : decode cX3_hullWord 27 = .ok (.invokevirtual 125, 3) := dk_182 0 125 (dk_at dksX3_hullWord_1 3 rfl rfl)
theorem dX3_hullWord_30 : decode cX3_hullWord 30 = .ok (.ifCond .eq 8, 3) := dk_153 0 8 (dk_at dksX3_hullWord_1 6 rfl rfl)
theorem dX3_hullWord_33 : decode cX3_hullWord 33 = .ok (.bipush 9, 2) := dk_16 9 (dk_at dksX3_hullWord_1 9 rfl rfl)
theorem dX3_hullWord_35 : decode cX3_hullWord 35 = .ok (.goto 4, 3) := dk_167 0 4 (dk_at dksX3_hullWord_1 11 rfl rfl)
theorem dX3_hullWord_38 : decode cX3_hullWord 38 = .ok (.iconst 1, 1) := dk_4 (dk_at dksX3_hullWord_1 14 rfl rfl)
theorem dX3_hullWord_39 : decode cX3_hullWord 39 = .ok (.ireturn, 1) := dk_172 (dk_at dksX3_hullWord_1 15 rfl rfl)
abbrev cX3_rotaWord : ByteArray := prog_14_method_29_code
def yX3_rotaWord : MethodName := ⟨RX3, "rotaWord", "()I"⟩
def dkwX3_rotaWord_2 : List UInt8 := [42, 18, 183, 182, 0, 125, 153, 0, 8, 16, 13, 167, 0, 4, 4, 172]
abbrev dktX3_rotaWord_2 : List UInt8 := dkwX3_rotaWord_2 ++ []
def dkwX3_rotaWord_1 : List UInt8 := [42, 18, 171, 182, 0, 125, 153, 0, 6, 16, 7, 172, 42, 18, 181, 182, 0, 125, 153, 0, 6, 16, 12, 172]
abbrev dktX3_rotaWord_1 : List UInt8 := dkwX3_rotaWord_1 ++ dktX3_rotaWord_2
def dkwX3_rotaWord_0 : List UInt8 := [42, 18, 177, 182, 0, 125, 153, 0, 6, 16, 10, 172, 42, 18, 179, 182, 0, 125, 153, 0, 6, 16, 11, 172]
abbrev dktX3_rotaWord_0 : List UInt8 := dkwX3_rotaWord_0 ++ dktX3_rotaWord_1
theorem dksX3_rotaWord_0 : cX3_rotaWord.data.toList.drop 0 = dktX3_rotaWord_0 := by decide +kernel
theorem dksX3_rotaWord_1 : cX3_rotaWord.data.toList.drop 24 = dktX3_rotaWord_1 := dk_seg dksX3_rotaWord_0 24 rfl rfl
theorem dksX3_rotaWord_2 : cX3_rotaWord.data.toList.drop 48 = dktX3_rotaWord_2 := dk_seg dksX3_rotaWord_1 24 rfl rfl
theorem dX3_rotaWord_0 : decode cX3_rotaWord 0 = .ok (.aload_n 0, 1) := dk_42 (dk_at dksX3_rotaWord_0 0 rfl rfl)
theorem dX3_rotaWord_1 : decode cX3_rotaWord 1 = .ok (.ldc 177, 2) := dk_18 177 (dk_at dksX3_rotaWord_0 1 rfl rfl)
theorem dX3_rotaWord_3 : decode cX3_rotaWord 3 = .ok (.invokevirtual 125, 3) := dk_182 0 125 (dk_at dksX3_rotaWord_0 3 rfl rfl)
theorem dX3_rotaWord_6 : decode cX3_rotaWord 6 = .ok (.ifCond .eq 6, 3) := dk_153 0 6 (dk_at dksX3_rotaWord_0 6 rfl rfl)
theorem dX3_rotaWord_9 : decode cX3_rotaWord 9 = .ok (.bipush 10, 2) := dk_16 10 (dk_at dksX3_rotaWord_0 9 rfl rfl)
theorem dX3_rotaWord_11 : decode cX3_rotaWord 11 = .ok (.ireturn, 1) := dk_172 (dk_at dksX3_rotaWord_0 11 rfl rfl)
theorem dX3_rotaWord_12 : decode cX3_rotaWord 12 = .ok (.aload_n 0, 1) := dk_42 (dk_at dksX3_rotaWord_0 12 rfl rfl)
theorem dX3_rotaWord_13 : decode cX3_rotaWord 13 = .ok (.ldc 179, 2) := dk_18 179 (dk_at dksX3_rotaWord_0 13 rfl rfl)
theorem dX3_rotaWord_15 : decode cX3_rotaWord 15 = .ok (.invokevirtual 125, 3) := dk_182 0 125 (dk_at dksX3_rotaWord_0 15 rfl rfl)
theorem dX3_rotaWord_18 : decode cX3_rotaWord 18 = .ok (.ifCond .eq 6, 3) := dk_153 0 6 (dk_at dksX3_rotaWord_0 18 rfl rfl)
theorem dX3_rotaWord_21 : decode cX3_rotaWord 21 = .ok (.bipush 11, 2) := dk_16 11 (dk_at dksX3_rotaWord_0 21 rfl rfl)
theorem dX3_rotaWord_23 : decode cX3_rotaWord 23 = .ok (.ireturn, 1) := dk_172 (dk_at dksX3_rotaWord_0 23 rfl rfl)
theorem dX3_rotaWord_24 : decode cX3_rotaWord 24 = .ok (.aload_n 0, 1) := dk_42 (dk_at dksX3_rotaWord_1 0 rfl rfl)
theorem dX3_rotaWord_25 : decode cX3_rotaWord 25 = .ok (.ldc 171, 2) := dk_18 171 (dk_at dksX3_rotaWord_1 1 rfl rfl)
theorem dX3_rotaWord_27 : decode cX3_rotaWord 27 = .ok (.invokevirtual 125, 3) := dk_182 0 125 (dk_at dksX3_rotaWord_1 3 rfl rfl)
theorem dX3_rotaWord_30 : decode cX3_rotaWord 30 = .ok (.ifCond .eq 6, 3) := dk_153 0 6 (dk_at dksX3_rotaWord_1 6 rfl rfl)
theorem dX3_rotaWord_33 : decode cX3_rotaWord 33 = .ok (.bipush 7, 2) := dk_16 7 (dk_at dksX3_rotaWord_1 9 rfl rfl)
theorem dX3_rotaWord_35 : decode cX3_rotaWord 35 = .ok (.ireturn, 1) := dk_172 (dk_at dksX3_rotaWord_1 11 rfl rfl)
theorem dX3_rotaWord_36 : decode cX3_rotaWord 36 = .ok (.aload_n 0, 1) := dk_42 (dk_at dksX3_rotaWord_1 12 rfl rfl)
theorem dX3_rotaWord_37 : decode cX3_rotaWord 37 = .ok (.ldc 181, 2) := dk_18 181 (dk_at dksX3_rotaWord_1 13 rfl rfl)
theorem dX3_rotaWord_39 : decode cX3_rotaWord 39 = .ok (.invokevirtual 125, 3) := dk_182 0 125 (dk_at dksX3_rotaWord_1 15 rfl rfl)
theorem dX3_rotaWord_42 : decode cX3_rotaWord 42 = .ok (.ifCond .eq 6, 3) := dk_153 0 6 (dk_at dksX3_rotaWord_1 18 rfl rfl)
theorem dX3_rotaWord_45 : decode cX3_rotaWord 45 = .ok (.bipush 12, 2) := dk_16 12 (dk_at dksX3_rotaWord_1 21 rfl rfl)
theorem dX3_rotaWord_47 : decode cX3_rotaWord 47 = .ok (.ireturn, 1) := dk_172 (dk_at dksX3_rotaWord_1 23 rfl rfl)
theorem dX3_rotaWord_48 : decode cX3_rotaWord 48 = .ok (.aload_n 0, 1) := dk_42 (dk_at dksX3_rotaWord_2 0 rfl rfl)
theorem dX3_rotaWord_49 : decode cX3_rotaWord 49 = .ok (.ldc 183, 2) := dk_18 183 (dk_at dksX3_rotaWord_2 1 rfl rfl)
theorem dX3_rotaWord_51 : decode cX3_rotaWord 51 = .ok (.invokevirtual 125, 3) := dk_182 0 125 (dk_at dksX3_rotaWord_2 3 rfl rfl)
theorem dX3_rotaWord_54 : decode cX3_rotaWord 54 = .ok (.ifCond .eq 8, 3) := dk_153 0 8 (dk_at dksX3_rotaWord_2 6 rfl rfl)
theorem dX3_rotaWord_57 : decode cX3_rotaWord 57 = .ok (.bipush 13, 2) := dk_16 13 (dk_at dksX3_rotaWord_2 9 rfl rfl)
theorem dX3_rotaWord_59 : decode cX3_rotaWord 59 = .ok (.goto 4, 3) := dk_167 0 4 (dk_at dksX3_rotaWord_2 11 rfl rfl)
theorem dX3_rotaWord_62 : decode cX3_rotaWord 62 = .ok (.iconst 1, 1) := dk_4 (dk_at dksX3_rotaWord_2 14 rfl rfl)
theorem dX3_rotaWord_63 : decode cX3_rotaWord 63 = .ok (.ireturn, 1) := dk_172 (dk_at dksX3_rotaWord_2 15 rfl rfl)
abbrev cX3_isDigit : ByteArray := prog_14_method_24_code
def yX3_isDigit : MethodName := ⟨RX3, "isDigit", "(I)Z"⟩
def dkwX3_isDigit_0 : List UInt8 := [26, 16, 48, 16, 57, 184, 0, 77, 172]
abbrev dktX3_isDigit_0 : List UInt8 := dkwX3_isDigit_0 ++ []
theorem dksX3_isDigit_0 : cX3_isDigit.data.toList.drop 0 = dktX3_isDigit_0 := by decide +kernel
theorem dX3_isDigit_0 : decode cX3_isDigit 0 = .ok (.iload_n 0, 1) := dk_26 (dk_at dksX3_isDigit_0 0 rfl rfl)
theorem dX3_isDigit_1 : decode cX3_isDigit 1 = .ok (.bipush 48, 2) := dk_16 48 (dk_at dksX3_isDigit_0 1 rfl rfl)
theorem dX3_isDigit_3 : decode cX3_isDigit 3 = .ok (.bipush 57, 2) := dk_16 57 (dk_at dksX3_isDigit_0 3 rfl rfl)
theorem dX3_isDigit_5 : decode cX3_isDigit 5 = .ok (.invokestatic 77, 3) := dk_184 0 77 (dk_at dksX3_isDigit_0 5 rfl rfl)
theorem dX3_isDigit_8 : decode cX3_isDigit 8 = .ok (.ireturn, 1) := dk_172 (dk_at dksX3_isDigit_0 8 rfl rfl)
abbrev cX3_readsLaw : ByteArray := prog_14_method_43_code
def yX3_readsLaw : MethodName := ⟨RX3, "readsLaw", "()Z"⟩
def dkwX3_readsLaw_2 : List UInt8 := [167, 255, 222, 27, 172]
abbrev dktX3_readsLaw_2 : List UInt8 := dkwX3_readsLaw_2 ++ []
def dkwX3_readsLaw_1 : List UInt8 := [182, 1, 6, 60, 42, 89, 180, 1, 3, 27, 153, 0, 7, 4, 167, 0, 4, 3, 96, 181, 1, 3]
abbrev dktX3_readsLaw_1 : List UInt8 := dkwX3_readsLaw_1 ++ dktX3_readsLaw_2
def dkwX3_readsLaw_0 : List UInt8 := [42, 3, 181, 1, 3, 42, 3, 181, 0, 224, 4, 60, 27, 153, 0, 36, 42, 180, 0, 197, 153, 0, 29, 42]
abbrev dktX3_readsLaw_0 : List UInt8 := dkwX3_readsLaw_0 ++ dktX3_readsLaw_1
theorem dksX3_readsLaw_0 : cX3_readsLaw.data.toList.drop 0 = dktX3_readsLaw_0 := by decide +kernel
theorem dksX3_readsLaw_1 : cX3_readsLaw.data.toList.drop 24 = dktX3_readsLaw_1 := dk_seg dksX3_readsLaw_0 24 rfl rfl
theorem dksX3_readsLaw_2 : cX3_readsLaw.data.toList.drop 46 = dktX3_readsLaw_2 := dk_seg dksX3_readsLaw_1 22 rfl rfl
theorem dX3_readsLaw_0 : decode cX3_readsLaw 0 = .ok (.aload_n 0, 1) := dk_42 (dk_at dksX3_readsLaw_0 0 rfl rfl)
theorem dX3_readsLaw_1 : decode cX3_readsLaw 1 = .ok (.iconst 0, 1) := dk_3 (dk_at dksX3_readsLaw_0 1 rfl rfl)
theorem dX3_readsLaw_2 : decode cX3_readsLaw 2 = .ok (.putfield 259, 3) := dk_181 1 3 (dk_at dksX3_readsLaw_0 2 rfl rfl)
theorem dX3_readsLaw_5 : decode cX3_readsLaw 5 = .ok (.aload_n 0, 1) := dk_42 (dk_at dksX3_readsLaw_0 5 rfl rfl)
theorem dX3_readsLaw_6 : decode cX3_readsLaw 6 = .ok (.iconst 0, 1) := dk_3 (dk_at dksX3_readsLaw_0 6 rfl rfl)
theorem dX3_readsLaw_7 : decode cX3_readsLaw 7 = .ok (.putfield 224, 3) := dk_181 0 224 (dk_at dksX3_readsLaw_0 7 rfl rfl)
theorem dX3_readsLaw_10 : decode cX3_readsLaw 10 = .ok (.iconst 1, 1) := dk_4 (dk_at dksX3_readsLaw_0 10 rfl rfl)
theorem dX3_readsLaw_11 : decode cX3_readsLaw 11 = .ok (.istore_n 1, 1) := dk_60 (dk_at dksX3_readsLaw_0 11 rfl rfl)
theorem dX3_readsLaw_12 : decode cX3_readsLaw 12 = .ok (.iload_n 1, 1) := dk_27 (dk_at dksX3_readsLaw_0 12 rfl rfl)
theorem dX3_readsLaw_13 : decode cX3_readsLaw 13 = .ok (.ifCond .eq 36, 3) := dk_153 0 36 (dk_at dksX3_readsLaw_0 13 rfl rfl)
theorem dX3_readsLaw_16 : decode cX3_readsLaw 16 = .ok (.aload_n 0, 1) := dk_42 (dk_at dksX3_readsLaw_0 16 rfl rfl)
theorem dX3_readsLaw_17 : decode cX3_readsLaw 17 = .ok (.getfield 197, 3) := dk_180 0 197 (dk_at dksX3_readsLaw_0 17 rfl rfl)
theorem dX3_readsLaw_20 : decode cX3_readsLaw 20 = .ok (.ifCond .eq 29, 3) := dk_153 0 29 (dk_at dksX3_readsLaw_0 20 rfl rfl)
theorem dX3_readsLaw_23 : decode cX3_readsLaw 23 = .ok (.aload_n 0, 1) := dk_42 (dk_at dksX3_readsLaw_0 23 rfl rfl)
theorem dX3_readsLaw_24 : decode cX3_readsLaw 24 = .ok (.invokevirtual 262, 3) := dk_182 1 6 (dk_at dksX3_readsLaw_1 0 rfl rfl)
theorem dX3_readsLaw_27 : decode cX3_readsLaw 27 = .ok (.istore_n 1, 1) := dk_60 (dk_at dksX3_readsLaw_1 3 rfl rfl)
theorem dX3_readsLaw_28 : decode cX3_readsLaw 28 = .ok (.aload_n 0, 1) := dk_42 (dk_at dksX3_readsLaw_1 4 rfl rfl)
theorem dX3_readsLaw_29 : decode cX3_readsLaw 29 = .ok (.dup, 1) := dk_89 (dk_at dksX3_readsLaw_1 5 rfl rfl)
theorem dX3_readsLaw_30 : decode cX3_readsLaw 30 = .ok (.getfield 259, 3) := dk_180 1 3 (dk_at dksX3_readsLaw_1 6 rfl rfl)
theorem dX3_readsLaw_33 : decode cX3_readsLaw 33 = .ok (.iload_n 1, 1) := dk_27 (dk_at dksX3_readsLaw_1 9 rfl rfl)
theorem dX3_readsLaw_34 : decode cX3_readsLaw 34 = .ok (.ifCond .eq 7, 3) := dk_153 0 7 (dk_at dksX3_readsLaw_1 10 rfl rfl)
theorem dX3_readsLaw_37 : decode cX3_readsLaw 37 = .ok (.iconst 1, 1) := dk_4 (dk_at dksX3_readsLaw_1 13 rfl rfl)
theorem dX3_readsLaw_38 : decode cX3_readsLaw 38 = .ok (.goto 4, 3) := dk_167 0 4 (dk_at dksX3_readsLaw_1 14 rfl rfl)
theorem dX3_readsLaw_41 : decode cX3_readsLaw 41 = .ok (.iconst 0, 1) := dk_3 (dk_at dksX3_readsLaw_1 17 rfl rfl)
theorem dX3_readsLaw_42 : decode cX3_readsLaw 42 = .ok (.iadd, 1) := dk_96 (dk_at dksX3_readsLaw_1 18 rfl rfl)
theorem dX3_readsLaw_43 : decode cX3_readsLaw 43 = .ok (.putfield 259, 3) := dk_181 1 3 (dk_at dksX3_readsLaw_1 19 rfl rfl)
theorem dX3_readsLaw_46 : decode cX3_readsLaw 46 = .ok (.goto (-34), 3) := dk_167 255 222 (dk_at dksX3_readsLaw_2 0 rfl rfl)
theorem dX3_readsLaw_49 : decode cX3_readsLaw 49 = .ok (.iload_n 1, 1) := dk_27 (dk_at dksX3_readsLaw_2 3 rfl rfl)
theorem dX3_readsLaw_50 : decode cX3_readsLaw 50 = .ok (.ireturn, 1) := dk_172 (dk_at dksX3_readsLaw_2 4 rfl rfl)
abbrev cX3_aLine : ByteArray := prog_14_method_42_code
def yX3_aLine : MethodName := ⟨RX3, "aLine", "()Z"⟩
def dkwX3_aLine_6 : List UInt8 := [96, 42, 180, 0, 224, 79, 42, 17, 0, 159, 182, 0, 253, 172]
abbrev dktX3_aLine_6 : List UInt8 := dkwX3_aLine_6 ++ []
def dkwX3_aLine_5 : List UInt8 := [42, 182, 0, 221, 42, 182, 0, 250, 154, 0, 5, 3, 172, 42, 180, 0, 22, 7, 42, 180, 1, 3, 104, 5]
abbrev dktX3_aLine_5 : List UInt8 := dkwX3_aLine_5 ++ dktX3_aLine_6
def dkwX3_aLine_4 : List UInt8 := [180, 0, 22, 7, 42, 180, 1, 3, 104, 4, 96, 42, 180, 0, 224, 79, 42, 180, 0, 197, 6, 160, 0, 16]
abbrev dktX3_aLine_4 : List UInt8 := dkwX3_aLine_4 ++ dktX3_aLine_5
def dkwX3_aLine_3 : List UInt8 := [104, 42, 180, 0, 224, 79, 42, 180, 0, 155, 4, 160, 0, 12, 42, 182, 1, 0, 154, 0, 5, 3, 172, 42]
abbrev dktX3_aLine_3 : List UInt8 := dkwX3_aLine_3 ++ dktX3_aLine_4
def dkwX3_aLine_2 : List UInt8 := [180, 1, 3, 104, 6, 96, 42, 180, 0, 197, 79, 42, 182, 0, 221, 42, 180, 0, 22, 7, 42, 180, 1, 3]
abbrev dktX3_aLine_2 : List UInt8 := dkwX3_aLine_2 ++ dktX3_aLine_3
def dkwX3_aLine_1 : List UInt8 := [16, 16, 160, 0, 9, 42, 6, 182, 0, 218, 172, 42, 3, 181, 0, 227, 42, 180, 0, 22, 7, 42]
abbrev dktX3_aLine_1 : List UInt8 := dkwX3_aLine_1 ++ dktX3_aLine_2
def dkwX3_aLine_0 : List UInt8 := [42, 180, 0, 197, 16, 20, 16, 24, 184, 0, 77, 154, 0, 9, 42, 4, 182, 0, 218, 172, 42, 180, 1, 3]
abbrev dktX3_aLine_0 : List UInt8 := dkwX3_aLine_0 ++ dktX3_aLine_1
theorem dksX3_aLine_0 : cX3_aLine.data.toList.drop 0 = dktX3_aLine_0 := by decide +kernel
theorem dksX3_aLine_1 : cX3_aLine.data.toList.drop 24 = dktX3_aLine_1 := dk_seg dksX3_aLine_0 24 rfl rfl
theorem dksX3_aLine_2 : cX3_aLine.data.toList.drop 46 = dktX3_aLine_2 := dk_seg dksX3_aLine_1 22 rfl rfl
theorem dksX3_aLine_3 : cX3_aLine.data.toList.drop 70 = dktX3_aLine_3 := dk_seg dksX3_aLine_2 24 rfl rfl
theorem dksX3_aLine_4 : cX3_aLine.data.toList.drop 94 = dktX3_aLine_4 := dk_seg dksX3_aLine_3 24 rfl rfl
theorem dksX3_aLine_5 : cX3_aLine.data.toList.drop 118 = dktX3_aLine_5 := dk_seg dksX3_aLine_4 24 rfl rfl
theorem dksX3_aLine_6 : cX3_aLine.data.toList.drop 142 = dktX3_aLine_6 := dk_seg dksX3_aLine_5 24 rfl rfl
theorem dX3_aLine_0 : decode cX3_aLine 0 = .ok (.aload_n 0, 1) := dk_42 (dk_at dksX3_aLine_0 0 rfl rfl)
theorem dX3_aLine_1 : decode cX3_aLine 1 = .ok (.getfield 197, 3) := dk_180 0 197 (dk_at dksX3_aLine_0 1 rfl rfl)
theorem dX3_aLine_4 : decode cX3_aLine 4 = .ok (.bipush 20, 2) := dk_16 20 (dk_at dksX3_aLine_0 4 rfl rfl)
theorem dX3_aLine_6 : decode cX3_aLine 6 = .ok (.bipush 24, 2) := dk_16 24 (dk_at dksX3_aLine_0 6 rfl rfl)
theorem dX3_aLine_8 : decode cX3_aLine 8 = .ok (.invokestatic 77, 3) := dk_184 0 77 (dk_at dksX3_aLine_0 8 rfl rfl)
theorem dX3_aLine_11 : decode cX3_aLine 11 = .ok (.ifCond .ne 9, 3) := dk_154 0 9 (dk_at dksX3_aLine_0 11 rfl rfl)
theorem dX3_aLine_14 : decode cX3_aLine 14 = .ok (.aload_n 0, 1) := dk_42 (dk_at dksX3_aLine_0 14 rfl rfl)
theorem dX3_aLine_15 : decode cX3_aLine 15 = .ok (.iconst 1, 1) := dk_4 (dk_at dksX3_aLine_0 15 rfl rfl)
theorem dX3_aLine_16 : decode cX3_aLine 16 = .ok (.invokevirtual 218, 3) := dk_182 0 218 (dk_at dksX3_aLine_0 16 rfl rfl)
theorem dX3_aLine_19 : decode cX3_aLine 19 = .ok (.ireturn, 1) := dk_172 (dk_at dksX3_aLine_0 19 rfl rfl)
theorem dX3_aLine_20 : decode cX3_aLine 20 = .ok (.aload_n 0, 1) := dk_42 (dk_at dksX3_aLine_0 20 rfl rfl)
theorem dX3_aLine_21 : decode cX3_aLine 21 = .ok (.getfield 259, 3) := dk_180 1 3 (dk_at dksX3_aLine_0 21 rfl rfl)
theorem dX3_aLine_24 : decode cX3_aLine 24 = .ok (.bipush 16, 2) := dk_16 16 (dk_at dksX3_aLine_1 0 rfl rfl)
theorem dX3_aLine_26 : decode cX3_aLine 26 = .ok (.if_icmp .ne 9, 3) := dk_160 0 9 (dk_at dksX3_aLine_1 2 rfl rfl)
theorem dX3_aLine_29 : decode cX3_aLine 29 = .ok (.aload_n 0, 1) := dk_42 (dk_at dksX3_aLine_1 5 rfl rfl)
theorem dX3_aLine_30 : decode cX3_aLine 30 = .ok (.iconst 3, 1) := dk_6 (dk_at dksX3_aLine_1 6 rfl rfl)
theorem dX3_aLine_31 : decode cX3_aLine 31 = .ok (.invokevirtual 218, 3) := dk_182 0 218 (dk_at dksX3_aLine_1 7 rfl rfl)
theorem dX3_aLine_34 : decode cX3_aLine 34 = .ok (.ireturn, 1) := dk_172 (dk_at dksX3_aLine_1 10 rfl rfl)
theorem dX3_aLine_35 : decode cX3_aLine 35 = .ok (.aload_n 0, 1) := dk_42 (dk_at dksX3_aLine_1 11 rfl rfl)
theorem dX3_aLine_36 : decode cX3_aLine 36 = .ok (.iconst 0, 1) := dk_3 (dk_at dksX3_aLine_1 12 rfl rfl)
theorem dX3_aLine_37 : decode cX3_aLine 37 = .ok (.putfield 227, 3) := dk_181 0 227 (dk_at dksX3_aLine_1 13 rfl rfl)
theorem dX3_aLine_40 : decode cX3_aLine 40 = .ok (.aload_n 0, 1) := dk_42 (dk_at dksX3_aLine_1 16 rfl rfl)
theorem dX3_aLine_41 : decode cX3_aLine 41 = .ok (.getfield 22, 3) := dk_180 0 22 (dk_at dksX3_aLine_1 17 rfl rfl)
theorem dX3_aLine_44 : decode cX3_aLine 44 = .ok (.iconst 4, 1) := dk_7 (dk_at dksX3_aLine_1 20 rfl rfl)
theorem dX3_aLine_45 : decode cX3_aLine 45 = .ok (.aload_n 0, 1) := dk_42 (dk_at dksX3_aLine_1 21 rfl rfl)
theorem dX3_aLine_46 : decode cX3_aLine 46 = .ok (.getfield 259, 3) := dk_180 1 3 (dk_at dksX3_aLine_2 0 rfl rfl)
theorem dX3_aLine_49 : decode cX3_aLine 49 = .ok (.imul, 1) := dk_104 (dk_at dksX3_aLine_2 3 rfl rfl)
theorem dX3_aLine_50 : decode cX3_aLine 50 = .ok (.iconst 3, 1) := dk_6 (dk_at dksX3_aLine_2 4 rfl rfl)
theorem dX3_aLine_51 : decode cX3_aLine 51 = .ok (.iadd, 1) := dk_96 (dk_at dksX3_aLine_2 5 rfl rfl)
theorem dX3_aLine_52 : decode cX3_aLine 52 = .ok (.aload_n 0, 1) := dk_42 (dk_at dksX3_aLine_2 6 rfl rfl)
theorem dX3_aLine_53 : decode cX3_aLine 53 = .ok (.getfield 197, 3) := dk_180 0 197 (dk_at dksX3_aLine_2 7 rfl rfl)
theorem dX3_aLine_56 : decode cX3_aLine 56 = .ok (.iastore, 1) := dk_79 (dk_at dksX3_aLine_2 10 rfl rfl)
theorem dX3_aLine_57 : decode cX3_aLine 57 = .ok (.aload_n 0, 1) := dk_42 (dk_at dksX3_aLine_2 11 rfl rfl)
theorem dX3_aLine_58 : decode cX3_aLine 58 = .ok (.invokevirtual 221, 3) := dk_182 0 221 (dk_at dksX3_aLine_2 12 rfl rfl)
theorem dX3_aLine_61 : decode cX3_aLine 61 = .ok (.aload_n 0, 1) := dk_42 (dk_at dksX3_aLine_2 15 rfl rfl)
theorem dX3_aLine_62 : decode cX3_aLine 62 = .ok (.getfield 22, 3) := dk_180 0 22 (dk_at dksX3_aLine_2 16 rfl rfl)
theorem dX3_aLine_65 : decode cX3_aLine 65 = .ok (.iconst 4, 1) := dk_7 (dk_at dksX3_aLine_2 19 rfl rfl)
theorem dX3_aLine_66 : decode cX3_aLine 66 = .ok (.aload_n 0, 1) := dk_42 (dk_at dksX3_aLine_2 20 rfl rfl)
theorem dX3_aLine_67 : decode cX3_aLine 67 = .ok (.getfield 259, 3) := dk_180 1 3 (dk_at dksX3_aLine_2 21 rfl rfl)
theorem dX3_aLine_70 : decode cX3_aLine 70 = .ok (.imul, 1) := dk_104 (dk_at dksX3_aLine_3 0 rfl rfl)
theorem dX3_aLine_71 : decode cX3_aLine 71 = .ok (.aload_n 0, 1) := dk_42 (dk_at dksX3_aLine_3 1 rfl rfl)
theorem dX3_aLine_72 : decode cX3_aLine 72 = .ok (.getfield 224, 3) := dk_180 0 224 (dk_at dksX3_aLine_3 2 rfl rfl)
theorem dX3_aLine_75 : decode cX3_aLine 75 = .ok (.iastore, 1) := dk_79 (dk_at dksX3_aLine_3 5 rfl rfl)
theorem dX3_aLine_76 : decode cX3_aLine 76 = .ok (.aload_n 0, 1) := dk_42 (dk_at dksX3_aLine_3 6 rfl rfl)
theorem dX3_aLine_77 : decode cX3_aLine 77 = .ok (.getfield 155, 3) := dk_180 0 155 (dk_at dksX3_aLine_3 7 rfl rfl)
theorem dX3_aLine_80 : decode cX3_aLine 80 = .ok (.iconst 1, 1) := dk_4 (dk_at dksX3_aLine_3 10 rfl rfl)
theorem dX3_aLine_81 : decode cX3_aLine 81 = .ok (.if_icmp .ne 12, 3) := dk_160 0 12 (dk_at dksX3_aLine_3 11 rfl rfl)
theorem dX3_aLine_84 : decode cX3_aLine 84 = .ok (.aload_n 0, 1) := dk_42 (dk_at dksX3_aLine_3 14 rfl rfl)
theorem dX3_aLine_85 : decode cX3_aLine 85 = .ok (.invokevirtual 256, 3) := dk_182 1 0 (dk_at dksX3_aLine_3 15 rfl rfl)
theorem dX3_aLine_88 : decode cX3_aLine 88 = .ok (.ifCond .ne 5, 3) := dk_154 0 5 (dk_at dksX3_aLine_3 18 rfl rfl)
theorem dX3_aLine_91 : decode cX3_aLine 91 = .ok (.iconst 0, 1) := dk_3 (dk_at dksX3_aLine_3 21 rfl rfl)
theorem dX3_aLine_92 : decode cX3_aLine 92 = .ok (.ireturn, 1) := dk_172 (dk_at dksX3_aLine_3 22 rfl rfl)
theorem dX3_aLine_93 : decode cX3_aLine 93 = .ok (.aload_n 0, 1) := dk_42 (dk_at dksX3_aLine_3 23 rfl rfl)
theorem dX3_aLine_94 : decode cX3_aLine 94 = .ok (.getfield 22, 3) := dk_180 0 22 (dk_at dksX3_aLine_4 0 rfl rfl)
theorem dX3_aLine_97 : decode cX3_aLine 97 = .ok (.iconst 4, 1) := dk_7 (dk_at dksX3_aLine_4 3 rfl rfl)
theorem dX3_aLine_98 : decode cX3_aLine 98 = .ok (.aload_n 0, 1) := dk_42 (dk_at dksX3_aLine_4 4 rfl rfl)
theorem dX3_aLine_99 : decode cX3_aLine 99 = .ok (.getfield 259, 3) := dk_180 1 3 (dk_at dksX3_aLine_4 5 rfl rfl)
theorem dX3_aLine_102 : decode cX3_aLine 102 = .ok (.imul, 1) := dk_104 (dk_at dksX3_aLine_4 8 rfl rfl)
theorem dX3_aLine_103 : decode cX3_aLine 103 = .ok (.iconst 1, 1) := dk_4 (dk_at dksX3_aLine_4 9 rfl rfl)
theorem dX3_aLine_104 : decode cX3_aLine 104 = .ok (.iadd, 1) := dk_96 (dk_at dksX3_aLine_4 10 rfl rfl)
theorem dX3_aLine_105 : decode cX3_aLine 105 = .ok (.aload_n 0, 1) := dk_42 (dk_at dksX3_aLine_4 11 rfl rfl)
theorem dX3_aLine_106 : decode cX3_aLine 106 = .ok (.getfield 224, 3) := dk_180 0 224 (dk_at dksX3_aLine_4 12 rfl rfl)
theorem dX3_aLine_109 : decode cX3_aLine 109 = .ok (.iastore, 1) := dk_79 (dk_at dksX3_aLine_4 15 rfl rfl)
theorem dX3_aLine_110 : decode cX3_aLine 110 = .ok (.aload_n 0, 1) := dk_42 (dk_at dksX3_aLine_4 16 rfl rfl)
theorem dX3_aLine_111 : decode cX3_aLine 111 = .ok (.getfield 197, 3) := dk_180 0 197 (dk_at dksX3_aLine_4 17 rfl rfl)
theorem dX3_aLine_114 : decode cX3_aLine 114 = .ok (.iconst 3, 1) := dk_6 (dk_at dksX3_aLine_4 20 rfl rfl)
theorem dX3_aLine_115 : decode cX3_aLine 115 = .ok (.if_icmp .ne 16, 3) := dk_160 0 16 (dk_at dksX3_aLine_4 21 rfl rfl)
theorem dX3_aLine_118 : decode cX3_aLine 118 = .ok (.aload_n 0, 1) := dk_42 (dk_at dksX3_aLine_5 0 rfl rfl)
theorem dX3_aLine_119 : decode cX3_aLine 119 = .ok (.invokevirtual 221, 3) := dk_182 0 221 (dk_at dksX3_aLine_5 1 rfl rfl)
theorem dX3_aLine_122 : decode cX3_aLine 122 = .ok (.aload_n 0, 1) := dk_42 (dk_at dksX3_aLine_5 4 rfl rfl)
theorem dX3_aLine_123 : decode cX3_aLine 123 = .ok (.invokevirtual 250, 3) := dk_182 0 250 (dk_at dksX3_aLine_5 5 rfl rfl)
theorem dX3_aLine_126 : decode cX3_aLine 126 = .ok (.ifCond .ne 5, 3) := dk_154 0 5 (dk_at dksX3_aLine_5 8 rfl rfl)
theorem dX3_aLine_129 : decode cX3_aLine 129 = .ok (.iconst 0, 1) := dk_3 (dk_at dksX3_aLine_5 11 rfl rfl)
theorem dX3_aLine_130 : decode cX3_aLine 130 = .ok (.ireturn, 1) := dk_172 (dk_at dksX3_aLine_5 12 rfl rfl)
theorem dX3_aLine_131 : decode cX3_aLine 131 = .ok (.aload_n 0, 1) := dk_42 (dk_at dksX3_aLine_5 13 rfl rfl)
theorem dX3_aLine_132 : decode cX3_aLine 132 = .ok (.getfield 22, 3) := dk_180 0 22 (dk_at dksX3_aLine_5 14 rfl rfl)
theorem dX3_aLine_135 : decode cX3_aLine 135 = .ok (.iconst 4, 1) := dk_7 (dk_at dksX3_aLine_5 17 rfl rfl)
theorem dX3_aLine_136 : decode cX3_aLine 136 = .ok (.aload_n 0, 1) := dk_42 (dk_at dksX3_aLine_5 18 rfl rfl)
theorem dX3_aLine_137 : decode cX3_aLine 137 = .ok (.getfield 259, 3) := dk_180 1 3 (dk_at dksX3_aLine_5 19 rfl rfl)
theorem dX3_aLine_140 : decode cX3_aLine 140 = .ok (.imul, 1) := dk_104 (dk_at dksX3_aLine_5 22 rfl rfl)
theorem dX3_aLine_141 : decode cX3_aLine 141 = .ok (.iconst 2, 1) := dk_5 (dk_at dksX3_aLine_5 23 rfl rfl)
theorem dX3_aLine_142 : decode cX3_aLine 142 = .ok (.iadd, 1) := dk_96 (dk_at dksX3_aLine_6 0 rfl rfl)
theorem dX3_aLine_143 : decode cX3_aLine 143 = .ok (.aload_n 0, 1) := dk_42 (dk_at dksX3_aLine_6 1 rfl rfl)
theorem dX3_aLine_144 : decode cX3_aLine 144 = .ok (.getfield 224, 3) := dk_180 0 224 (dk_at dksX3_aLine_6 2 rfl rfl)
theorem dX3_aLine_147 : decode cX3_aLine 147 = .ok (.iastore, 1) := dk_79 (dk_at dksX3_aLine_6 5 rfl rfl)
theorem dX3_aLine_148 : decode cX3_aLine 148 = .ok (.aload_n 0, 1) := dk_42 (dk_at dksX3_aLine_6 6 rfl rfl)
theorem dX3_aLine_149 : decode cX3_aLine 149 = .ok (.sipush 159, 3) := dk_17 0 159 (dk_at dksX3_aLine_6 7 rfl rfl)
theorem dX3_aLine_152 : decode cX3_aLine 152 = .ok (.invokevirtual 253, 3) := dk_182 0 253 (dk_at dksX3_aLine_6 10 rfl rfl)
theorem dX3_aLine_155 : decode cX3_aLine 155 = .ok (.ireturn, 1) := dk_172 (dk_at dksX3_aLine_6 13 rfl rfl)
abbrev cX3_bad : ByteArray := prog_14_method_32_code
def yX3_bad : MethodName := ⟨RX3, "bad", "(I)Z"⟩
def dkwX3_bad_0 : List UInt8 := [42, 27, 181, 0, 212, 42, 42, 180, 0, 110, 181, 0, 215, 3, 172]
abbrev dktX3_bad_0 : List UInt8 := dkwX3_bad_0 ++ []
theorem dksX3_bad_0 : cX3_bad.data.toList.drop 0 = dktX3_bad_0 := by decide +kernel
theorem dX3_bad_0 : decode cX3_bad 0 = .ok (.aload_n 0, 1) := dk_42 (dk_at dksX3_bad_0 0 rfl rfl)
theorem dX3_bad_1 : decode cX3_bad 1 = .ok (.iload_n 1, 1) := dk_27 (dk_at dksX3_bad_0 1 rfl rfl)
theorem dX3_bad_2 : decode cX3_bad 2 = .ok (.putfield 212, 3) := dk_181 0 212 (dk_at dksX3_bad_0 2 rfl rfl)
theorem dX3_bad_5 : decode cX3_bad 5 = .ok (.aload_n 0, 1) := dk_42 (dk_at dksX3_bad_0 5 rfl rfl)
theorem dX3_bad_6 : decode cX3_bad 6 = .ok (.aload_n 0, 1) := dk_42 (dk_at dksX3_bad_0 6 rfl rfl)
theorem dX3_bad_7 : decode cX3_bad 7 = .ok (.getfield 110, 3) := dk_180 0 110 (dk_at dksX3_bad_0 7 rfl rfl)
theorem dX3_bad_10 : decode cX3_bad 10 = .ok (.putfield 215, 3) := dk_181 0 215 (dk_at dksX3_bad_0 10 rfl rfl)
theorem dX3_bad_13 : decode cX3_bad 13 = .ok (.iconst 0, 1) := dk_3 (dk_at dksX3_bad_0 13 rfl rfl)
theorem dX3_bad_14 : decode cX3_bad 14 = .ok (.ireturn, 1) := dk_172 (dk_at dksX3_bad_0 14 rfl rfl)
abbrev cX3_sumUp : ByteArray := prog_14_method_36_code
def yX3_sumUp : MethodName := ⟨RX3, "sumUp", "()Z"⟩
def dkwX3_sumUp_2 : List UInt8 := [42, 182, 0, 221, 42, 182, 0, 230, 154, 0, 5, 3, 172, 42, 27, 3, 182, 0, 234, 167, 255, 199, 4, 172]
abbrev dktX3_sumUp_2 : List UInt8 := dkwX3_sumUp_2 ++ []
def dkwX3_sumUp_1 : List UInt8 := [17, 0, 145, 160, 0, 43, 42, 180, 0, 197, 17, 0, 143, 160, 0, 8, 16, 23, 167, 0, 5, 16, 24, 60]
abbrev dktX3_sumUp_1 : List UInt8 := dkwX3_sumUp_1 ++ dktX3_sumUp_2
def dkwX3_sumUp_0 : List UInt8 := [42, 182, 0, 230, 154, 0, 5, 3, 172, 42, 180, 0, 197, 17, 0, 143, 159, 0, 13, 42, 180, 0, 197]
abbrev dktX3_sumUp_0 : List UInt8 := dkwX3_sumUp_0 ++ dktX3_sumUp_1
theorem dksX3_sumUp_0 : cX3_sumUp.data.toList.drop 0 = dktX3_sumUp_0 := by decide +kernel
theorem dksX3_sumUp_1 : cX3_sumUp.data.toList.drop 23 = dktX3_sumUp_1 := dk_seg dksX3_sumUp_0 23 rfl rfl
theorem dksX3_sumUp_2 : cX3_sumUp.data.toList.drop 47 = dktX3_sumUp_2 := dk_seg dksX3_sumUp_1 24 rfl rfl
theorem dX3_sumUp_0 : decode cX3_sumUp 0 = .ok (.aload_n 0, 1) := dk_42 (dk_at dksX3_sumUp_0 0 rfl rfl)
theorem dX3_sumUp_1 : decode cX3_sumUp 1 = .ok (.invokevirtual 230, 3) := dk_182 0 230 (dk_at dksX3_sumUp_0 1 rfl rfl)
theorem dX3_sumUp_4 : decode cX3_sumUp 4 = .ok (.ifCond .ne 5, 3) := dk_154 0 5 (dk_at dksX3_sumUp_0 4 rfl rfl)
theorem dX3_sumUp_7 : decode cX3_sumUp 7 = .ok (.iconst 0, 1) := dk_3 (dk_at dksX3_sumUp_0 7 rfl rfl)
theorem dX3_sumUp_8 : decode cX3_sumUp 8 = .ok (.ireturn, 1) := dk_172 (dk_at dksX3_sumUp_0 8 rfl rfl)
theorem dX3_sumUp_9 : decode cX3_sumUp 9 = .ok (.aload_n 0, 1) := dk_42 (dk_at dksX3_sumUp_0 9 rfl rfl)
theorem dX3_sumUp_10 : decode cX3_sumUp 10 = .ok (.getfield 197, 3) := dk_180 0 197 (dk_at dksX3_sumUp_0 10 rfl rfl)
theorem dX3_sumUp_13 : decode cX3_sumUp 13 = .ok (.sipush 143, 3) := dk_17 0 143 (dk_at dksX3_sumUp_0 13 rfl rfl)
theorem dX3_sumUp_16 : decode cX3_sumUp 16 = .ok (.if_icmp .eq 13, 3) := dk_159 0 13 (dk_at dksX3_sumUp_0 16 rfl rfl)
theorem dX3_sumUp_19 : decode cX3_sumUp 19 = .ok (.aload_n 0, 1) := dk_42 (dk_at dksX3_sumUp_0 19 rfl rfl)
theorem dX3_sumUp_20 : decode cX3_sumUp 20 = .ok (.getfield 197, 3) := dk_180 0 197 (dk_at dksX3_sumUp_0 20 rfl rfl)
theorem dX3_sumUp_23 : decode cX3_sumUp 23 = .ok (.sipush 145, 3) := dk_17 0 145 (dk_at dksX3_sumUp_1 0 rfl rfl)
theorem dX3_sumUp_26 : decode cX3_sumUp 26 = .ok (.if_icmp .ne 43, 3) := dk_160 0 43 (dk_at dksX3_sumUp_1 3 rfl rfl)
theorem dX3_sumUp_29 : decode cX3_sumUp 29 = .ok (.aload_n 0, 1) := dk_42 (dk_at dksX3_sumUp_1 6 rfl rfl)
theorem dX3_sumUp_30 : decode cX3_sumUp 30 = .ok (.getfield 197, 3) := dk_180 0 197 (dk_at dksX3_sumUp_1 7 rfl rfl)
theorem dX3_sumUp_33 : decode cX3_sumUp 33 = .ok (.sipush 143, 3) := dk_17 0 143 (dk_at dksX3_sumUp_1 10 rfl rfl)
theorem dX3_sumUp_36 : decode cX3_sumUp 36 = .ok (.if_icmp .ne 8, 3) := dk_160 0 8 (dk_at dksX3_sumUp_1 13 rfl rfl)
theorem dX3_sumUp_39 : decode cX3_sumUp 39 = .ok (.bipush 23, 2) := dk_16 23 (dk_at dksX3_sumUp_1 16 rfl rfl)
theorem dX3_sumUp_41 : decode cX3_sumUp 41 = .ok (.goto 5, 3) := dk_167 0 5 (dk_at dksX3_sumUp_1 18 rfl rfl)
theorem dX3_sumUp_44 : decode cX3_sumUp 44 = .ok (.bipush 24, 2) := dk_16 24 (dk_at dksX3_sumUp_1 21 rfl rfl)
theorem dX3_sumUp_46 : decode cX3_sumUp 46 = .ok (.istore_n 1, 1) := dk_60 (dk_at dksX3_sumUp_1 23 rfl rfl)
theorem dX3_sumUp_47 : decode cX3_sumUp 47 = .ok (.aload_n 0, 1) := dk_42 (dk_at dksX3_sumUp_2 0 rfl rfl)
theorem dX3_sumUp_48 : decode cX3_sumUp 48 = .ok (.invokevirtual 221, 3) := dk_182 0 221 (dk_at dksX3_sumUp_2 1 rfl rfl)
theorem dX3_sumUp_51 : decode cX3_sumUp 51 = .ok (.aload_n 0, 1) := dk_42 (dk_at dksX3_sumUp_2 4 rfl rfl)
theorem dX3_sumUp_52 : decode cX3_sumUp 52 = .ok (.invokevirtual 230, 3) := dk_182 0 230 (dk_at dksX3_sumUp_2 5 rfl rfl)
theorem dX3_sumUp_55 : decode cX3_sumUp 55 = .ok (.ifCond .ne 5, 3) := dk_154 0 5 (dk_at dksX3_sumUp_2 8 rfl rfl)
theorem dX3_sumUp_58 : decode cX3_sumUp 58 = .ok (.iconst 0, 1) := dk_3 (dk_at dksX3_sumUp_2 11 rfl rfl)
theorem dX3_sumUp_59 : decode cX3_sumUp 59 = .ok (.ireturn, 1) := dk_172 (dk_at dksX3_sumUp_2 12 rfl rfl)
theorem dX3_sumUp_60 : decode cX3_sumUp 60 = .ok (.aload_n 0, 1) := dk_42 (dk_at dksX3_sumUp_2 13 rfl rfl)
theorem dX3_sumUp_61 : decode cX3_sumUp 61 = .ok (.iload_n 1, 1) := dk_27 (dk_at dksX3_sumUp_2 14 rfl rfl)
theorem dX3_sumUp_62 : decode cX3_sumUp 62 = .ok (.iconst 0, 1) := dk_3 (dk_at dksX3_sumUp_2 15 rfl rfl)
theorem dX3_sumUp_63 : decode cX3_sumUp 63 = .ok (.invokevirtual 234, 3) := dk_182 0 234 (dk_at dksX3_sumUp_2 16 rfl rfl)
theorem dX3_sumUp_66 : decode cX3_sumUp 66 = .ok (.goto (-57), 3) := dk_167 255 199 (dk_at dksX3_sumUp_2 19 rfl rfl)
theorem dX3_sumUp_69 : decode cX3_sumUp 69 = .ok (.iconst 1, 1) := dk_4 (dk_at dksX3_sumUp_2 22 rfl rfl)
theorem dX3_sumUp_70 : decode cX3_sumUp 70 = .ok (.ireturn, 1) := dk_172 (dk_at dksX3_sumUp_2 23 rfl rfl)
abbrev cX3_product : ByteArray := prog_14_method_37_code
def yX3_product : MethodName := ⟨RX3, "product", "()Z"⟩
def dkwX3_product_5 : List UInt8 := [167, 255, 153, 4, 172]
abbrev dktX3_product_5 : List UInt8 := dkwX3_product_5 ++ []
def dkwX3_product_4 : List UInt8 := [182, 0, 234, 167, 0, 19, 42, 182, 0, 238, 154, 0, 5, 3, 172, 42, 16, 25, 3, 182, 0, 234]
abbrev dktX3_product_4 : List UInt8 := dkwX3_product_4 ++ dktX3_product_5
def dkwX3_product_3 : List UInt8 := [182, 0, 218, 172, 28, 154, 0, 9, 42, 5, 182, 0, 218, 172, 42, 182, 0, 221, 42, 16, 26, 28]
abbrev dktX3_product_3 : List UInt8 := dkwX3_product_3 ++ dktX3_product_4
def dkwX3_product_2 : List UInt8 := [182, 0, 221, 27, 153, 0, 46, 42, 180, 0, 209, 61, 42, 180, 0, 197, 5, 159, 0, 9, 42, 4]
abbrev dktX3_product_2 : List UInt8 := dkwX3_product_2 ++ dktX3_product_3
def dkwX3_product_1 : List UInt8 := [17, 0, 147, 160, 0, 89, 42, 180, 0, 197, 17, 0, 147, 160, 0, 7, 4, 167, 0, 4, 3, 60, 42]
abbrev dktX3_product_1 : List UInt8 := dkwX3_product_1 ++ dktX3_product_2
def dkwX3_product_0 : List UInt8 := [42, 182, 0, 238, 154, 0, 5, 3, 172, 42, 180, 0, 197, 17, 0, 142, 159, 0, 13, 42, 180, 0, 197]
abbrev dktX3_product_0 : List UInt8 := dkwX3_product_0 ++ dktX3_product_1
theorem dksX3_product_0 : cX3_product.data.toList.drop 0 = dktX3_product_0 := by decide +kernel
theorem dksX3_product_1 : cX3_product.data.toList.drop 23 = dktX3_product_1 := dk_seg dksX3_product_0 23 rfl rfl
theorem dksX3_product_2 : cX3_product.data.toList.drop 46 = dktX3_product_2 := dk_seg dksX3_product_1 23 rfl rfl
theorem dksX3_product_3 : cX3_product.data.toList.drop 68 = dktX3_product_3 := dk_seg dksX3_product_2 22 rfl rfl
theorem dksX3_product_4 : cX3_product.data.toList.drop 90 = dktX3_product_4 := dk_seg dksX3_product_3 22 rfl rfl
theorem dksX3_product_5 : cX3_product.data.toList.drop 112 = dktX3_product_5 := dk_seg dksX3_product_4 22 rfl rfl
theorem dX3_product_0 : decode cX3_product 0 = .ok (.aload_n 0, 1) := dk_42 (dk_at dksX3_product_0 0 rfl rfl)
theorem dX3_product_1 : decode cX3_product 1 = .ok (.invokevirtual 238, 3) := dk_182 0 238 (dk_at dksX3_product_0 1 rfl rfl)
theorem dX3_product_4 : decode cX3_product 4 = .ok (.ifCond .ne 5, 3) := dk_154 0 5 (dk_at dksX3_product_0 4 rfl rfl)
theorem dX3_product_7 : decode cX3_product 7 = .ok (.iconst 0, 1) := dk_3 (dk_at dksX3_product_0 7 rfl rfl)
theorem dX3_product_8 : decode cX3_product 8 = .ok (.ireturn, 1) := dk_172 (dk_at dksX3_product_0 8 rfl rfl)
theorem dX3_product_9 : decode cX3_product 9 = .ok (.aload_n 0, 1) := dk_42 (dk_at dksX3_product_0 9 rfl rfl)
theorem dX3_product_10 : decode cX3_product 10 = .ok (.getfield 197, 3) := dk_180 0 197 (dk_at dksX3_product_0 10 rfl rfl)
theorem dX3_product_13 : decode cX3_product 13 = .ok (.sipush 142, 3) := dk_17 0 142 (dk_at dksX3_product_0 13 rfl rfl)
theorem dX3_product_16 : decode cX3_product 16 = .ok (.if_icmp .eq 13, 3) := dk_159 0 13 (dk_at dksX3_product_0 16 rfl rfl)
theorem dX3_product_19 : decode cX3_product 19 = .ok (.aload_n 0, 1) := dk_42 (dk_at dksX3_product_0 19 rfl rfl)
theorem dX3_product_20 : decode cX3_product 20 = .ok (.getfield 197, 3) := dk_180 0 197 (dk_at dksX3_product_0 20 rfl rfl)
theorem dX3_product_23 : decode cX3_product 23 = .ok (.sipush 147, 3) := dk_17 0 147 (dk_at dksX3_product_1 0 rfl rfl)
theorem dX3_product_26 : decode cX3_product 26 = .ok (.if_icmp .ne 89, 3) := dk_160 0 89 (dk_at dksX3_product_1 3 rfl rfl)
theorem dX3_product_29 : decode cX3_product 29 = .ok (.aload_n 0, 1) := dk_42 (dk_at dksX3_product_1 6 rfl rfl)
theorem dX3_product_30 : decode cX3_product 30 = .ok (.getfield 197, 3) := dk_180 0 197 (dk_at dksX3_product_1 7 rfl rfl)
theorem dX3_product_33 : decode cX3_product 33 = .ok (.sipush 147, 3) := dk_17 0 147 (dk_at dksX3_product_1 10 rfl rfl)
theorem dX3_product_36 : decode cX3_product 36 = .ok (.if_icmp .ne 7, 3) := dk_160 0 7 (dk_at dksX3_product_1 13 rfl rfl)
theorem dX3_product_39 : decode cX3_product 39 = .ok (.iconst 1, 1) := dk_4 (dk_at dksX3_product_1 16 rfl rfl)
theorem dX3_product_40 : decode cX3_product 40 = .ok (.goto 4, 3) := dk_167 0 4 (dk_at dksX3_product_1 17 rfl rfl)
theorem dX3_product_43 : decode cX3_product 43 = .ok (.iconst 0, 1) := dk_3 (dk_at dksX3_product_1 20 rfl rfl)
theorem dX3_product_44 : decode cX3_product 44 = .ok (.istore_n 1, 1) := dk_60 (dk_at dksX3_product_1 21 rfl rfl)
theorem dX3_product_45 : decode cX3_product 45 = .ok (.aload_n 0, 1) := dk_42 (dk_at dksX3_product_1 22 rfl rfl)
theorem dX3_product_46 : decode cX3_product 46 = .ok (.invokevirtual 221, 3) := dk_182 0 221 (dk_at dksX3_product_2 0 rfl rfl)
theorem dX3_product_49 : decode cX3_product 49 = .ok (.iload_n 1, 1) := dk_27 (dk_at dksX3_product_2 3 rfl rfl)
theorem dX3_product_50 : decode cX3_product 50 = .ok (.ifCond .eq 46, 3) := dk_153 0 46 (dk_at dksX3_product_2 4 rfl rfl)
theorem dX3_product_53 : decode cX3_product 53 = .ok (.aload_n 0, 1) := dk_42 (dk_at dksX3_product_2 7 rfl rfl)
theorem dX3_product_54 : decode cX3_product 54 = .ok (.getfield 209, 3) := dk_180 0 209 (dk_at dksX3_product_2 8 rfl rfl)
theorem dX3_product_57 : decode cX3_product 57 = .ok (.istore_n 2, 1) := dk_61 (dk_at dksX3_product_2 11 rfl rfl)
theorem dX3_product_58 : decode cX3_product 58 = .ok (.aload_n 0, 1) := dk_42 (dk_at dksX3_product_2 12 rfl rfl)
theorem dX3_product_59 : decode cX3_product 59 = .ok (.getfield 197, 3) := dk_180 0 197 (dk_at dksX3_product_2 13 rfl rfl)
theorem dX3_product_62 : decode cX3_product 62 = .ok (.iconst 2, 1) := dk_5 (dk_at dksX3_product_2 16 rfl rfl)
theorem dX3_product_63 : decode cX3_product 63 = .ok (.if_icmp .eq 9, 3) := dk_159 0 9 (dk_at dksX3_product_2 17 rfl rfl)
theorem dX3_product_66 : decode cX3_product 66 = .ok (.aload_n 0, 1) := dk_42 (dk_at dksX3_product_2 20 rfl rfl)
theorem dX3_product_67 : decode cX3_product 67 = .ok (.iconst 1, 1) := dk_4 (dk_at dksX3_product_2 21 rfl rfl)
theorem dX3_product_68 : decode cX3_product 68 = .ok (.invokevirtual 218, 3) := dk_182 0 218 (dk_at dksX3_product_3 0 rfl rfl)
theorem dX3_product_71 : decode cX3_product 71 = .ok (.ireturn, 1) := dk_172 (dk_at dksX3_product_3 3 rfl rfl)
theorem dX3_product_72 : decode cX3_product 72 = .ok (.iload_n 2, 1) := dk_28 (dk_at dksX3_product_3 4 rfl rfl)
theorem dX3_product_73 : decode cX3_product 73 = .ok (.ifCond .ne 9, 3) := dk_154 0 9 (dk_at dksX3_product_3 5 rfl rfl)
theorem dX3_product_76 : decode cX3_product 76 = .ok (.aload_n 0, 1) := dk_42 (dk_at dksX3_product_3 8 rfl rfl)
theorem dX3_product_77 : decode cX3_product 77 = .ok (.iconst 2, 1) := dk_5 (dk_at dksX3_product_3 9 rfl rfl)
theorem dX3_product_78 : decode cX3_product 78 = .ok (.invokevirtual 218, 3) := dk_182 0 218 (dk_at dksX3_product_3 10 rfl rfl)
theorem dX3_product_81 : decode cX3_product 81 = .ok (.ireturn, 1) := dk_172 (dk_at dksX3_product_3 13 rfl rfl)
theorem dX3_product_82 : decode cX3_product 82 = .ok (.aload_n 0, 1) := dk_42 (dk_at dksX3_product_3 14 rfl rfl)
theorem dX3_product_83 : decode cX3_product 83 = .ok (.invokevirtual 221, 3) := dk_182 0 221 (dk_at dksX3_product_3 15 rfl rfl)
theorem dX3_product_86 : decode cX3_product 86 = .ok (.aload_n 0, 1) := dk_42 (dk_at dksX3_product_3 18 rfl rfl)
theorem dX3_product_87 : decode cX3_product 87 = .ok (.bipush 26, 2) := dk_16 26 (dk_at dksX3_product_3 19 rfl rfl)
theorem dX3_product_89 : decode cX3_product 89 = .ok (.iload_n 2, 1) := dk_28 (dk_at dksX3_product_3 21 rfl rfl)
theorem dX3_product_90 : decode cX3_product 90 = .ok (.invokevirtual 234, 3) := dk_182 0 234 (dk_at dksX3_product_4 0 rfl rfl)
theorem dX3_product_93 : decode cX3_product 93 = .ok (.goto 19, 3) := dk_167 0 19 (dk_at dksX3_product_4 3 rfl rfl)
theorem dX3_product_96 : decode cX3_product 96 = .ok (.aload_n 0, 1) := dk_42 (dk_at dksX3_product_4 6 rfl rfl)
theorem dX3_product_97 : decode cX3_product 97 = .ok (.invokevirtual 238, 3) := dk_182 0 238 (dk_at dksX3_product_4 7 rfl rfl)
theorem dX3_product_100 : decode cX3_product 100 = .ok (.ifCond .ne 5, 3) := dk_154 0 5 (dk_at dksX3_product_4 10 rfl rfl)
theorem dX3_product_103 : decode cX3_product 103 = .ok (.iconst 0, 1) := dk_3 (dk_at dksX3_product_4 13 rfl rfl)
theorem dX3_product_104 : decode cX3_product 104 = .ok (.ireturn, 1) := dk_172 (dk_at dksX3_product_4 14 rfl rfl)
theorem dX3_product_105 : decode cX3_product 105 = .ok (.aload_n 0, 1) := dk_42 (dk_at dksX3_product_4 15 rfl rfl)
theorem dX3_product_106 : decode cX3_product 106 = .ok (.bipush 25, 2) := dk_16 25 (dk_at dksX3_product_4 16 rfl rfl)
theorem dX3_product_108 : decode cX3_product 108 = .ok (.iconst 0, 1) := dk_3 (dk_at dksX3_product_4 18 rfl rfl)
theorem dX3_product_109 : decode cX3_product 109 = .ok (.invokevirtual 234, 3) := dk_182 0 234 (dk_at dksX3_product_4 19 rfl rfl)
theorem dX3_product_112 : decode cX3_product 112 = .ok (.goto (-103), 3) := dk_167 255 153 (dk_at dksX3_product_5 0 rfl rfl)
theorem dX3_product_115 : decode cX3_product 115 = .ok (.iconst 1, 1) := dk_4 (dk_at dksX3_product_5 3 rfl rfl)
theorem dX3_product_116 : decode cX3_product 116 = .ok (.ireturn, 1) := dk_172 (dk_at dksX3_product_5 4 rfl rfl)
abbrev cX3_unit : ByteArray := prog_14_method_38_code
def yX3_unit : MethodName := ⟨RX3, "unit", "()Z"⟩
def dkwX3_unit_2 : List UInt8 := [180, 0, 209, 182, 0, 234, 42, 182, 0, 221, 4, 172]
abbrev dktX3_unit_2 : List UInt8 := dkwX3_unit_2 ++ []
def dkwX3_unit_1 : List UInt8 := [42, 4, 182, 0, 218, 172, 42, 27, 153, 0, 13, 42, 180, 0, 197, 16, 40, 100, 167, 0, 4, 3, 42]
abbrev dktX3_unit_1 : List UInt8 := dkwX3_unit_1 ++ dktX3_unit_2
def dkwX3_unit_0 : List UInt8 := [42, 180, 0, 197, 16, 41, 16, 50, 184, 0, 77, 60, 42, 180, 0, 197, 5, 159, 0, 13, 27, 154, 0, 9]
abbrev dktX3_unit_0 : List UInt8 := dkwX3_unit_0 ++ dktX3_unit_1
theorem dksX3_unit_0 : cX3_unit.data.toList.drop 0 = dktX3_unit_0 := by decide +kernel
theorem dksX3_unit_1 : cX3_unit.data.toList.drop 24 = dktX3_unit_1 := dk_seg dksX3_unit_0 24 rfl rfl
theorem dksX3_unit_2 : cX3_unit.data.toList.drop 47 = dktX3_unit_2 := dk_seg dksX3_unit_1 23 rfl rfl
theorem dX3_unit_0 : decode cX3_unit 0 = .ok (.aload_n 0, 1) := dk_42 (dk_at dksX3_unit_0 0 rfl rfl)
theorem dX3_unit_1 : decode cX3_unit 1 = .ok (.getfield 197, 3) := dk_180 0 197 (dk_at dksX3_unit_0 1 rfl rfl)
theorem dX3_unit_4 : decode cX3_unit 4 = .ok (.bipush 41, 2) := dk_16 41 (dk_at dksX3_unit_0 4 rfl rfl)
theorem dX3_unit_6 : decode cX3_unit 6 = .ok (.bipush 50, 2) := dk_16 50 (dk_at dksX3_unit_0 6 rfl rfl)
theorem dX3_unit_8 : decode cX3_unit 8 = .ok (.invokestatic 77, 3) := dk_184 0 77 (dk_at dksX3_unit_0 8 rfl rfl)
theorem dX3_unit_11 : decode cX3_unit 11 = .ok (.istore_n 1, 1) := dk_60 (dk_at dksX3_unit_0 11 rfl rfl)
theorem dX3_unit_12 : decode cX3_unit 12 = .ok (.aload_n 0, 1) := dk_42 (dk_at dksX3_unit_0 12 rfl rfl)
theorem dX3_unit_13 : decode cX3_unit 13 = .ok (.getfield 197, 3) := dk_180 0 197 (dk_at dksX3_unit_0 13 rfl rfl)
theorem dX3_unit_16 : decode cX3_unit 16 = .ok (.iconst 2, 1) := dk_5 (dk_at dksX3_unit_0 16 rfl rfl)
theorem dX3_unit_17 : decode cX3_unit 17 = .ok (.if_icmp .eq 13, 3) := dk_159 0 13 (dk_at dksX3_unit_0 17 rfl rfl)
theorem dX3_unit_20 : decode cX3_unit 20 = .ok (.iload_n 1, 1) := dk_27 (dk_at dksX3_unit_0 20 rfl rfl)
theorem dX3_unit_21 : decode cX3_unit 21 = .ok (.ifCond .ne 9, 3) := dk_154 0 9 (dk_at dksX3_unit_0 21 rfl rfl)
theorem dX3_unit_24 : decode cX3_unit 24 = .ok (.aload_n 0, 1) := dk_42 (dk_at dksX3_unit_1 0 rfl rfl)
theorem dX3_unit_25 : decode cX3_unit 25 = .ok (.iconst 1, 1) := dk_4 (dk_at dksX3_unit_1 1 rfl rfl)
theorem dX3_unit_26 : decode cX3_unit 26 = .ok (.invokevirtual 218, 3) := dk_182 0 218 (dk_at dksX3_unit_1 2 rfl rfl)
theorem dX3_unit_29 : decode cX3_unit 29 = .ok (.ireturn, 1) := dk_172 (dk_at dksX3_unit_1 5 rfl rfl)
theorem dX3_unit_30 : decode cX3_unit 30 = .ok (.aload_n 0, 1) := dk_42 (dk_at dksX3_unit_1 6 rfl rfl)
theorem dX3_unit_31 : decode cX3_unit 31 = .ok (.iload_n 1, 1) := dk_27 (dk_at dksX3_unit_1 7 rfl rfl)
theorem dX3_unit_32 : decode cX3_unit 32 = .ok (.ifCond .eq 13, 3) := dk_153 0 13 (dk_at dksX3_unit_1 8 rfl rfl)
theorem dX3_unit_35 : decode cX3_unit 35 = .ok (.aload_n 0, 1) := dk_42 (dk_at dksX3_unit_1 11 rfl rfl)
theorem dX3_unit_36 : decode cX3_unit 36 = .ok (.getfield 197, 3) := dk_180 0 197 (dk_at dksX3_unit_1 12 rfl rfl)
theorem dX3_unit_39 : decode cX3_unit 39 = .ok (.bipush 40, 2) := dk_16 40 (dk_at dksX3_unit_1 15 rfl rfl)
theorem dX3_unit_41 : decode cX3_unit 41 = .ok (.isub, 1) := dk_100 (dk_at dksX3_unit_1 17 rfl rfl)
theorem dX3_unit_42 : decode cX3_unit 42 = .ok (.goto 4, 3) := dk_167 0 4 (dk_at dksX3_unit_1 18 rfl rfl)
theorem dX3_unit_45 : decode cX3_unit 45 = .ok (.iconst 0, 1) := dk_3 (dk_at dksX3_unit_1 21 rfl rfl)
theorem dX3_unit_46 : decode cX3_unit 46 = .ok (.aload_n 0, 1) := dk_42 (dk_at dksX3_unit_1 22 rfl rfl)
theorem dX3_unit_47 : decode cX3_unit 47 = .ok (.getfield 209, 3) := dk_180 0 209 (dk_at dksX3_unit_2 0 rfl rfl)
theorem dX3_unit_50 : decode cX3_unit 50 = .ok (.invokevirtual 234, 3) := dk_182 0 234 (dk_at dksX3_unit_2 3 rfl rfl)
theorem dX3_unit_53 : decode cX3_unit 53 = .ok (.aload_n 0, 1) := dk_42 (dk_at dksX3_unit_2 6 rfl rfl)
theorem dX3_unit_54 : decode cX3_unit 54 = .ok (.invokevirtual 221, 3) := dk_182 0 221 (dk_at dksX3_unit_2 7 rfl rfl)
theorem dX3_unit_57 : decode cX3_unit 57 = .ok (.iconst 1, 1) := dk_4 (dk_at dksX3_unit_2 10 rfl rfl)
theorem dX3_unit_58 : decode cX3_unit 58 = .ok (.ireturn, 1) := dk_172 (dk_at dksX3_unit_2 11 rfl rfl)
abbrev cX3_lay : ByteArray := prog_14_method_34_code
def yX3_lay : MethodName := ⟨RX3, "lay", "(II)V"⟩
def dkwX3_lay_1 : List UInt8 := [28, 79, 42, 89, 180, 0, 224, 4, 96, 181, 0, 224, 177]
abbrev dktX3_lay_1 : List UInt8 := dkwX3_lay_1 ++ []
def dkwX3_lay_0 : List UInt8 := [42, 180, 0, 25, 5, 42, 180, 0, 224, 104, 27, 79, 42, 180, 0, 25, 5, 42, 180, 0, 224, 104, 4, 96]
abbrev dktX3_lay_0 : List UInt8 := dkwX3_lay_0 ++ dktX3_lay_1
theorem dksX3_lay_0 : cX3_lay.data.toList.drop 0 = dktX3_lay_0 := by decide +kernel
theorem dksX3_lay_1 : cX3_lay.data.toList.drop 24 = dktX3_lay_1 := dk_seg dksX3_lay_0 24 rfl rfl
theorem dX3_lay_0 : decode cX3_lay 0 = .ok (.aload_n 0, 1) := dk_42 (dk_at dksX3_lay_0 0 rfl rfl)
theorem dX3_lay_1 : decode cX3_lay 1 = .ok (.getfield 25, 3) := dk_180 0 25 (dk_at dksX3_lay_0 1 rfl rfl)
theorem dX3_lay_4 : decode cX3_lay 4 = .ok (.iconst 2, 1) := dk_5 (dk_at dksX3_lay_0 4 rfl rfl)
theorem dX3_lay_5 : decode cX3_lay 5 = .ok (.aload_n 0, 1) := dk_42 (dk_at dksX3_lay_0 5 rfl rfl)
theorem dX3_lay_6 : decode cX3_lay 6 = .ok (.getfield 224, 3) := dk_180 0 224 (dk_at dksX3_lay_0 6 rfl rfl)
theorem dX3_lay_9 : decode cX3_lay 9 = .ok (.imul, 1) := dk_104 (dk_at dksX3_lay_0 9 rfl rfl)
theorem dX3_lay_10 : decode cX3_lay 10 = .ok (.iload_n 1, 1) := dk_27 (dk_at dksX3_lay_0 10 rfl rfl)
theorem dX3_lay_11 : decode cX3_lay 11 = .ok (.iastore, 1) := dk_79 (dk_at dksX3_lay_0 11 rfl rfl)
theorem dX3_lay_12 : decode cX3_lay 12 = .ok (.aload_n 0, 1) := dk_42 (dk_at dksX3_lay_0 12 rfl rfl)
theorem dX3_lay_13 : decode cX3_lay 13 = .ok (.getfield 25, 3) := dk_180 0 25 (dk_at dksX3_lay_0 13 rfl rfl)
theorem dX3_lay_16 : decode cX3_lay 16 = .ok (.iconst 2, 1) := dk_5 (dk_at dksX3_lay_0 16 rfl rfl)
theorem dX3_lay_17 : decode cX3_lay 17 = .ok (.aload_n 0, 1) := dk_42 (dk_at dksX3_lay_0 17 rfl rfl)
theorem dX3_lay_18 : decode cX3_lay 18 = .ok (.getfield 224, 3) := dk_180 0 224 (dk_at dksX3_lay_0 18 rfl rfl)
theorem dX3_lay_21 : decode cX3_lay 21 = .ok (.imul, 1) := dk_104 (dk_at dksX3_lay_0 21 rfl rfl)
theorem dX3_lay_22 : decode cX3_lay 22 = .ok (.iconst 1, 1) := dk_4 (dk_at dksX3_lay_0 22 rfl rfl)
theorem dX3_lay_23 : decode cX3_lay 23 = .ok (.iadd, 1) := dk_96 (dk_at dksX3_lay_0 23 rfl rfl)
theorem dX3_lay_24 : decode cX3_lay 24 = .ok (.iload_n 2, 1) := dk_28 (dk_at dksX3_lay_1 0 rfl rfl)
theorem dX3_lay_25 : decode cX3_lay 25 = .ok (.iastore, 1) := dk_79 (dk_at dksX3_lay_1 1 rfl rfl)
theorem dX3_lay_26 : decode cX3_lay 26 = .ok (.aload_n 0, 1) := dk_42 (dk_at dksX3_lay_1 2 rfl rfl)
theorem dX3_lay_27 : decode cX3_lay 27 = .ok (.dup, 1) := dk_89 (dk_at dksX3_lay_1 3 rfl rfl)
theorem dX3_lay_28 : decode cX3_lay 28 = .ok (.getfield 224, 3) := dk_180 0 224 (dk_at dksX3_lay_1 4 rfl rfl)
theorem dX3_lay_31 : decode cX3_lay 31 = .ok (.iconst 1, 1) := dk_4 (dk_at dksX3_lay_1 7 rfl rfl)
theorem dX3_lay_32 : decode cX3_lay 32 = .ok (.iadd, 1) := dk_96 (dk_at dksX3_lay_1 8 rfl rfl)
theorem dX3_lay_33 : decode cX3_lay 33 = .ok (.putfield 224, 3) := dk_181 0 224 (dk_at dksX3_lay_1 9 rfl rfl)
theorem dX3_lay_36 : decode cX3_lay 36 = .ok (.return_, 1) := dk_177 (dk_at dksX3_lay_1 12 rfl rfl)
abbrev cX3_any : ByteArray := prog_14_method_39_code
def yX3_any : MethodName := ⟨RX3, "any", "()Z"⟩
def dkwX3_any_1 : List UInt8 := [182, 0, 241, 154, 0, 5, 3, 172, 42, 16, 32, 3, 182, 0, 234, 167, 255, 228, 4, 172]
abbrev dktX3_any_1 : List UInt8 := dkwX3_any_1 ++ []
def dkwX3_any_0 : List UInt8 := [42, 182, 0, 241, 154, 0, 5, 3, 172, 42, 180, 0, 197, 7, 160, 0, 26, 42, 182, 0, 221, 42]
abbrev dktX3_any_0 : List UInt8 := dkwX3_any_0 ++ dktX3_any_1
theorem dksX3_any_0 : cX3_any.data.toList.drop 0 = dktX3_any_0 := by decide +kernel
theorem dksX3_any_1 : cX3_any.data.toList.drop 22 = dktX3_any_1 := dk_seg dksX3_any_0 22 rfl rfl
theorem dX3_any_0 : decode cX3_any 0 = .ok (.aload_n 0, 1) := dk_42 (dk_at dksX3_any_0 0 rfl rfl)
theorem dX3_any_1 : decode cX3_any 1 = .ok (.invokevirtual 241, 3) := dk_182 0 241 (dk_at dksX3_any_0 1 rfl rfl)
theorem dX3_any_4 : decode cX3_any 4 = .ok (.ifCond .ne 5, 3) := dk_154 0 5 (dk_at dksX3_any_0 4 rfl rfl)
theorem dX3_any_7 : decode cX3_any 7 = .ok (.iconst 0, 1) := dk_3 (dk_at dksX3_any_0 7 rfl rfl)
theorem dX3_any_8 : decode cX3_any 8 = .ok (.ireturn, 1) := dk_172 (dk_at dksX3_any_0 8 rfl rfl)
theorem dX3_any_9 : decode cX3_any 9 = .ok (.aload_n 0, 1) := dk_42 (dk_at dksX3_any_0 9 rfl rfl)
theorem dX3_any_10 : decode cX3_any 10 = .ok (.getfield 197, 3) := dk_180 0 197 (dk_at dksX3_any_0 10 rfl rfl)
theorem dX3_any_13 : decode cX3_any 13 = .ok (.iconst 4, 1) := dk_7 (dk_at dksX3_any_0 13 rfl rfl)
theorem dX3_any_14 : decode cX3_any 14 = .ok (.if_icmp .ne 26, 3) := dk_160 0 26 (dk_at dksX3_any_0 14 rfl rfl)
theorem dX3_any_17 : decode cX3_any 17 = .ok (.aload_n 0, 1) := dk_42 (dk_at dksX3_any_0 17 rfl rfl)
theorem dX3_any_18 : decode cX3_any 18 = .ok (.invokevirtual 221, 3) := dk_182 0 221 (dk_at dksX3_any_0 18 rfl rfl)
theorem dX3_any_21 : decode cX3_any 21 = .ok (.aload_n 0, 1) := dk_42 (dk_at dksX3_any_0 21 rfl rfl)
theorem dX3_any_22 : decode cX3_any 22 = .ok (.invokevirtual 241, 3) := dk_182 0 241 (dk_at dksX3_any_1 0 rfl rfl)
theorem dX3_any_25 : decode cX3_any 25 = .ok (.ifCond .ne 5, 3) := dk_154 0 5 (dk_at dksX3_any_1 3 rfl rfl)
theorem dX3_any_28 : decode cX3_any 28 = .ok (.iconst 0, 1) := dk_3 (dk_at dksX3_any_1 6 rfl rfl)
theorem dX3_any_29 : decode cX3_any 29 = .ok (.ireturn, 1) := dk_172 (dk_at dksX3_any_1 7 rfl rfl)
theorem dX3_any_30 : decode cX3_any 30 = .ok (.aload_n 0, 1) := dk_42 (dk_at dksX3_any_1 8 rfl rfl)
theorem dX3_any_31 : decode cX3_any 31 = .ok (.bipush 32, 2) := dk_16 32 (dk_at dksX3_any_1 9 rfl rfl)
theorem dX3_any_33 : decode cX3_any 33 = .ok (.iconst 0, 1) := dk_3 (dk_at dksX3_any_1 11 rfl rfl)
theorem dX3_any_34 : decode cX3_any 34 = .ok (.invokevirtual 234, 3) := dk_182 0 234 (dk_at dksX3_any_1 12 rfl rfl)
theorem dX3_any_37 : decode cX3_any 37 = .ok (.goto (-28), 3) := dk_167 255 228 (dk_at dksX3_any_1 15 rfl rfl)
theorem dX3_any_40 : decode cX3_any 40 = .ok (.iconst 1, 1) := dk_4 (dk_at dksX3_any_1 18 rfl rfl)
theorem dX3_any_41 : decode cX3_any 41 = .ok (.ireturn, 1) := dk_172 (dk_at dksX3_any_1 19 rfl rfl)
abbrev cX3_every : ByteArray := prog_14_method_40_code
def yX3_every : MethodName := ⟨RX3, "every", "()Z"⟩
def dkwX3_every_1 : List UInt8 := [182, 0, 244, 154, 0, 5, 3, 172, 42, 16, 31, 3, 182, 0, 234, 167, 255, 228, 4, 172]
abbrev dktX3_every_1 : List UInt8 := dkwX3_every_1 ++ []
def dkwX3_every_0 : List UInt8 := [42, 182, 0, 244, 154, 0, 5, 3, 172, 42, 180, 0, 197, 8, 160, 0, 26, 42, 182, 0, 221, 42]
abbrev dktX3_every_0 : List UInt8 := dkwX3_every_0 ++ dktX3_every_1
theorem dksX3_every_0 : cX3_every.data.toList.drop 0 = dktX3_every_0 := by decide +kernel
theorem dksX3_every_1 : cX3_every.data.toList.drop 22 = dktX3_every_1 := dk_seg dksX3_every_0 22 rfl rfl
theorem dX3_every_0 : decode cX3_every 0 = .ok (.aload_n 0, 1) := dk_42 (dk_at dksX3_every_0 0 rfl rfl)
theorem dX3_every_1 : decode cX3_every 1 = .ok (.invokevirtual 244, 3) := dk_182 0 244 (dk_at dksX3_every_0 1 rfl rfl)
theorem dX3_every_4 : decode cX3_every 4 = .ok (.ifCond .ne 5, 3) := dk_154 0 5 (dk_at dksX3_every_0 4 rfl rfl)
theorem dX3_every_7 : decode cX3_every 7 = .ok (.iconst 0, 1) := dk_3 (dk_at dksX3_every_0 7 rfl rfl)
theorem dX3_every_8 : decode cX3_every 8 = .ok (.ireturn, 1) := dk_172 (dk_at dksX3_every_0 8 rfl rfl)
theorem dX3_every_9 : decode cX3_every 9 = .ok (.aload_n 0, 1) := dk_42 (dk_at dksX3_every_0 9 rfl rfl)
theorem dX3_every_10 : decode cX3_every 10 = .ok (.getfield 197, 3) := dk_180 0 197 (dk_at dksX3_every_0 10 rfl rfl)
theorem dX3_every_13 : decode cX3_every 13 = .ok (.iconst 5, 1) := dk_8 (dk_at dksX3_every_0 13 rfl rfl)
theorem dX3_every_14 : decode cX3_every 14 = .ok (.if_icmp .ne 26, 3) := dk_160 0 26 (dk_at dksX3_every_0 14 rfl rfl)
theorem dX3_every_17 : decode cX3_every 17 = .ok (.aload_n 0, 1) := dk_42 (dk_at dksX3_every_0 17 rfl rfl)
theorem dX3_every_18 : decode cX3_every 18 = .ok (.invokevirtual 221, 3) := dk_182 0 221 (dk_at dksX3_every_0 18 rfl rfl)
theorem dX3_every_21 : decode cX3_every 21 = .ok (.aload_n 0, 1) := dk_42 (dk_at dksX3_every_0 21 rfl rfl)
theorem dX3_every_22 : decode cX3_every 22 = .ok (.invokevirtual 244, 3) := dk_182 0 244 (dk_at dksX3_every_1 0 rfl rfl)
theorem dX3_every_25 : decode cX3_every 25 = .ok (.ifCond .ne 5, 3) := dk_154 0 5 (dk_at dksX3_every_1 3 rfl rfl)
theorem dX3_every_28 : decode cX3_every 28 = .ok (.iconst 0, 1) := dk_3 (dk_at dksX3_every_1 6 rfl rfl)
theorem dX3_every_29 : decode cX3_every 29 = .ok (.ireturn, 1) := dk_172 (dk_at dksX3_every_1 7 rfl rfl)
theorem dX3_every_30 : decode cX3_every 30 = .ok (.aload_n 0, 1) := dk_42 (dk_at dksX3_every_1 8 rfl rfl)
theorem dX3_every_31 : decode cX3_every 31 = .ok (.bipush 31, 2) := dk_16 31 (dk_at dksX3_every_1 9 rfl rfl)
theorem dX3_every_33 : decode cX3_every 33 = .ok (.iconst 0, 1) := dk_3 (dk_at dksX3_every_1 11 rfl rfl)
theorem dX3_every_34 : decode cX3_every 34 = .ok (.invokevirtual 234, 3) := dk_182 0 234 (dk_at dksX3_every_1 12 rfl rfl)
theorem dX3_every_37 : decode cX3_every 37 = .ok (.goto (-28), 3) := dk_167 255 228 (dk_at dksX3_every_1 15 rfl rfl)
theorem dX3_every_40 : decode cX3_every 40 = .ok (.iconst 1, 1) := dk_4 (dk_at dksX3_every_1 18 rfl rfl)
theorem dX3_every_41 : decode cX3_every 41 = .ok (.ireturn, 1) := dk_172 (dk_at dksX3_every_1 19 rfl rfl)
abbrev cX3_oneTest : ByteArray := prog_14_method_41_code
def yX3_oneTest : MethodName := ⟨RX3, "oneTest", "()Z"⟩
def dkwX3_oneTest_7 : List UInt8 := [154, 0, 5, 3, 172, 42, 27, 3, 182, 0, 234, 4, 172]
abbrev dktX3_oneTest_7 : List UInt8 := dkwX3_oneTest_7 ++ []
def dkwX3_oneTest_6 : List UInt8 := [167, 0, 4, 2, 60, 27, 2, 160, 0, 9, 42, 4, 182, 0, 218, 172, 42, 182, 0, 221, 42, 182, 1, 0]
abbrev dktX3_oneTest_6 : List UInt8 := dkwX3_oneTest_6 ++ dktX3_oneTest_7
def dkwX3_oneTest_5 : List UInt8 := [17, 0, 161, 160, 0, 8, 16, 28, 167, 0, 19, 42, 180, 0, 197, 17, 0, 162, 160, 0, 8, 16, 29]
abbrev dktX3_oneTest_5 : List UInt8 := dkwX3_oneTest_5 ++ dktX3_oneTest_6
def dkwX3_oneTest_4 : List UInt8 := [154, 0, 5, 3, 172, 42, 180, 0, 197, 17, 0, 160, 160, 0, 8, 16, 27, 167, 0, 34, 42, 180, 0, 197]
abbrev dktX3_oneTest_4 : List UInt8 := dkwX3_oneTest_4 ++ dktX3_oneTest_5
def dkwX3_oneTest_3 : List UInt8 := [182, 0, 253, 154, 0, 5, 3, 172, 42, 89, 180, 0, 227, 4, 100, 181, 0, 227, 4, 172, 42, 182, 1, 0]
abbrev dktX3_oneTest_3 : List UInt8 := dkwX3_oneTest_3 ++ dktX3_oneTest_4
def dkwX3_oneTest_2 : List UInt8 := [17, 0, 140, 160, 0, 41, 42, 182, 0, 247, 153, 0, 20, 42, 182, 0, 250, 153, 0, 13, 42, 17, 0, 141]
abbrev dktX3_oneTest_2 : List UInt8 := dkwX3_oneTest_2 ++ dktX3_oneTest_3
def dkwX3_oneTest_1 : List UInt8 := [172, 42, 89, 180, 0, 227, 4, 100, 181, 0, 227, 42, 16, 30, 3, 182, 0, 234, 4, 172, 42, 180, 0, 197]
abbrev dktX3_oneTest_1 : List UInt8 := dkwX3_oneTest_1 ++ dktX3_oneTest_2
def dkwX3_oneTest_0 : List UInt8 := [42, 180, 0, 197, 16, 6, 160, 0, 38, 42, 182, 0, 247, 153, 0, 10, 42, 182, 0, 244, 154, 0, 5, 3]
abbrev dktX3_oneTest_0 : List UInt8 := dkwX3_oneTest_0 ++ dktX3_oneTest_1
theorem dksX3_oneTest_0 : cX3_oneTest.data.toList.drop 0 = dktX3_oneTest_0 := by decide +kernel
theorem dksX3_oneTest_1 : cX3_oneTest.data.toList.drop 24 = dktX3_oneTest_1 := dk_seg dksX3_oneTest_0 24 rfl rfl
theorem dksX3_oneTest_2 : cX3_oneTest.data.toList.drop 48 = dktX3_oneTest_2 := dk_seg dksX3_oneTest_1 24 rfl rfl
theorem dksX3_oneTest_3 : cX3_oneTest.data.toList.drop 72 = dktX3_oneTest_3 := dk_seg dksX3_oneTest_2 24 rfl rfl
theorem dksX3_oneTest_4 : cX3_oneTest.data.toList.drop 96 = dktX3_oneTest_4 := dk_seg dksX3_oneTest_3 24 rfl rfl
theorem dksX3_oneTest_5 : cX3_oneTest.data.toList.drop 120 = dktX3_oneTest_5 := dk_seg dksX3_oneTest_4 24 rfl rfl
theorem dksX3_oneTest_6 : cX3_oneTest.data.toList.drop 143 = dktX3_oneTest_6 := dk_seg dksX3_oneTest_5 23 rfl rfl
theorem dksX3_oneTest_7 : cX3_oneTest.data.toList.drop 167 = dktX3_oneTest_7 := dk_seg dksX3_oneTest_6 24 rfl rfl
theorem dX3_oneTest_0 : decode cX3_oneTest 0 = .ok (.aload_n 0, 1) := dk_42 (dk_at dksX3_oneTest_0 0 rfl rfl)
theorem dX3_oneTest_1 : decode cX3_oneTest 1 = .ok (.getfield 197, 3) := dk_180 0 197 (dk_at dksX3_oneTest_0 1 rfl rfl)
theorem dX3_oneTest_4 : decode cX3_oneTest 4 = .ok (.bipush 6, 2) := dk_16 6 (dk_at dksX3_oneTest_0 4 rfl rfl)
theorem dX3_oneTest_6 : decode cX3_oneTest 6 = .ok (.if_icmp .ne 38, 3) := dk_160 0 38 (dk_at dksX3_oneTest_0 6 rfl rfl)
theorem dX3_oneTest_9 : decode cX3_oneTest 9 = .ok (.aload_n 0, 1) := dk_42 (dk_at dksX3_oneTest_0 9 rfl rfl)
theorem dX3_oneTest_10 : decode cX3_oneTest 10 = .ok (.invokevirtual 247, 3) := dk_182 0 247 (dk_at dksX3_oneTest_0 10 rfl rfl)
theorem dX3_oneTest_13 : decode cX3_oneTest 13 = .ok (.ifCond .eq 10, 3) := dk_153 0 10 (dk_at dksX3_oneTest_0 13 rfl rfl)
theorem dX3_oneTest_16 : decode cX3_oneTest 16 = .ok (.aload_n 0, 1) := dk_42 (dk_at dksX3_oneTest_0 16 rfl rfl)
theorem dX3_oneTest_17 : decode cX3_oneTest 17 = .ok (.invokevirtual 244, 3) := dk_182 0 244 (dk_at dksX3_oneTest_0 17 rfl rfl)
theorem dX3_oneTest_20 : decode cX3_oneTest 20 = .ok (.ifCond .ne 5, 3) := dk_154 0 5 (dk_at dksX3_oneTest_0 20 rfl rfl)
theorem dX3_oneTest_23 : decode cX3_oneTest 23 = .ok (.iconst 0, 1) := dk_3 (dk_at dksX3_oneTest_0 23 rfl rfl)
theorem dX3_oneTest_24 : decode cX3_oneTest 24 = .ok (.ireturn, 1) := dk_172 (dk_at dksX3_oneTest_1 0 rfl rfl)
theorem dX3_oneTest_25 : decode cX3_oneTest 25 = .ok (.aload_n 0, 1) := dk_42 (dk_at dksX3_oneTest_1 1 rfl rfl)
theorem dX3_oneTest_26 : decode cX3_oneTest 26 = .ok (.dup, 1) := dk_89 (dk_at dksX3_oneTest_1 2 rfl rfl)
theorem dX3_oneTest_27 : decode cX3_oneTest 27 = .ok (.getfield 227, 3) := dk_180 0 227 (dk_at dksX3_oneTest_1 3 rfl rfl)
theorem dX3_oneTest_30 : decode cX3_oneTest 30 = .ok (.iconst 1, 1) := dk_4 (dk_at dksX3_oneTest_1 6 rfl rfl)
theorem dX3_oneTest_31 : decode cX3_oneTest 31 = .ok (.isub, 1) := dk_100 (dk_at dksX3_oneTest_1 7 rfl rfl)
theorem dX3_oneTest_32 : decode cX3_oneTest 32 = .ok (.putfield 227, 3) := dk_181 0 227 (dk_at dksX3_oneTest_1 8 rfl rfl)
theorem dX3_oneTest_35 : decode cX3_oneTest 35 = .ok (.aload_n 0, 1) := dk_42 (dk_at dksX3_oneTest_1 11 rfl rfl)
theorem dX3_oneTest_36 : decode cX3_oneTest 36 = .ok (.bipush 30, 2) := dk_16 30 (dk_at dksX3_oneTest_1 12 rfl rfl)
theorem dX3_oneTest_38 : decode cX3_oneTest 38 = .ok (.iconst 0, 1) := dk_3 (dk_at dksX3_oneTest_1 14 rfl rfl)
theorem dX3_oneTest_39 : decode cX3_oneTest 39 = .ok (.invokevirtual 234, 3) := dk_182 0 234 (dk_at dksX3_oneTest_1 15 rfl rfl)
theorem dX3_oneTest_42 : decode cX3_oneTest 42 = .ok (.iconst 1, 1) := dk_4 (dk_at dksX3_oneTest_1 18 rfl rfl)
theorem dX3_oneTest_43 : decode cX3_oneTest 43 = .ok (.ireturn, 1) := dk_172 (dk_at dksX3_oneTest_1 19 rfl rfl)
theorem dX3_oneTest_44 : decode cX3_oneTest 44 = .ok (.aload_n 0, 1) := dk_42 (dk_at dksX3_oneTest_1 20 rfl rfl)
theorem dX3_oneTest_45 : decode cX3_oneTest 45 = .ok (.getfield 197, 3) := dk_180 0 197 (dk_at dksX3_oneTest_1 21 rfl rfl)
theorem dX3_oneTest_48 : decode cX3_oneTest 48 = .ok (.sipush 140, 3) := dk_17 0 140 (dk_at dksX3_oneTest_2 0 rfl rfl)
theorem dX3_oneTest_51 : decode cX3_oneTest 51 = .ok (.if_icmp .ne 41, 3) := dk_160 0 41 (dk_at dksX3_oneTest_2 3 rfl rfl)
theorem dX3_oneTest_54 : decode cX3_oneTest 54 = .ok (.aload_n 0, 1) := dk_42 (dk_at dksX3_oneTest_2 6 rfl rfl)
theorem dX3_oneTest_55 : decode cX3_oneTest 55 = .ok (.invokevirtual 247, 3) := dk_182 0 247 (dk_at dksX3_oneTest_2 7 rfl rfl)
theorem dX3_oneTest_58 : decode cX3_oneTest 58 = .ok (.ifCond .eq 20, 3) := dk_153 0 20 (dk_at dksX3_oneTest_2 10 rfl rfl)
theorem dX3_oneTest_61 : decode cX3_oneTest 61 = .ok (.aload_n 0, 1) := dk_42 (dk_at dksX3_oneTest_2 13 rfl rfl)
theorem dX3_oneTest_62 : decode cX3_oneTest 62 = .ok (.invokevirtual 250, 3) := dk_182 0 250 (dk_at dksX3_oneTest_2 14 rfl rfl)
theorem dX3_oneTest_65 : decode cX3_oneTest 65 = .ok (.ifCond .eq 13, 3) := dk_153 0 13 (dk_at dksX3_oneTest_2 17 rfl rfl)
theorem dX3_oneTest_68 : decode cX3_oneTest 68 = .ok (.aload_n 0, 1) := dk_42 (dk_at dksX3_oneTest_2 20 rfl rfl)
theorem dX3_oneTest_69 : decode cX3_oneTest 69 = .ok (.sipush 141, 3) := dk_17 0 141 (dk_at dksX3_oneTest_2 21 rfl rfl)
theorem dX3_oneTest_72 : decode cX3_oneTest 72 = .ok (.invokevirtual 253, 3) := dk_182 0 253 (dk_at dksX3_oneTest_3 0 rfl rfl)
theorem dX3_oneTest_75 : decode cX3_oneTest 75 = .ok (.ifCond .ne 5, 3) := dk_154 0 5 (dk_at dksX3_oneTest_3 3 rfl rfl)
theorem dX3_oneTest_78 : decode cX3_oneTest 78 = .ok (.iconst 0, 1) := dk_3 (dk_at dksX3_oneTest_3 6 rfl rfl)
theorem dX3_oneTest_79 : decode cX3_oneTest 79 = .ok (.ireturn, 1) := dk_172 (dk_at dksX3_oneTest_3 7 rfl rfl)
theorem dX3_oneTest_80 : decode cX3_oneTest 80 = .ok (.aload_n 0, 1) := dk_42 (dk_at dksX3_oneTest_3 8 rfl rfl)
theorem dX3_oneTest_81 : decode cX3_oneTest 81 = .ok (.dup, 1) := dk_89 (dk_at dksX3_oneTest_3 9 rfl rfl)
theorem dX3_oneTest_82 : decode cX3_oneTest 82 = .ok (.getfield 227, 3) := dk_180 0 227 (dk_at dksX3_oneTest_3 10 rfl rfl)
theorem dX3_oneTest_85 : decode cX3_oneTest 85 = .ok (.iconst 1, 1) := dk_4 (dk_at dksX3_oneTest_3 13 rfl rfl)
theorem dX3_oneTest_86 : decode cX3_oneTest 86 = .ok (.isub, 1) := dk_100 (dk_at dksX3_oneTest_3 14 rfl rfl)
theorem dX3_oneTest_87 : decode cX3_oneTest 87 = .ok (.putfield 227, 3) := dk_181 0 227 (dk_at dksX3_oneTest_3 15 rfl rfl)
theorem dX3_oneTest_90 : decode cX3_oneTest 90 = .ok (.iconst 1, 1) := dk_4 (dk_at dksX3_oneTest_3 18 rfl rfl)
theorem dX3_oneTest_91 : decode cX3_oneTest 91 = .ok (.ireturn, 1) := dk_172 (dk_at dksX3_oneTest_3 19 rfl rfl)
theorem dX3_oneTest_92 : decode cX3_oneTest 92 = .ok (.aload_n 0, 1) := dk_42 (dk_at dksX3_oneTest_3 20 rfl rfl)
theorem dX3_oneTest_93 : decode cX3_oneTest 93 = .ok (.invokevirtual 256, 3) := dk_182 1 0 (dk_at dksX3_oneTest_3 21 rfl rfl)
theorem dX3_oneTest_96 : decode cX3_oneTest 96 = .ok (.ifCond .ne 5, 3) := dk_154 0 5 (dk_at dksX3_oneTest_4 0 rfl rfl)
theorem dX3_oneTest_99 : decode cX3_oneTest 99 = .ok (.iconst 0, 1) := dk_3 (dk_at dksX3_oneTest_4 3 rfl rfl)
theorem dX3_oneTest_100 : decode cX3_oneTest 100 = .ok (.ireturn, 1) := dk_172 (dk_at dksX3_oneTest_4 4 rfl rfl)
theorem dX3_oneTest_101 : decode cX3_oneTest 101 = .ok (.aload_n 0, 1) := dk_42 (dk_at dksX3_oneTest_4 5 rfl rfl)
theorem dX3_oneTest_102 : decode cX3_oneTest 102 = .ok (.getfield 197, 3) := dk_180 0 197 (dk_at dksX3_oneTest_4 6 rfl rfl)
theorem dX3_oneTest_105 : decode cX3_oneTest 105 = .ok (.sipush 160, 3) := dk_17 0 160 (dk_at dksX3_oneTest_4 9 rfl rfl)
theorem dX3_oneTest_108 : decode cX3_oneTest 108 = .ok (.if_icmp .ne 8, 3) := dk_160 0 8 (dk_at dksX3_oneTest_4 12 rfl rfl)
theorem dX3_oneTest_111 : decode cX3_oneTest 111 = .ok (.bipush 27, 2) := dk_16 27 (dk_at dksX3_oneTest_4 15 rfl rfl)
theorem dX3_oneTest_113 : decode cX3_oneTest 113 = .ok (.goto 34, 3) := dk_167 0 34 (dk_at dksX3_oneTest_4 17 rfl rfl)
theorem dX3_oneTest_116 : decode cX3_oneTest 116 = .ok (.aload_n 0, 1) := dk_42 (dk_at dksX3_oneTest_4 20 rfl rfl)
theorem dX3_oneTest_117 : decode cX3_oneTest 117 = .ok (.getfield 197, 3) := dk_180 0 197 (dk_at dksX3_oneTest_4 21 rfl rfl)
theorem dX3_oneTest_120 : decode cX3_oneTest 120 = .ok (.sipush 161, 3) := dk_17 0 161 (dk_at dksX3_oneTest_5 0 rfl rfl)
theorem dX3_oneTest_123 : decode cX3_oneTest 123 = .ok (.if_icmp .ne 8, 3) := dk_160 0 8 (dk_at dksX3_oneTest_5 3 rfl rfl)
theorem dX3_oneTest_126 : decode cX3_oneTest 126 = .ok (.bipush 28, 2) := dk_16 28 (dk_at dksX3_oneTest_5 6 rfl rfl)
theorem dX3_oneTest_128 : decode cX3_oneTest 128 = .ok (.goto 19, 3) := dk_167 0 19 (dk_at dksX3_oneTest_5 8 rfl rfl)
theorem dX3_oneTest_131 : decode cX3_oneTest 131 = .ok (.aload_n 0, 1) := dk_42 (dk_at dksX3_oneTest_5 11 rfl rfl)
theorem dX3_oneTest_132 : decode cX3_oneTest 132 = .ok (.getfield 197, 3) := dk_180 0 197 (dk_at dksX3_oneTest_5 12 rfl rfl)
theorem dX3_oneTest_135 : decode cX3_oneTest 135 = .ok (.sipush 162, 3) := dk_17 0 162 (dk_at dksX3_oneTest_5 15 rfl rfl)
theorem dX3_oneTest_138 : decode cX3_oneTest 138 = .ok (.if_icmp .ne 8, 3) := dk_160 0 8 (dk_at dksX3_oneTest_5 18 rfl rfl)
theorem dX3_oneTest_141 : decode cX3_oneTest 141 = .ok (.bipush 29, 2) := dk_16 29 (dk_at dksX3_oneTest_5 21 rfl rfl)
theorem dX3_oneTest_143 : decode cX3_oneTest 143 = .ok (.goto 4, 3) := dk_167 0 4 (dk_at dksX3_oneTest_6 0 rfl rfl)
theorem dX3_oneTest_146 : decode cX3_oneTest 146 = .ok (.iconst (-1), 1) := dk_2 (dk_at dksX3_oneTest_6 3 rfl rfl)
theorem dX3_oneTest_147 : decode cX3_oneTest 147 = .ok (.istore_n 1, 1) := dk_60 (dk_at dksX3_oneTest_6 4 rfl rfl)
theorem dX3_oneTest_148 : decode cX3_oneTest 148 = .ok (.iload_n 1, 1) := dk_27 (dk_at dksX3_oneTest_6 5 rfl rfl)
theorem dX3_oneTest_149 : decode cX3_oneTest 149 = .ok (.iconst (-1), 1) := dk_2 (dk_at dksX3_oneTest_6 6 rfl rfl)
theorem dX3_oneTest_150 : decode cX3_oneTest 150 = .ok (.if_icmp .ne 9, 3) := dk_160 0 9 (dk_at dksX3_oneTest_6 7 rfl rfl)
theorem dX3_oneTest_153 : decode cX3_oneTest 153 = .ok (.aload_n 0, 1) := dk_42 (dk_at dksX3_oneTest_6 10 rfl rfl)
theorem dX3_oneTest_154 : decode cX3_oneTest 154 = .ok (.iconst 1, 1) := dk_4 (dk_at dksX3_oneTest_6 11 rfl rfl)
theorem dX3_oneTest_155 : decode cX3_oneTest 155 = .ok (.invokevirtual 218, 3) := dk_182 0 218 (dk_at dksX3_oneTest_6 12 rfl rfl)
theorem dX3_oneTest_158 : decode cX3_oneTest 158 = .ok (.ireturn, 1) := dk_172 (dk_at dksX3_oneTest_6 15 rfl rfl)
theorem dX3_oneTest_159 : decode cX3_oneTest 159 = .ok (.aload_n 0, 1) := dk_42 (dk_at dksX3_oneTest_6 16 rfl rfl)
theorem dX3_oneTest_160 : decode cX3_oneTest 160 = .ok (.invokevirtual 221, 3) := dk_182 0 221 (dk_at dksX3_oneTest_6 17 rfl rfl)
theorem dX3_oneTest_163 : decode cX3_oneTest 163 = .ok (.aload_n 0, 1) := dk_42 (dk_at dksX3_oneTest_6 20 rfl rfl)
theorem dX3_oneTest_164 : decode cX3_oneTest 164 = .ok (.invokevirtual 256, 3) := dk_182 1 0 (dk_at dksX3_oneTest_6 21 rfl rfl)
theorem dX3_oneTest_167 : decode cX3_oneTest 167 = .ok (.ifCond .ne 5, 3) := dk_154 0 5 (dk_at dksX3_oneTest_7 0 rfl rfl)
theorem dX3_oneTest_170 : decode cX3_oneTest 170 = .ok (.iconst 0, 1) := dk_3 (dk_at dksX3_oneTest_7 3 rfl rfl)
theorem dX3_oneTest_171 : decode cX3_oneTest 171 = .ok (.ireturn, 1) := dk_172 (dk_at dksX3_oneTest_7 4 rfl rfl)
theorem dX3_oneTest_172 : decode cX3_oneTest 172 = .ok (.aload_n 0, 1) := dk_42 (dk_at dksX3_oneTest_7 5 rfl rfl)
theorem dX3_oneTest_173 : decode cX3_oneTest 173 = .ok (.iload_n 1, 1) := dk_27 (dk_at dksX3_oneTest_7 6 rfl rfl)
theorem dX3_oneTest_174 : decode cX3_oneTest 174 = .ok (.iconst 0, 1) := dk_3 (dk_at dksX3_oneTest_7 7 rfl rfl)
theorem dX3_oneTest_175 : decode cX3_oneTest 175 = .ok (.invokevirtual 234, 3) := dk_182 0 234 (dk_at dksX3_oneTest_7 8 rfl rfl)
theorem dX3_oneTest_178 : decode cX3_oneTest 178 = .ok (.iconst 1, 1) := dk_4 (dk_at dksX3_oneTest_7 11 rfl rfl)
theorem dX3_oneTest_179 : decode cX3_oneTest 179 = .ok (.ireturn, 1) := dk_172 (dk_at dksX3_oneTest_7 12 rfl rfl)
abbrev cX3_opens : ByteArray := prog_14_method_35_code
def yX3_opens : MethodName := ⟨RX3, "opens", "()Z"⟩
def dkwX3_opens_1 : List UInt8 := [181, 0, 227, 42, 182, 0, 221, 4, 172]
abbrev dktX3_opens_1 : List UInt8 := dkwX3_opens_1 ++ []
def dkwX3_opens_0 : List UInt8 := [42, 180, 0, 227, 16, 8, 160, 0, 9, 42, 6, 182, 0, 218, 172, 42, 89, 180, 0, 227, 4, 96]
abbrev dktX3_opens_0 : List UInt8 := dkwX3_opens_0 ++ dktX3_opens_1
theorem dksX3_opens_0 : cX3_opens.data.toList.drop 0 = dktX3_opens_0 := by decide +kernel
theorem dksX3_opens_1 : cX3_opens.data.toList.drop 22 = dktX3_opens_1 := dk_seg dksX3_opens_0 22 rfl rfl
theorem dX3_opens_0 : decode cX3_opens 0 = .ok (.aload_n 0, 1) := dk_42 (dk_at dksX3_opens_0 0 rfl rfl)
theorem dX3_opens_1 : decode cX3_opens 1 = .ok (.getfield 227, 3) := dk_180 0 227 (dk_at dksX3_opens_0 1 rfl rfl)
theorem dX3_opens_4 : decode cX3_opens 4 = .ok (.bipush 8, 2) := dk_16 8 (dk_at dksX3_opens_0 4 rfl rfl)
theorem dX3_opens_6 : decode cX3_opens 6 = .ok (.if_icmp .ne 9, 3) := dk_160 0 9 (dk_at dksX3_opens_0 6 rfl rfl)
theorem dX3_opens_9 : decode cX3_opens 9 = .ok (.aload_n 0, 1) := dk_42 (dk_at dksX3_opens_0 9 rfl rfl)
theorem dX3_opens_10 : decode cX3_opens 10 = .ok (.iconst 3, 1) := dk_6 (dk_at dksX3_opens_0 10 rfl rfl)
theorem dX3_opens_11 : decode cX3_opens 11 = .ok (.invokevirtual 218, 3) := dk_182 0 218 (dk_at dksX3_opens_0 11 rfl rfl)
theorem dX3_opens_14 : decode cX3_opens 14 = .ok (.ireturn, 1) := dk_172 (dk_at dksX3_opens_0 14 rfl rfl)
theorem dX3_opens_15 : decode cX3_opens 15 = .ok (.aload_n 0, 1) := dk_42 (dk_at dksX3_opens_0 15 rfl rfl)
theorem dX3_opens_16 : decode cX3_opens 16 = .ok (.dup, 1) := dk_89 (dk_at dksX3_opens_0 16 rfl rfl)
theorem dX3_opens_17 : decode cX3_opens 17 = .ok (.getfield 227, 3) := dk_180 0 227 (dk_at dksX3_opens_0 17 rfl rfl)
theorem dX3_opens_20 : decode cX3_opens 20 = .ok (.iconst 1, 1) := dk_4 (dk_at dksX3_opens_0 20 rfl rfl)
theorem dX3_opens_21 : decode cX3_opens 21 = .ok (.iadd, 1) := dk_96 (dk_at dksX3_opens_0 21 rfl rfl)
theorem dX3_opens_22 : decode cX3_opens 22 = .ok (.putfield 227, 3) := dk_181 0 227 (dk_at dksX3_opens_1 0 rfl rfl)
theorem dX3_opens_25 : decode cX3_opens 25 = .ok (.aload_n 0, 1) := dk_42 (dk_at dksX3_opens_1 3 rfl rfl)
theorem dX3_opens_26 : decode cX3_opens 26 = .ok (.invokevirtual 221, 3) := dk_182 0 221 (dk_at dksX3_opens_1 4 rfl rfl)
theorem dX3_opens_29 : decode cX3_opens 29 = .ok (.iconst 1, 1) := dk_4 (dk_at dksX3_opens_1 7 rfl rfl)
theorem dX3_opens_30 : decode cX3_opens 30 = .ok (.ireturn, 1) := dk_172 (dk_at dksX3_opens_1 8 rfl rfl)
abbrev cX3_need : ByteArray := prog_14_method_33_code
def yX3_need : MethodName := ⟨RX3, "need", "(I)Z"⟩
def dkwX3_need_0 : List UInt8 := [42, 180, 0, 197, 27, 159, 0, 9, 42, 4, 182, 0, 218, 172, 42, 182, 0, 221, 4, 172]
abbrev dktX3_need_0 : List UInt8 := dkwX3_need_0 ++ []
theorem dksX3_need_0 : cX3_need.data.toList.drop 0 = dktX3_need_0 := by decide +kernel
theorem dX3_need_0 : decode cX3_need 0 = .ok (.aload_n 0, 1) := dk_42 (dk_at dksX3_need_0 0 rfl rfl)
theorem dX3_need_1 : decode cX3_need 1 = .ok (.getfield 197, 3) := dk_180 0 197 (dk_at dksX3_need_0 1 rfl rfl)
theorem dX3_need_4 : decode cX3_need 4 = .ok (.iload_n 1, 1) := dk_27 (dk_at dksX3_need_0 4 rfl rfl)
theorem dX3_need_5 : decode cX3_need 5 = .ok (.if_icmp .eq 9, 3) := dk_159 0 9 (dk_at dksX3_need_0 5 rfl rfl)
theorem dX3_need_8 : decode cX3_need 8 = .ok (.aload_n 0, 1) := dk_42 (dk_at dksX3_need_0 8 rfl rfl)
theorem dX3_need_9 : decode cX3_need 9 = .ok (.iconst 1, 1) := dk_4 (dk_at dksX3_need_0 9 rfl rfl)
theorem dX3_need_10 : decode cX3_need 10 = .ok (.invokevirtual 218, 3) := dk_182 0 218 (dk_at dksX3_need_0 10 rfl rfl)
theorem dX3_need_13 : decode cX3_need 13 = .ok (.ireturn, 1) := dk_172 (dk_at dksX3_need_0 13 rfl rfl)
theorem dX3_need_14 : decode cX3_need 14 = .ok (.aload_n 0, 1) := dk_42 (dk_at dksX3_need_0 14 rfl rfl)
theorem dX3_need_15 : decode cX3_need 15 = .ok (.invokevirtual 221, 3) := dk_182 0 221 (dk_at dksX3_need_0 15 rfl rfl)
theorem dX3_need_18 : decode cX3_need 18 = .ok (.iconst 1, 1) := dk_4 (dk_at dksX3_need_0 18 rfl rfl)
theorem dX3_need_19 : decode cX3_need 19 = .ok (.ireturn, 1) := dk_172 (dk_at dksX3_need_0 19 rfl rfl)
abbrev cX3_readsRows : ByteArray := prog_14_method_48_code
def yX3_readsRows : MethodName := ⟨RX3, "readsRows", "()Z"⟩
def dkwX3_readsRows_4 : List UInt8 := [42, 89, 180, 1, 16, 27, 153, 0, 7, 4, 167, 0, 4, 3, 96, 181, 1, 16, 167, 255, 151, 27, 172]
abbrev dktX3_readsRows_4 : List UInt8 := dkwX3_readsRows_4 ++ []
def dkwX3_readsRows_3 : List UInt8 := [182, 0, 218, 172, 42, 180, 0, 155, 5, 160, 0, 10, 42, 182, 1, 23, 167, 0, 7, 42, 182, 1, 26, 60]
abbrev dktX3_readsRows_3 : List UInt8 := dkwX3_readsRows_3 ++ dktX3_readsRows_4
def dkwX3_readsRows_2 : List UInt8 := [180, 1, 16, 42, 180, 0, 155, 5, 160, 0, 8, 16, 8, 167, 0, 5, 16, 20, 160, 0, 9, 42, 6]
abbrev dktX3_readsRows_2 : List UInt8 := dkwX3_readsRows_2 ++ dktX3_readsRows_3
def dkwX3_readsRows_1 : List UInt8 := [180, 0, 155, 5, 160, 0, 8, 16, 7, 167, 0, 5, 16, 10, 159, 0, 9, 42, 4, 182, 0, 218, 172, 42]
abbrev dktX3_readsRows_1 : List UInt8 := dkwX3_readsRows_1 ++ dktX3_readsRows_2
def dkwX3_readsRows_0 : List UInt8 := [42, 3, 181, 1, 16, 4, 60, 27, 153, 0, 107, 42, 180, 0, 197, 153, 0, 100, 42, 180, 0, 197, 42]
abbrev dktX3_readsRows_0 : List UInt8 := dkwX3_readsRows_0 ++ dktX3_readsRows_1
theorem dksX3_readsRows_0 : cX3_readsRows.data.toList.drop 0 = dktX3_readsRows_0 := by decide +kernel
theorem dksX3_readsRows_1 : cX3_readsRows.data.toList.drop 23 = dktX3_readsRows_1 := dk_seg dksX3_readsRows_0 23 rfl rfl
theorem dksX3_readsRows_2 : cX3_readsRows.data.toList.drop 47 = dktX3_readsRows_2 := dk_seg dksX3_readsRows_1 24 rfl rfl
theorem dksX3_readsRows_3 : cX3_readsRows.data.toList.drop 70 = dktX3_readsRows_3 := dk_seg dksX3_readsRows_2 23 rfl rfl
theorem dksX3_readsRows_4 : cX3_readsRows.data.toList.drop 94 = dktX3_readsRows_4 := dk_seg dksX3_readsRows_3 24 rfl rfl
theorem dX3_readsRows_0 : decode cX3_readsRows 0 = .ok (.aload_n 0, 1) := dk_42 (dk_at dksX3_readsRows_0 0 rfl rfl)
theorem dX3_readsRows_1 : decode cX3_readsRows 1 = .ok (.iconst 0, 1) := dk_3 (dk_at dksX3_readsRows_0 1 rfl rfl)
theorem dX3_readsRows_2 : decode cX3_readsRows 2 = .ok (.putfield 272, 3) := dk_181 1 16 (dk_at dksX3_readsRows_0 2 rfl rfl)
theorem dX3_readsRows_5 : decode cX3_readsRows 5 = .ok (.iconst 1, 1) := dk_4 (dk_at dksX3_readsRows_0 5 rfl rfl)
theorem dX3_readsRows_6 : decode cX3_readsRows 6 = .ok (.istore_n 1, 1) := dk_60 (dk_at dksX3_readsRows_0 6 rfl rfl)
theorem dX3_readsRows_7 : decode cX3_readsRows 7 = .ok (.iload_n 1, 1) := dk_27 (dk_at dksX3_readsRows_0 7 rfl rfl)
theorem dX3_readsRows_8 : decode cX3_readsRows 8 = .ok (.ifCond .eq 107, 3) := dk_153 0 107 (dk_at dksX3_readsRows_0 8 rfl rfl)
theorem dX3_readsRows_11 : decode cX3_readsRows 11 = .ok (.aload_n 0, 1) := dk_42 (dk_at dksX3_readsRows_0 11 rfl rfl)
theorem dX3_readsRows_12 : decode cX3_readsRows 12 = .ok (.getfield 197, 3) := dk_180 0 197 (dk_at dksX3_readsRows_0 12 rfl rfl)
theorem dX3_readsRows_15 : decode cX3_readsRows 15 = .ok (.ifCond .eq 100, 3) := dk_153 0 100 (dk_at dksX3_readsRows_0 15 rfl rfl)
theorem dX3_readsRows_18 : decode cX3_readsRows 18 = .ok (.aload_n 0, 1) := dk_42 (dk_at dksX3_readsRows_0 18 rfl rfl)
theorem dX3_readsRows_19 : decode cX3_readsRows 19 = .ok (.getfield 197, 3) := dk_180 0 197 (dk_at dksX3_readsRows_0 19 rfl rfl)
theorem dX3_readsRows_22 : decode cX3_readsRows 22 = .ok (.aload_n 0, 1) := dk_42 (dk_at dksX3_readsRows_0 22 rfl rfl)
theorem dX3_readsRows_23 : decode cX3_readsRows 23 = .ok (.getfield 155, 3) := dk_180 0 155 (dk_at dksX3_readsRows_1 0 rfl rfl)
theorem dX3_readsRows_26 : decode cX3_readsRows 26 = .ok (.iconst 2, 1) := dk_5 (dk_at dksX3_readsRows_1 3 rfl rfl)
theorem dX3_readsRows_27 : decode cX3_readsRows 27 = .ok (.if_icmp .ne 8, 3) := dk_160 0 8 (dk_at dksX3_readsRows_1 4 rfl rfl)
theorem dX3_readsRows_30 : decode cX3_readsRows 30 = .ok (.bipush 7, 2) := dk_16 7 (dk_at dksX3_readsRows_1 7 rfl rfl)
theorem dX3_readsRows_32 : decode cX3_readsRows 32 = .ok (.goto 5, 3) := dk_167 0 5 (dk_at dksX3_readsRows_1 9 rfl rfl)
theorem dX3_readsRows_35 : decode cX3_readsRows 35 = .ok (.bipush 10, 2) := dk_16 10 (dk_at dksX3_readsRows_1 12 rfl rfl)
theorem dX3_readsRows_37 : decode cX3_readsRows 37 = .ok (.if_icmp .eq 9, 3) := dk_159 0 9 (dk_at dksX3_readsRows_1 14 rfl rfl)
theorem dX3_readsRows_40 : decode cX3_readsRows 40 = .ok (.aload_n 0, 1) := dk_42 (dk_at dksX3_readsRows_1 17 rfl rfl)
theorem dX3_readsRows_41 : decode cX3_readsRows 41 = .ok (.iconst 1, 1) := dk_4 (dk_at dksX3_readsRows_1 18 rfl rfl)
theorem dX3_readsRows_42 : decode cX3_readsRows 42 = .ok (.invokevirtual 218, 3) := dk_182 0 218 (dk_at dksX3_readsRows_1 19 rfl rfl)
theorem dX3_readsRows_45 : decode cX3_readsRows 45 = .ok (.ireturn, 1) := dk_172 (dk_at dksX3_readsRows_1 22 rfl rfl)
theorem dX3_readsRows_46 : decode cX3_readsRows 46 = .ok (.aload_n 0, 1) := dk_42 (dk_at dksX3_readsRows_1 23 rfl rfl)
theorem dX3_readsRows_47 : decode cX3_readsRows 47 = .ok (.getfield 272, 3) := dk_180 1 16 (dk_at dksX3_readsRows_2 0 rfl rfl)
theorem dX3_readsRows_50 : decode cX3_readsRows 50 = .ok (.aload_n 0, 1) := dk_42 (dk_at dksX3_readsRows_2 3 rfl rfl)
theorem dX3_readsRows_51 : decode cX3_readsRows 51 = .ok (.getfield 155, 3) := dk_180 0 155 (dk_at dksX3_readsRows_2 4 rfl rfl)
theorem dX3_readsRows_54 : decode cX3_readsRows 54 = .ok (.iconst 2, 1) := dk_5 (dk_at dksX3_readsRows_2 7 rfl rfl)
theorem dX3_readsRows_55 : decode cX3_readsRows 55 = .ok (.if_icmp .ne 8, 3) := dk_160 0 8 (dk_at dksX3_readsRows_2 8 rfl rfl)
theorem dX3_readsRows_58 : decode cX3_readsRows 58 = .ok (.bipush 8, 2) := dk_16 8 (dk_at dksX3_readsRows_2 11 rfl rfl)
theorem dX3_readsRows_60 : decode cX3_readsRows 60 = .ok (.goto 5, 3) := dk_167 0 5 (dk_at dksX3_readsRows_2 13 rfl rfl)
theorem dX3_readsRows_63 : decode cX3_readsRows 63 = .ok (.bipush 20, 2) := dk_16 20 (dk_at dksX3_readsRows_2 16 rfl rfl)
theorem dX3_readsRows_65 : decode cX3_readsRows 65 = .ok (.if_icmp .ne 9, 3) := dk_160 0 9 (dk_at dksX3_readsRows_2 18 rfl rfl)
theorem dX3_readsRows_68 : decode cX3_readsRows 68 = .ok (.aload_n 0, 1) := dk_42 (dk_at dksX3_readsRows_2 21 rfl rfl)
theorem dX3_readsRows_69 : decode cX3_readsRows 69 = .ok (.iconst 3, 1) := dk_6 (dk_at dksX3_readsRows_2 22 rfl rfl)
theorem dX3_readsRows_70 : decode cX3_readsRows 70 = .ok (.invokevirtual 218, 3) := dk_182 0 218 (dk_at dksX3_readsRows_3 0 rfl rfl)
theorem dX3_readsRows_73 : decode cX3_readsRows 73 = .ok (.ireturn, 1) := dk_172 (dk_at dksX3_readsRows_3 3 rfl rfl)
theorem dX3_readsRows_74 : decode cX3_readsRows 74 = .ok (.aload_n 0, 1) := dk_42 (dk_at dksX3_readsRows_3 4 rfl rfl)
theorem dX3_readsRows_75 : decode cX3_readsRows 75 = .ok (.getfield 155, 3) := dk_180 0 155 (dk_at dksX3_readsRows_3 5 rfl rfl)
theorem dX3_readsRows_78 : decode cX3_readsRows 78 = .ok (.iconst 2, 1) := dk_5 (dk_at dksX3_readsRows_3 8 rfl rfl)
theorem dX3_readsRows_79 : decode cX3_readsRows 79 = .ok (.if_icmp .ne 10, 3) := dk_160 0 10 (dk_at dksX3_readsRows_3 9 rfl rfl)
theorem dX3_readsRows_82 : decode cX3_readsRows 82 = .ok (.aload_n 0, 1) := dk_42 (dk_at dksX3_readsRows_3 12 rfl rfl)
theorem dX3_readsRows_83 : decode cX3_readsRows 83 = .ok (.invokevirtual 279, 3) := dk_182 1 23 (dk_at dksX3_readsRows_3 13 rfl rfl)
theorem dX3_readsRows_86 : decode cX3_readsRows 86 = .ok (.goto 7, 3) := dk_167 0 7 (dk_at dksX3_readsRows_3 16 rfl rfl)
theorem dX3_readsRows_89 : decode cX3_readsRows 89 = .ok (.aload_n 0, 1) := dk_42 (dk_at dksX3_readsRows_3 19 rfl rfl)
theorem dX3_readsRows_90 : decode cX3_readsRows 90 = .ok (.invokevirtual 282, 3) := dk_182 1 26 (dk_at dksX3_readsRows_3 20 rfl rfl)
theorem dX3_readsRows_93 : decode cX3_readsRows 93 = .ok (.istore_n 1, 1) := dk_60 (dk_at dksX3_readsRows_3 23 rfl rfl)
theorem dX3_readsRows_94 : decode cX3_readsRows 94 = .ok (.aload_n 0, 1) := dk_42 (dk_at dksX3_readsRows_4 0 rfl rfl)
theorem dX3_readsRows_95 : decode cX3_readsRows 95 = .ok (.dup, 1) := dk_89 (dk_at dksX3_readsRows_4 1 rfl rfl)
theorem dX3_readsRows_96 : decode cX3_readsRows 96 = .ok (.getfield 272, 3) := dk_180 1 16 (dk_at dksX3_readsRows_4 2 rfl rfl)
theorem dX3_readsRows_99 : decode cX3_readsRows 99 = .ok (.iload_n 1, 1) := dk_27 (dk_at dksX3_readsRows_4 5 rfl rfl)
theorem dX3_readsRows_100 : decode cX3_readsRows 100 = .ok (.ifCond .eq 7, 3) := dk_153 0 7 (dk_at dksX3_readsRows_4 6 rfl rfl)
theorem dX3_readsRows_103 : decode cX3_readsRows 103 = .ok (.iconst 1, 1) := dk_4 (dk_at dksX3_readsRows_4 9 rfl rfl)
theorem dX3_readsRows_104 : decode cX3_readsRows 104 = .ok (.goto 4, 3) := dk_167 0 4 (dk_at dksX3_readsRows_4 10 rfl rfl)
theorem dX3_readsRows_107 : decode cX3_readsRows 107 = .ok (.iconst 0, 1) := dk_3 (dk_at dksX3_readsRows_4 13 rfl rfl)
theorem dX3_readsRows_108 : decode cX3_readsRows 108 = .ok (.iadd, 1) := dk_96 (dk_at dksX3_readsRows_4 14 rfl rfl)
theorem dX3_readsRows_109 : decode cX3_readsRows 109 = .ok (.putfield 272, 3) := dk_181 1 16 (dk_at dksX3_readsRows_4 15 rfl rfl)
theorem dX3_readsRows_112 : decode cX3_readsRows 112 = .ok (.goto (-105), 3) := dk_167 255 151 (dk_at dksX3_readsRows_4 18 rfl rfl)
theorem dX3_readsRows_115 : decode cX3_readsRows 115 = .ok (.iload_n 1, 1) := dk_27 (dk_at dksX3_readsRows_4 21 rfl rfl)
theorem dX3_readsRows_116 : decode cX3_readsRows 116 = .ok (.ireturn, 1) := dk_172 (dk_at dksX3_readsRows_4 22 rfl rfl)
abbrev cX3_aWork : ByteArray := prog_14_method_46_code
def yX3_aWork : MethodName := ⟨RX3, "aWork", "()Z"⟩
def dkwX3_aWork_4 : List UInt8 := [167, 255, 210, 42, 17, 0, 159, 182, 0, 253, 172]
abbrev dktX3_aWork_4 : List UInt8 := dkwX3_aWork_4 ++ []
def dkwX3_aWork_3 : List UInt8 := [154, 0, 5, 3, 172, 42, 180, 0, 28, 27, 5, 96, 92, 46, 4, 42, 180, 1, 9, 120, 128, 79]
abbrev dktX3_aWork_3 : List UInt8 := dkwX3_aWork_3 ++ dktX3_aWork_4
def dkwX3_aWork_2 : List UInt8 := [180, 0, 197, 16, 9, 160, 0, 43, 42, 182, 0, 221, 42, 3, 42, 180, 1, 16, 4, 100, 182, 1, 12]
abbrev dktX3_aWork_2 : List UInt8 := dkwX3_aWork_2 ++ dktX3_aWork_3
def dkwX3_aWork_1 : List UInt8 := [96, 16, 8, 4, 6, 182, 1, 19, 154, 0, 5, 3, 172, 42, 180, 0, 28, 27, 5, 96, 3, 79, 42]
abbrev dktX3_aWork_1 : List UInt8 := dkwX3_aWork_1 ++ dktX3_aWork_2
def dkwX3_aWork_0 : List UInt8 := [6, 42, 180, 1, 16, 104, 60, 42, 27, 3, 96, 16, 7, 3, 6, 182, 1, 19, 153, 0, 17, 42, 27, 4]
abbrev dktX3_aWork_0 : List UInt8 := dkwX3_aWork_0 ++ dktX3_aWork_1
theorem dksX3_aWork_0 : cX3_aWork.data.toList.drop 0 = dktX3_aWork_0 := by decide +kernel
theorem dksX3_aWork_1 : cX3_aWork.data.toList.drop 24 = dktX3_aWork_1 := dk_seg dksX3_aWork_0 24 rfl rfl
theorem dksX3_aWork_2 : cX3_aWork.data.toList.drop 47 = dktX3_aWork_2 := dk_seg dksX3_aWork_1 23 rfl rfl
theorem dksX3_aWork_3 : cX3_aWork.data.toList.drop 70 = dktX3_aWork_3 := dk_seg dksX3_aWork_2 23 rfl rfl
theorem dksX3_aWork_4 : cX3_aWork.data.toList.drop 92 = dktX3_aWork_4 := dk_seg dksX3_aWork_3 22 rfl rfl
theorem dX3_aWork_0 : decode cX3_aWork 0 = .ok (.iconst 3, 1) := dk_6 (dk_at dksX3_aWork_0 0 rfl rfl)
theorem dX3_aWork_1 : decode cX3_aWork 1 = .ok (.aload_n 0, 1) := dk_42 (dk_at dksX3_aWork_0 1 rfl rfl)
theorem dX3_aWork_2 : decode cX3_aWork 2 = .ok (.getfield 272, 3) := dk_180 1 16 (dk_at dksX3_aWork_0 2 rfl rfl)
theorem dX3_aWork_5 : decode cX3_aWork 5 = .ok (.imul, 1) := dk_104 (dk_at dksX3_aWork_0 5 rfl rfl)
theorem dX3_aWork_6 : decode cX3_aWork 6 = .ok (.istore_n 1, 1) := dk_60 (dk_at dksX3_aWork_0 6 rfl rfl)
theorem dX3_aWork_7 : decode cX3_aWork 7 = .ok (.aload_n 0, 1) := dk_42 (dk_at dksX3_aWork_0 7 rfl rfl)
theorem dX3_aWork_8 : decode cX3_aWork 8 = .ok (.iload_n 1, 1) := dk_27 (dk_at dksX3_aWork_0 8 rfl rfl)
theorem dX3_aWork_9 : decode cX3_aWork 9 = .ok (.iconst 0, 1) := dk_3 (dk_at dksX3_aWork_0 9 rfl rfl)
theorem dX3_aWork_10 : decode cX3_aWork 10 = .ok (.iadd, 1) := dk_96 (dk_at dksX3_aWork_0 10 rfl rfl)
theorem dX3_aWork_11 : decode cX3_aWork 11 = .ok (.bipush 7, 2) := dk_16 7 (dk_at dksX3_aWork_0 11 rfl rfl)
theorem dX3_aWork_13 : decode cX3_aWork 13 = .ok (.iconst 0, 1) := dk_3 (dk_at dksX3_aWork_0 13 rfl rfl)
theorem dX3_aWork_14 : decode cX3_aWork 14 = .ok (.iconst 3, 1) := dk_6 (dk_at dksX3_aWork_0 14 rfl rfl)
theorem dX3_aWork_15 : decode cX3_aWork 15 = .ok (.invokevirtual 275, 3) := dk_182 1 19 (dk_at dksX3_aWork_0 15 rfl rfl)
theorem dX3_aWork_18 : decode cX3_aWork 18 = .ok (.ifCond .eq 17, 3) := dk_153 0 17 (dk_at dksX3_aWork_0 18 rfl rfl)
theorem dX3_aWork_21 : decode cX3_aWork 21 = .ok (.aload_n 0, 1) := dk_42 (dk_at dksX3_aWork_0 21 rfl rfl)
theorem dX3_aWork_22 : decode cX3_aWork 22 = .ok (.iload_n 1, 1) := dk_27 (dk_at dksX3_aWork_0 22 rfl rfl)
theorem dX3_aWork_23 : decode cX3_aWork 23 = .ok (.iconst 1, 1) := dk_4 (dk_at dksX3_aWork_0 23 rfl rfl)
theorem dX3_aWork_24 : decode cX3_aWork 24 = .ok (.iadd, 1) := dk_96 (dk_at dksX3_aWork_1 0 rfl rfl)
theorem dX3_aWork_25 : decode cX3_aWork 25 = .ok (.bipush 8, 2) := dk_16 8 (dk_at dksX3_aWork_1 1 rfl rfl)
theorem dX3_aWork_27 : decode cX3_aWork 27 = .ok (.iconst 1, 1) := dk_4 (dk_at dksX3_aWork_1 3 rfl rfl)
theorem dX3_aWork_28 : decode cX3_aWork 28 = .ok (.iconst 3, 1) := dk_6 (dk_at dksX3_aWork_1 4 rfl rfl)
theorem dX3_aWork_29 : decode cX3_aWork 29 = .ok (.invokevirtual 275, 3) := dk_182 1 19 (dk_at dksX3_aWork_1 5 rfl rfl)
theorem dX3_aWork_32 : decode cX3_aWork 32 = .ok (.ifCond .ne 5, 3) := dk_154 0 5 (dk_at dksX3_aWork_1 8 rfl rfl)
theorem dX3_aWork_35 : decode cX3_aWork 35 = .ok (.iconst 0, 1) := dk_3 (dk_at dksX3_aWork_1 11 rfl rfl)
theorem dX3_aWork_36 : decode cX3_aWork 36 = .ok (.ireturn, 1) := dk_172 (dk_at dksX3_aWork_1 12 rfl rfl)
theorem dX3_aWork_37 : decode cX3_aWork 37 = .ok (.aload_n 0, 1) := dk_42 (dk_at dksX3_aWork_1 13 rfl rfl)
theorem dX3_aWork_38 : decode cX3_aWork 38 = .ok (.getfield 28, 3) := dk_180 0 28 (dk_at dksX3_aWork_1 14 rfl rfl)
theorem dX3_aWork_41 : decode cX3_aWork 41 = .ok (.iload_n 1, 1) := dk_27 (dk_at dksX3_aWork_1 17 rfl rfl)
theorem dX3_aWork_42 : decode cX3_aWork 42 = .ok (.iconst 2, 1) := dk_5 (dk_at dksX3_aWork_1 18 rfl rfl)
theorem dX3_aWork_43 : decode cX3_aWork 43 = .ok (.iadd, 1) := dk_96 (dk_at dksX3_aWork_1 19 rfl rfl)
theorem dX3_aWork_44 : decode cX3_aWork 44 = .ok (.iconst 0, 1) := dk_3 (dk_at dksX3_aWork_1 20 rfl rfl)
theorem dX3_aWork_45 : decode cX3_aWork 45 = .ok (.iastore, 1) := dk_79 (dk_at dksX3_aWork_1 21 rfl rfl)
theorem dX3_aWork_46 : decode cX3_aWork 46 = .ok (.aload_n 0, 1) := dk_42 (dk_at dksX3_aWork_1 22 rfl rfl)
theorem dX3_aWork_47 : decode cX3_aWork 47 = .ok (.getfield 197, 3) := dk_180 0 197 (dk_at dksX3_aWork_2 0 rfl rfl)
theorem dX3_aWork_50 : decode cX3_aWork 50 = .ok (.bipush 9, 2) := dk_16 9 (dk_at dksX3_aWork_2 3 rfl rfl)
theorem dX3_aWork_52 : decode cX3_aWork 52 = .ok (.if_icmp .ne 43, 3) := dk_160 0 43 (dk_at dksX3_aWork_2 5 rfl rfl)
theorem dX3_aWork_55 : decode cX3_aWork 55 = .ok (.aload_n 0, 1) := dk_42 (dk_at dksX3_aWork_2 8 rfl rfl)
theorem dX3_aWork_56 : decode cX3_aWork 56 = .ok (.invokevirtual 221, 3) := dk_182 0 221 (dk_at dksX3_aWork_2 9 rfl rfl)
theorem dX3_aWork_59 : decode cX3_aWork 59 = .ok (.aload_n 0, 1) := dk_42 (dk_at dksX3_aWork_2 12 rfl rfl)
theorem dX3_aWork_60 : decode cX3_aWork 60 = .ok (.iconst 0, 1) := dk_3 (dk_at dksX3_aWork_2 13 rfl rfl)
theorem dX3_aWork_61 : decode cX3_aWork 61 = .ok (.aload_n 0, 1) := dk_42 (dk_at dksX3_aWork_2 14 rfl rfl)
theorem dX3_aWork_62 : decode cX3_aWork 62 = .ok (.getfield 272, 3) := dk_180 1 16 (dk_at dksX3_aWork_2 15 rfl rfl)
theorem dX3_aWork_65 : decode cX3_aWork 65 = .ok (.iconst 1, 1) := dk_4 (dk_at dksX3_aWork_2 18 rfl rfl)
theorem dX3_aWork_66 : decode cX3_aWork 66 = .ok (.isub, 1) := dk_100 (dk_at dksX3_aWork_2 19 rfl rfl)
theorem dX3_aWork_67 : decode cX3_aWork 67 = .ok (.invokevirtual 268, 3) := dk_182 1 12 (dk_at dksX3_aWork_2 20 rfl rfl)
theorem dX3_aWork_70 : decode cX3_aWork 70 = .ok (.ifCond .ne 5, 3) := dk_154 0 5 (dk_at dksX3_aWork_3 0 rfl rfl)
theorem dX3_aWork_73 : decode cX3_aWork 73 = .ok (.iconst 0, 1) := dk_3 (dk_at dksX3_aWork_3 3 rfl rfl)
theorem dX3_aWork_74 : decode cX3_aWork 74 = .ok (.ireturn, 1) := dk_172 (dk_at dksX3_aWork_3 4 rfl rfl)
theorem dX3_aWork_75 : decode cX3_aWork 75 = .ok (.aload_n 0, 1) := dk_42 (dk_at dksX3_aWork_3 5 rfl rfl)
theorem dX3_aWork_76 : decode cX3_aWork 76 = .ok (.getfield 28, 3) := dk_180 0 28 (dk_at dksX3_aWork_3 6 rfl rfl)
theorem dX3_aWork_79 : decode cX3_aWork 79 = .ok (.iload_n 1, 1) := dk_27 (dk_at dksX3_aWork_3 9 rfl rfl)
theorem dX3_aWork_80 : decode cX3_aWork 80 = .ok (.iconst 2, 1) := dk_5 (dk_at dksX3_aWork_3 10 rfl rfl)
theorem dX3_aWork_81 : decode cX3_aWork 81 = .ok (.iadd, 1) := dk_96 (dk_at dksX3_aWork_3 11 rfl rfl)
theorem dX3_aWork_82 : decode cX3_aWork 82 = .ok (.dup2, 1) := dk_92 (dk_at dksX3_aWork_3 12 rfl rfl)
theorem dX3_aWork_83 : decode cX3_aWork 83 = .ok (.iaload, 1) := dk_46 (dk_at dksX3_aWork_3 13 rfl rfl)
theorem dX3_aWork_84 : decode cX3_aWork 84 = .ok (.iconst 1, 1) := dk_4 (dk_at dksX3_aWork_3 14 rfl rfl)
theorem dX3_aWork_85 : decode cX3_aWork 85 = .ok (.aload_n 0, 1) := dk_42 (dk_at dksX3_aWork_3 15 rfl rfl)
theorem dX3_aWork_86 : decode cX3_aWork 86 = .ok (.getfield 265, 3) := dk_180 1 9 (dk_at dksX3_aWork_3 16 rfl rfl)
theorem dX3_aWork_89 : decode cX3_aWork 89 = .ok (.ishl, 1) := dk_120 (dk_at dksX3_aWork_3 19 rfl rfl)
theorem dX3_aWork_90 : decode cX3_aWork 90 = .ok (.ior, 1) := dk_128 (dk_at dksX3_aWork_3 20 rfl rfl)
theorem dX3_aWork_91 : decode cX3_aWork 91 = .ok (.iastore, 1) := dk_79 (dk_at dksX3_aWork_3 21 rfl rfl)
theorem dX3_aWork_92 : decode cX3_aWork 92 = .ok (.goto (-46), 3) := dk_167 255 210 (dk_at dksX3_aWork_4 0 rfl rfl)
theorem dX3_aWork_95 : decode cX3_aWork 95 = .ok (.aload_n 0, 1) := dk_42 (dk_at dksX3_aWork_4 3 rfl rfl)
theorem dX3_aWork_96 : decode cX3_aWork 96 = .ok (.sipush 159, 3) := dk_17 0 159 (dk_at dksX3_aWork_4 4 rfl rfl)
theorem dX3_aWork_99 : decode cX3_aWork 99 = .ok (.invokevirtual 253, 3) := dk_182 0 253 (dk_at dksX3_aWork_4 7 rfl rfl)
theorem dX3_aWork_102 : decode cX3_aWork 102 = .ok (.ireturn, 1) := dk_172 (dk_at dksX3_aWork_4 10 rfl rfl)
abbrev cX3_told : ByteArray := prog_14_method_45_code
def yX3_told : MethodName := ⟨RX3, "told", "(IIII)Z"⟩
def dkwX3_told_1 : List UInt8 := [27, 42, 180, 1, 9, 79, 4, 172]
abbrev dktX3_told_1 : List UInt8 := dkwX3_told_1 ++ []
def dkwX3_told_0 : List UInt8 := [42, 28, 182, 0, 253, 153, 0, 13, 42, 29, 21, 4, 182, 1, 12, 154, 0, 5, 3, 172, 42, 180, 0, 28]
abbrev dktX3_told_0 : List UInt8 := dkwX3_told_0 ++ dktX3_told_1
theorem dksX3_told_0 : cX3_told.data.toList.drop 0 = dktX3_told_0 := by decide +kernel
theorem dksX3_told_1 : cX3_told.data.toList.drop 24 = dktX3_told_1 := dk_seg dksX3_told_0 24 rfl rfl
theorem dX3_told_0 : decode cX3_told 0 = .ok (.aload_n 0, 1) := dk_42 (dk_at dksX3_told_0 0 rfl rfl)
theorem dX3_told_1 : decode cX3_told 1 = .ok (.iload_n 2, 1) := dk_28 (dk_at dksX3_told_0 1 rfl rfl)
theorem dX3_told_2 : decode cX3_told 2 = .ok (.invokevirtual 253, 3) := dk_182 0 253 (dk_at dksX3_told_0 2 rfl rfl)
theorem dX3_told_5 : decode cX3_told 5 = .ok (.ifCond .eq 13, 3) := dk_153 0 13 (dk_at dksX3_told_0 5 rfl rfl)
theorem dX3_told_8 : decode cX3_told 8 = .ok (.aload_n 0, 1) := dk_42 (dk_at dksX3_told_0 8 rfl rfl)
theorem dX3_told_9 : decode cX3_told 9 = .ok (.iload_n 3, 1) := dk_29 (dk_at dksX3_told_0 9 rfl rfl)
theorem dX3_told_10 : decode cX3_told 10 = .ok (.iload 4, 2) := dk_21 4 (dk_at dksX3_told_0 10 rfl rfl)
theorem dX3_told_12 : decode cX3_told 12 = .ok (.invokevirtual 268, 3) := dk_182 1 12 (dk_at dksX3_told_0 12 rfl rfl)
theorem dX3_told_15 : decode cX3_told 15 = .ok (.ifCond .ne 5, 3) := dk_154 0 5 (dk_at dksX3_told_0 15 rfl rfl)
theorem dX3_told_18 : decode cX3_told 18 = .ok (.iconst 0, 1) := dk_3 (dk_at dksX3_told_0 18 rfl rfl)
theorem dX3_told_19 : decode cX3_told 19 = .ok (.ireturn, 1) := dk_172 (dk_at dksX3_told_0 19 rfl rfl)
theorem dX3_told_20 : decode cX3_told 20 = .ok (.aload_n 0, 1) := dk_42 (dk_at dksX3_told_0 20 rfl rfl)
theorem dX3_told_21 : decode cX3_told 21 = .ok (.getfield 28, 3) := dk_180 0 28 (dk_at dksX3_told_0 21 rfl rfl)
theorem dX3_told_24 : decode cX3_told 24 = .ok (.iload_n 1, 1) := dk_27 (dk_at dksX3_told_1 0 rfl rfl)
theorem dX3_told_25 : decode cX3_told 25 = .ok (.aload_n 0, 1) := dk_42 (dk_at dksX3_told_1 1 rfl rfl)
theorem dX3_told_26 : decode cX3_told 26 = .ok (.getfield 265, 3) := dk_180 1 9 (dk_at dksX3_told_1 2 rfl rfl)
theorem dX3_told_29 : decode cX3_told 29 = .ok (.iastore, 1) := dk_79 (dk_at dksX3_told_1 5 rfl rfl)
theorem dX3_told_30 : decode cX3_told 30 = .ok (.iconst 1, 1) := dk_4 (dk_at dksX3_told_1 6 rfl rfl)
theorem dX3_told_31 : decode cX3_told 31 = .ok (.ireturn, 1) := dk_172 (dk_at dksX3_told_1 7 rfl rfl)
abbrev cX3_number : ByteArray := prog_14_method_44_code
def yX3_number : MethodName := ⟨RX3, "number", "(II)Z"⟩
def dkwX3_number_1 : List UInt8 := [154, 0, 9, 42, 5, 182, 0, 218, 172, 42, 42, 180, 0, 209, 181, 1, 9, 42, 182, 0, 221, 4, 172]
abbrev dktX3_number_1 : List UInt8 := dkwX3_number_1 ++ []
def dkwX3_number_0 : List UInt8 := [42, 180, 0, 197, 5, 159, 0, 9, 42, 4, 182, 0, 218, 172, 42, 180, 0, 209, 27, 28, 184, 0, 77]
abbrev dktX3_number_0 : List UInt8 := dkwX3_number_0 ++ dktX3_number_1
theorem dksX3_number_0 : cX3_number.data.toList.drop 0 = dktX3_number_0 := by decide +kernel
theorem dksX3_number_1 : cX3_number.data.toList.drop 23 = dktX3_number_1 := dk_seg dksX3_number_0 23 rfl rfl
theorem dX3_number_0 : decode cX3_number 0 = .ok (.aload_n 0, 1) := dk_42 (dk_at dksX3_number_0 0 rfl rfl)
theorem dX3_number_1 : decode cX3_number 1 = .ok (.getfield 197, 3) := dk_180 0 197 (dk_at dksX3_number_0 1 rfl rfl)
theorem dX3_number_4 : decode cX3_number 4 = .ok (.iconst 2, 1) := dk_5 (dk_at dksX3_number_0 4 rfl rfl)
theorem dX3_number_5 : decode cX3_number 5 = .ok (.if_icmp .eq 9, 3) := dk_159 0 9 (dk_at dksX3_number_0 5 rfl rfl)
theorem dX3_number_8 : decode cX3_number 8 = .ok (.aload_n 0, 1) := dk_42 (dk_at dksX3_number_0 8 rfl rfl)
theorem dX3_number_9 : decode cX3_number 9 = .ok (.iconst 1, 1) := dk_4 (dk_at dksX3_number_0 9 rfl rfl)
theorem dX3_number_10 : decode cX3_number 10 = .ok (.invokevirtual 218, 3) := dk_182 0 218 (dk_at dksX3_number_0 10 rfl rfl)
theorem dX3_number_13 : decode cX3_number 13 = .ok (.ireturn, 1) := dk_172 (dk_at dksX3_number_0 13 rfl rfl)
theorem dX3_number_14 : decode cX3_number 14 = .ok (.aload_n 0, 1) := dk_42 (dk_at dksX3_number_0 14 rfl rfl)
theorem dX3_number_15 : decode cX3_number 15 = .ok (.getfield 209, 3) := dk_180 0 209 (dk_at dksX3_number_0 15 rfl rfl)
theorem dX3_number_18 : decode cX3_number 18 = .ok (.iload_n 1, 1) := dk_27 (dk_at dksX3_number_0 18 rfl rfl)
theorem dX3_number_19 : decode cX3_number 19 = .ok (.iload_n 2, 1) := dk_28 (dk_at dksX3_number_0 19 rfl rfl)
theorem dX3_number_20 : decode cX3_number 20 = .ok (.invokestatic 77, 3) := dk_184 0 77 (dk_at dksX3_number_0 20 rfl rfl)
theorem dX3_number_23 : decode cX3_number 23 = .ok (.ifCond .ne 9, 3) := dk_154 0 9 (dk_at dksX3_number_1 0 rfl rfl)
theorem dX3_number_26 : decode cX3_number 26 = .ok (.aload_n 0, 1) := dk_42 (dk_at dksX3_number_1 3 rfl rfl)
theorem dX3_number_27 : decode cX3_number 27 = .ok (.iconst 2, 1) := dk_5 (dk_at dksX3_number_1 4 rfl rfl)
theorem dX3_number_28 : decode cX3_number 28 = .ok (.invokevirtual 218, 3) := dk_182 0 218 (dk_at dksX3_number_1 5 rfl rfl)
theorem dX3_number_31 : decode cX3_number 31 = .ok (.ireturn, 1) := dk_172 (dk_at dksX3_number_1 8 rfl rfl)
theorem dX3_number_32 : decode cX3_number 32 = .ok (.aload_n 0, 1) := dk_42 (dk_at dksX3_number_1 9 rfl rfl)
theorem dX3_number_33 : decode cX3_number 33 = .ok (.aload_n 0, 1) := dk_42 (dk_at dksX3_number_1 10 rfl rfl)
theorem dX3_number_34 : decode cX3_number 34 = .ok (.getfield 209, 3) := dk_180 0 209 (dk_at dksX3_number_1 11 rfl rfl)
theorem dX3_number_37 : decode cX3_number 37 = .ok (.putfield 265, 3) := dk_181 1 9 (dk_at dksX3_number_1 14 rfl rfl)
theorem dX3_number_40 : decode cX3_number 40 = .ok (.aload_n 0, 1) := dk_42 (dk_at dksX3_number_1 17 rfl rfl)
theorem dX3_number_41 : decode cX3_number 41 = .ok (.invokevirtual 221, 3) := dk_182 0 221 (dk_at dksX3_number_1 18 rfl rfl)
theorem dX3_number_44 : decode cX3_number 44 = .ok (.iconst 1, 1) := dk_4 (dk_at dksX3_number_1 21 rfl rfl)
theorem dX3_number_45 : decode cX3_number 45 = .ok (.ireturn, 1) := dk_172 (dk_at dksX3_number_1 22 rfl rfl)
abbrev cX3_aRota : ByteArray := prog_14_method_47_code
def yX3_aRota : MethodName := ⟨RX3, "aRota", "()Z"⟩
def dkwX3_aRota_5 : List UInt8 := [167, 0, 4, 3, 172]
abbrev dktX3_aRota_5 : List UInt8 := dkwX3_aRota_5 ++ []
def dkwX3_aRota_4 : List UInt8 := [7, 96, 16, 13, 4, 16, 99, 182, 1, 19, 153, 0, 17, 42, 17, 0, 159, 182, 0, 253, 153, 0, 7, 4]
abbrev dktX3_aRota_4 : List UInt8 := dkwX3_aRota_4 ++ dktX3_aRota_5
def dkwX3_aRota_3 : List UInt8 := [182, 1, 19, 153, 0, 48, 42, 27, 6, 96, 16, 12, 3, 17, 39, 15, 182, 1, 19, 153, 0, 32, 42, 27]
abbrev dktX3_aRota_3 : List UInt8 := dkwX3_aRota_3 ++ dktX3_aRota_4
def dkwX3_aRota_2 : List UInt8 := [182, 1, 19, 153, 0, 70, 42, 27, 5, 96, 16, 7, 3, 42, 180, 0, 7, 16, 98, 46, 4, 100]
abbrev dktX3_aRota_2 : List UInt8 := dkwX3_aRota_2 ++ dktX3_aRota_3
def dkwX3_aRota_1 : List UInt8 := [182, 1, 19, 153, 0, 92, 42, 27, 4, 96, 16, 11, 3, 42, 180, 0, 7, 16, 97, 46, 4, 100]
abbrev dktX3_aRota_1 : List UInt8 := dkwX3_aRota_1 ++ dktX3_aRota_2
def dkwX3_aRota_0 : List UInt8 := [8, 42, 180, 1, 16, 104, 60, 42, 27, 3, 96, 16, 10, 3, 42, 180, 0, 7, 16, 96, 46, 4, 100]
abbrev dktX3_aRota_0 : List UInt8 := dkwX3_aRota_0 ++ dktX3_aRota_1
theorem dksX3_aRota_0 : cX3_aRota.data.toList.drop 0 = dktX3_aRota_0 := by decide +kernel
theorem dksX3_aRota_1 : cX3_aRota.data.toList.drop 23 = dktX3_aRota_1 := dk_seg dksX3_aRota_0 23 rfl rfl
theorem dksX3_aRota_2 : cX3_aRota.data.toList.drop 45 = dktX3_aRota_2 := dk_seg dksX3_aRota_1 22 rfl rfl
theorem dksX3_aRota_3 : cX3_aRota.data.toList.drop 67 = dktX3_aRota_3 := dk_seg dksX3_aRota_2 22 rfl rfl
theorem dksX3_aRota_4 : cX3_aRota.data.toList.drop 91 = dktX3_aRota_4 := dk_seg dksX3_aRota_3 24 rfl rfl
theorem dksX3_aRota_5 : cX3_aRota.data.toList.drop 115 = dktX3_aRota_5 := dk_seg dksX3_aRota_4 24 rfl rfl
theorem dX3_aRota_0 : decode cX3_aRota 0 = .ok (.iconst 5, 1) := dk_8 (dk_at dksX3_aRota_0 0 rfl rfl)
theorem dX3_aRota_1 : decode cX3_aRota 1 = .ok (.aload_n 0, 1) := dk_42 (dk_at dksX3_aRota_0 1 rfl rfl)
theorem dX3_aRota_2 : decode cX3_aRota 2 = .ok (.getfield 272, 3) := dk_180 1 16 (dk_at dksX3_aRota_0 2 rfl rfl)
theorem dX3_aRota_5 : decode cX3_aRota 5 = .ok (.imul, 1) := dk_104 (dk_at dksX3_aRota_0 5 rfl rfl)
theorem dX3_aRota_6 : decode cX3_aRota 6 = .ok (.istore_n 1, 1) := dk_60 (dk_at dksX3_aRota_0 6 rfl rfl)
theorem dX3_aRota_7 : decode cX3_aRota 7 = .ok (.aload_n 0, 1) := dk_42 (dk_at dksX3_aRota_0 7 rfl rfl)
theorem dX3_aRota_8 : decode cX3_aRota 8 = .ok (.iload_n 1, 1) := dk_27 (dk_at dksX3_aRota_0 8 rfl rfl)
theorem dX3_aRota_9 : decode cX3_aRota 9 = .ok (.iconst 0, 1) := dk_3 (dk_at dksX3_aRota_0 9 rfl rfl)
theorem dX3_aRota_10 : decode cX3_aRota 10 = .ok (.iadd, 1) := dk_96 (dk_at dksX3_aRota_0 10 rfl rfl)
theorem dX3_aRota_11 : decode cX3_aRota 11 = .ok (.bipush 10, 2) := dk_16 10 (dk_at dksX3_aRota_0 11 rfl rfl)
theorem dX3_aRota_13 : decode cX3_aRota 13 = .ok (.iconst 0, 1) := dk_3 (dk_at dksX3_aRota_0 13 rfl rfl)
theorem dX3_aRota_14 : decode cX3_aRota 14 = .ok (.aload_n 0, 1) := dk_42 (dk_at dksX3_aRota_0 14 rfl rfl)
theorem dX3_aRota_15 : decode cX3_aRota 15 = .ok (.getfield 7, 3) := dk_180 0 7 (dk_at dksX3_aRota_0 15 rfl rfl)
theorem dX3_aRota_18 : decode cX3_aRota 18 = .ok (.bipush 96, 2) := dk_16 96 (dk_at dksX3_aRota_0 18 rfl rfl)
theorem dX3_aRota_20 : decode cX3_aRota 20 = .ok (.iaload, 1) := dk_46 (dk_at dksX3_aRota_0 20 rfl rfl)
theorem dX3_aRota_21 : decode cX3_aRota 21 = .ok (.iconst 1, 1) := dk_4 (dk_at dksX3_aRota_0 21 rfl rfl)
theorem dX3_aRota_22 : decode cX3_aRota 22 = .ok (.isub, 1) := dk_100 (dk_at dksX3_aRota_0 22 rfl rfl)
theorem dX3_aRota_23 : decode cX3_aRota 23 = .ok (.invokevirtual 275, 3) := dk_182 1 19 (dk_at dksX3_aRota_1 0 rfl rfl)
theorem dX3_aRota_26 : decode cX3_aRota 26 = .ok (.ifCond .eq 92, 3) := dk_153 0 92 (dk_at dksX3_aRota_1 3 rfl rfl)
theorem dX3_aRota_29 : decode cX3_aRota 29 = .ok (.aload_n 0, 1) := dk_42 (dk_at dksX3_aRota_1 6 rfl rfl)
theorem dX3_aRota_30 : decode cX3_aRota 30 = .ok (.iload_n 1, 1) := dk_27 (dk_at dksX3_aRota_1 7 rfl rfl)
theorem dX3_aRota_31 : decode cX3_aRota 31 = .ok (.iconst 1, 1) := dk_4 (dk_at dksX3_aRota_1 8 rfl rfl)
theorem dX3_aRota_32 : decode cX3_aRota 32 = .ok (.iadd, 1) := dk_96 (dk_at dksX3_aRota_1 9 rfl rfl)
theorem dX3_aRota_33 : decode cX3_aRota 33 = .ok (.bipush 11, 2) := dk_16 11 (dk_at dksX3_aRota_1 10 rfl rfl)
theorem dX3_aRota_35 : decode cX3_aRota 35 = .ok (.iconst 0, 1) := dk_3 (dk_at dksX3_aRota_1 12 rfl rfl)
theorem dX3_aRota_36 : decode cX3_aRota 36 = .ok (.aload_n 0, 1) := dk_42 (dk_at dksX3_aRota_1 13 rfl rfl)
theorem dX3_aRota_37 : decode cX3_aRota 37 = .ok (.getfield 7, 3) := dk_180 0 7 (dk_at dksX3_aRota_1 14 rfl rfl)
theorem dX3_aRota_40 : decode cX3_aRota 40 = .ok (.bipush 97, 2) := dk_16 97 (dk_at dksX3_aRota_1 17 rfl rfl)
theorem dX3_aRota_42 : decode cX3_aRota 42 = .ok (.iaload, 1) := dk_46 (dk_at dksX3_aRota_1 19 rfl rfl)
theorem dX3_aRota_43 : decode cX3_aRota 43 = .ok (.iconst 1, 1) := dk_4 (dk_at dksX3_aRota_1 20 rfl rfl)
theorem dX3_aRota_44 : decode cX3_aRota 44 = .ok (.isub, 1) := dk_100 (dk_at dksX3_aRota_1 21 rfl rfl)
theorem dX3_aRota_45 : decode cX3_aRota 45 = .ok (.invokevirtual 275, 3) := dk_182 1 19 (dk_at dksX3_aRota_2 0 rfl rfl)
theorem dX3_aRota_48 : decode cX3_aRota 48 = .ok (.ifCond .eq 70, 3) := dk_153 0 70 (dk_at dksX3_aRota_2 3 rfl rfl)
theorem dX3_aRota_51 : decode cX3_aRota 51 = .ok (.aload_n 0, 1) := dk_42 (dk_at dksX3_aRota_2 6 rfl rfl)
theorem dX3_aRota_52 : decode cX3_aRota 52 = .ok (.iload_n 1, 1) := dk_27 (dk_at dksX3_aRota_2 7 rfl rfl)
theorem dX3_aRota_53 : decode cX3_aRota 53 = .ok (.iconst 2, 1) := dk_5 (dk_at dksX3_aRota_2 8 rfl rfl)
theorem dX3_aRota_54 : decode cX3_aRota 54 = .ok (.iadd, 1) := dk_96 (dk_at dksX3_aRota_2 9 rfl rfl)
theorem dX3_aRota_55 : decode cX3_aRota 55 = .ok (.bipush 7, 2) := dk_16 7 (dk_at dksX3_aRota_2 10 rfl rfl)
theorem dX3_aRota_57 : decode cX3_aRota 57 = .ok (.iconst 0, 1) := dk_3 (dk_at dksX3_aRota_2 12 rfl rfl)
theorem dX3_aRota_58 : decode cX3_aRota 58 = .ok (.aload_n 0, 1) := dk_42 (dk_at dksX3_aRota_2 13 rfl rfl)
theorem dX3_aRota_59 : decode cX3_aRota 59 = .ok (.getfield 7, 3) := dk_180 0 7 (dk_at dksX3_aRota_2 14 rfl rfl)
theorem dX3_aRota_62 : decode cX3_aRota 62 = .ok (.bipush 98, 2) := dk_16 98 (dk_at dksX3_aRota_2 17 rfl rfl)
theorem dX3_aRota_64 : decode cX3_aRota 64 = .ok (.iaload, 1) := dk_46 (dk_at dksX3_aRota_2 19 rfl rfl)
theorem dX3_aRota_65 : decode cX3_aRota 65 = .ok (.iconst 1, 1) := dk_4 (dk_at dksX3_aRota_2 20 rfl rfl)
theorem dX3_aRota_66 : decode cX3_aRota 66 = .ok (.isub, 1) := dk_100 (dk_at dksX3_aRota_2 21 rfl rfl)
theorem dX3_aRota_67 : decode cX3_aRota 67 = .ok (.invokevirtual 275, 3) := dk_182 1 19 (dk_at dksX3_aRota_3 0 rfl rfl)
theorem dX3_aRota_70 : decode cX3_aRota 70 = .ok (.ifCond .eq 48, 3) := dk_153 0 48 (dk_at dksX3_aRota_3 3 rfl rfl)
theorem dX3_aRota_73 : decode cX3_aRota 73 = .ok (.aload_n 0, 1) := dk_42 (dk_at dksX3_aRota_3 6 rfl rfl)
theorem dX3_aRota_74 : decode cX3_aRota 74 = .ok (.iload_n 1, 1) := dk_27 (dk_at dksX3_aRota_3 7 rfl rfl)
theorem dX3_aRota_75 : decode cX3_aRota 75 = .ok (.iconst 3, 1) := dk_6 (dk_at dksX3_aRota_3 8 rfl rfl)
theorem dX3_aRota_76 : decode cX3_aRota 76 = .ok (.iadd, 1) := dk_96 (dk_at dksX3_aRota_3 9 rfl rfl)
theorem dX3_aRota_77 : decode cX3_aRota 77 = .ok (.bipush 12, 2) := dk_16 12 (dk_at dksX3_aRota_3 10 rfl rfl)
theorem dX3_aRota_79 : decode cX3_aRota 79 = .ok (.iconst 0, 1) := dk_3 (dk_at dksX3_aRota_3 12 rfl rfl)
theorem dX3_aRota_80 : decode cX3_aRota 80 = .ok (.sipush 9999, 3) := dk_17 39 15 (dk_at dksX3_aRota_3 13 rfl rfl)
theorem dX3_aRota_83 : decode cX3_aRota 83 = .ok (.invokevirtual 275, 3) := dk_182 1 19 (dk_at dksX3_aRota_3 16 rfl rfl)
theorem dX3_aRota_86 : decode cX3_aRota 86 = .ok (.ifCond .eq 32, 3) := dk_153 0 32 (dk_at dksX3_aRota_3 19 rfl rfl)
theorem dX3_aRota_89 : decode cX3_aRota 89 = .ok (.aload_n 0, 1) := dk_42 (dk_at dksX3_aRota_3 22 rfl rfl)
theorem dX3_aRota_90 : decode cX3_aRota 90 = .ok (.iload_n 1, 1) := dk_27 (dk_at dksX3_aRota_3 23 rfl rfl)
theorem dX3_aRota_91 : decode cX3_aRota 91 = .ok (.iconst 4, 1) := dk_7 (dk_at dksX3_aRota_4 0 rfl rfl)
theorem dX3_aRota_92 : decode cX3_aRota 92 = .ok (.iadd, 1) := dk_96 (dk_at dksX3_aRota_4 1 rfl rfl)
theorem dX3_aRota_93 : decode cX3_aRota 93 = .ok (.bipush 13, 2) := dk_16 13 (dk_at dksX3_aRota_4 2 rfl rfl)
theorem dX3_aRota_95 : decode cX3_aRota 95 = .ok (.iconst 1, 1) := dk_4 (dk_at dksX3_aRota_4 4 rfl rfl)
theorem dX3_aRota_96 : decode cX3_aRota 96 = .ok (.bipush 99, 2) := dk_16 99 (dk_at dksX3_aRota_4 5 rfl rfl)
theorem dX3_aRota_98 : decode cX3_aRota 98 = .ok (.invokevirtual 275, 3) := dk_182 1 19 (dk_at dksX3_aRota_4 7 rfl rfl)
theorem dX3_aRota_101 : decode cX3_aRota 101 = .ok (.ifCond .eq 17, 3) := dk_153 0 17 (dk_at dksX3_aRota_4 10 rfl rfl)
theorem dX3_aRota_104 : decode cX3_aRota 104 = .ok (.aload_n 0, 1) := dk_42 (dk_at dksX3_aRota_4 13 rfl rfl)
theorem dX3_aRota_105 : decode cX3_aRota 105 = .ok (.sipush 159, 3) := dk_17 0 159 (dk_at dksX3_aRota_4 14 rfl rfl)
theorem dX3_aRota_108 : decode cX3_aRota 108 = .ok (.invokevirtual 253, 3) := dk_182 0 253 (dk_at dksX3_aRota_4 17 rfl rfl)
theorem dX3_aRota_111 : decode cX3_aRota 111 = .ok (.ifCond .eq 7, 3) := dk_153 0 7 (dk_at dksX3_aRota_4 20 rfl rfl)
theorem dX3_aRota_114 : decode cX3_aRota 114 = .ok (.iconst 1, 1) := dk_4 (dk_at dksX3_aRota_4 23 rfl rfl)
theorem dX3_aRota_115 : decode cX3_aRota 115 = .ok (.goto 4, 3) := dk_167 0 4 (dk_at dksX3_aRota_5 0 rfl rfl)
theorem dX3_aRota_118 : decode cX3_aRota 118 = .ok (.iconst 0, 1) := dk_3 (dk_at dksX3_aRota_5 3 rfl rfl)
theorem dX3_aRota_119 : decode cX3_aRota 119 = .ok (.ireturn, 1) := dk_172 (dk_at dksX3_aRota_5 4 rfl rfl)
abbrev cX3_putsLaw : ByteArray := prog_14_method_49_code
def yX3_putsLaw : MethodName := ⟨RX3, "putsLaw", "(I)I"⟩
def dkwX3_putsLaw_7 : List UInt8 := [42, 180, 1, 3, 172]
abbrev dktX3_putsLaw_7 : List UInt8 := dkwX3_putsLaw_7 ++ []
def dkwX3_putsLaw_6 : List UInt8 := [17, 1, 138, 17, 3, 52, 27, 104, 96, 28, 96, 42, 180, 0, 25, 28, 46, 79, 132, 2, 1, 167, 255, 221]
abbrev dktX3_putsLaw_6 : List UInt8 := dkwX3_putsLaw_6 ++ dktX3_putsLaw_7
def dkwX3_putsLaw_5 : List UInt8 := [46, 79, 132, 2, 1, 167, 255, 147, 3, 61, 28, 5, 42, 180, 0, 224, 104, 162, 0, 31, 42, 180, 0, 7]
abbrev dktX3_putsLaw_5 : List UInt8 := dkwX3_putsLaw_5 ++ dktX3_putsLaw_6
def dkwX3_putsLaw_4 : List UInt8 := [79, 42, 180, 0, 7, 17, 1, 106, 16, 16, 27, 104, 96, 28, 96, 42, 180, 0, 22, 7, 28, 104, 6, 96]
abbrev dktX3_putsLaw_4 : List UInt8 := dkwX3_putsLaw_4 ++ dktX3_putsLaw_5
def dkwX3_putsLaw_3 : List UInt8 := [42, 180, 0, 7, 17, 1, 74, 16, 16, 27, 104, 96, 28, 96, 42, 180, 0, 22, 7, 28, 104, 5, 96, 46]
abbrev dktX3_putsLaw_3 : List UInt8 := dkwX3_putsLaw_3 ++ dktX3_putsLaw_4
def dkwX3_putsLaw_2 : List UInt8 := [180, 0, 7, 17, 1, 42, 16, 16, 27, 104, 96, 28, 96, 42, 180, 0, 22, 7, 28, 104, 4, 96, 46, 79]
abbrev dktX3_putsLaw_2 : List UInt8 := dkwX3_putsLaw_2 ++ dktX3_putsLaw_3
def dkwX3_putsLaw_1 : List UInt8 := [180, 0, 7, 17, 1, 10, 16, 16, 27, 104, 96, 28, 96, 42, 180, 0, 22, 7, 28, 104, 46, 79, 42]
abbrev dktX3_putsLaw_1 : List UInt8 := dkwX3_putsLaw_1 ++ dktX3_putsLaw_2
def dkwX3_putsLaw_0 : List UInt8 := [42, 180, 0, 7, 16, 100, 27, 96, 42, 180, 1, 3, 79, 3, 61, 28, 42, 180, 1, 3, 162, 0, 107, 42]
abbrev dktX3_putsLaw_0 : List UInt8 := dkwX3_putsLaw_0 ++ dktX3_putsLaw_1
theorem dksX3_putsLaw_0 : cX3_putsLaw.data.toList.drop 0 = dktX3_putsLaw_0 := by decide +kernel
theorem dksX3_putsLaw_1 : cX3_putsLaw.data.toList.drop 24 = dktX3_putsLaw_1 := dk_seg dksX3_putsLaw_0 24 rfl rfl
theorem dksX3_putsLaw_2 : cX3_putsLaw.data.toList.drop 47 = dktX3_putsLaw_2 := dk_seg dksX3_putsLaw_1 23 rfl rfl
theorem dksX3_putsLaw_3 : cX3_putsLaw.data.toList.drop 71 = dktX3_putsLaw_3 := dk_seg dksX3_putsLaw_2 24 rfl rfl
theorem dksX3_putsLaw_4 : cX3_putsLaw.data.toList.drop 95 = dktX3_putsLaw_4 := dk_seg dksX3_putsLaw_3 24 rfl rfl
theorem dksX3_putsLaw_5 : cX3_putsLaw.data.toList.drop 119 = dktX3_putsLaw_5 := dk_seg dksX3_putsLaw_4 24 rfl rfl
theorem dksX3_putsLaw_6 : cX3_putsLaw.data.toList.drop 143 = dktX3_putsLaw_6 := dk_seg dksX3_putsLaw_5 24 rfl rfl
theorem dksX3_putsLaw_7 : cX3_putsLaw.data.toList.drop 167 = dktX3_putsLaw_7 := dk_seg dksX3_putsLaw_6 24 rfl rfl
theorem dX3_putsLaw_0 : decode cX3_putsLaw 0 = .ok (.aload_n 0, 1) := dk_42 (dk_at dksX3_putsLaw_0 0 rfl rfl)
theorem dX3_putsLaw_1 : decode cX3_putsLaw 1 = .ok (.getfield 7, 3) := dk_180 0 7 (dk_at dksX3_putsLaw_0 1 rfl rfl)
theorem dX3_putsLaw_4 : decode cX3_putsLaw 4 = .ok (.bipush 100, 2) := dk_16 100 (dk_at dksX3_putsLaw_0 4 rfl rfl)
theorem dX3_putsLaw_6 : decode cX3_putsLaw 6 = .ok (.iload_n 1, 1) := dk_27 (dk_at dksX3_putsLaw_0 6 rfl rfl)
theorem dX3_putsLaw_7 : decode cX3_putsLaw 7 = .ok (.iadd, 1) := dk_96 (dk_at dksX3_putsLaw_0 7 rfl rfl)
theorem dX3_putsLaw_8 : decode cX3_putsLaw 8 = .ok (.aload_n 0, 1) := dk_42 (dk_at dksX3_putsLaw_0 8 rfl rfl)
theorem dX3_putsLaw_9 : decode cX3_putsLaw 9 = .ok (.getfield 259, 3) := dk_180 1 3 (dk_at dksX3_putsLaw_0 9 rfl rfl)
theorem dX3_putsLaw_12 : decode cX3_putsLaw 12 = .ok (.iastore, 1) := dk_79 (dk_at dksX3_putsLaw_0 12 rfl rfl)
theorem dX3_putsLaw_13 : decode cX3_putsLaw 13 = .ok (.iconst 0, 1) := dk_3 (dk_at dksX3_putsLaw_0 13 rfl rfl)
theorem dX3_putsLaw_14 : decode cX3_putsLaw 14 = .ok (.istore_n 2, 1) := dk_61 (dk_at dksX3_putsLaw_0 14 rfl rfl)
theorem dX3_putsLaw_15 : decode cX3_putsLaw 15 = .ok (.iload_n 2, 1) := dk_28 (dk_at dksX3_putsLaw_0 15 rfl rfl)
theorem dX3_putsLaw_16 : decode cX3_putsLaw 16 = .ok (.aload_n 0, 1) := dk_42 (dk_at dksX3_putsLaw_0 16 rfl rfl)
theorem dX3_putsLaw_17 : decode cX3_putsLaw 17 = .ok (.getfield 259, 3) := dk_180 1 3 (dk_at dksX3_putsLaw_0 17 rfl rfl)
theorem dX3_putsLaw_20 : decode cX3_putsLaw 20 = .ok (.if_icmp .ge 107, 3) := dk_162 0 107 (dk_at dksX3_putsLaw_0 20 rfl rfl)
theorem dX3_putsLaw_23 : decode cX3_putsLaw 23 = .ok (.aload_n 0, 1) := dk_42 (dk_at dksX3_putsLaw_0 23 rfl rfl)
theorem dX3_putsLaw_24 : decode cX3_putsLaw 24 = .ok (.getfield 7, 3) := dk_180 0 7 (dk_at dksX3_putsLaw_1 0 rfl rfl)
theorem dX3_putsLaw_27 : decode cX3_putsLaw 27 = .ok (.sipush 266, 3) := dk_17 1 10 (dk_at dksX3_putsLaw_1 3 rfl rfl)
theorem dX3_putsLaw_30 : decode cX3_putsLaw 30 = .ok (.bipush 16, 2) := dk_16 16 (dk_at dksX3_putsLaw_1 6 rfl rfl)
theorem dX3_putsLaw_32 : decode cX3_putsLaw 32 = .ok (.iload_n 1, 1) := dk_27 (dk_at dksX3_putsLaw_1 8 rfl rfl)
theorem dX3_putsLaw_33 : decode cX3_putsLaw 33 = .ok (.imul, 1) := dk_104 (dk_at dksX3_putsLaw_1 9 rfl rfl)
theorem dX3_putsLaw_34 : decode cX3_putsLaw 34 = .ok (.iadd, 1) := dk_96 (dk_at dksX3_putsLaw_1 10 rfl rfl)
theorem dX3_putsLaw_35 : decode cX3_putsLaw 35 = .ok (.iload_n 2, 1) := dk_28 (dk_at dksX3_putsLaw_1 11 rfl rfl)
theorem dX3_putsLaw_36 : decode cX3_putsLaw 36 = .ok (.iadd, 1) := dk_96 (dk_at dksX3_putsLaw_1 12 rfl rfl)
theorem dX3_putsLaw_37 : decode cX3_putsLaw 37 = .ok (.aload_n 0, 1) := dk_42 (dk_at dksX3_putsLaw_1 13 rfl rfl)
theorem dX3_putsLaw_38 : decode cX3_putsLaw 38 = .ok (.getfield 22, 3) := dk_180 0 22 (dk_at dksX3_putsLaw_1 14 rfl rfl)
theorem dX3_putsLaw_41 : decode cX3_putsLaw 41 = .ok (.iconst 4, 1) := dk_7 (dk_at dksX3_putsLaw_1 17 rfl rfl)
theorem dX3_putsLaw_42 : decode cX3_putsLaw 42 = .ok (.iload_n 2, 1) := dk_28 (dk_at dksX3_putsLaw_1 18 rfl rfl)
theorem dX3_putsLaw_43 : decode cX3_putsLaw 43 = .ok (.imul, 1) := dk_104 (dk_at dksX3_putsLaw_1 19 rfl rfl)
theorem dX3_putsLaw_44 : decode cX3_putsLaw 44 = .ok (.iaload, 1) := dk_46 (dk_at dksX3_putsLaw_1 20 rfl rfl)
theorem dX3_putsLaw_45 : decode cX3_putsLaw 45 = .ok (.iastore, 1) := dk_79 (dk_at dksX3_putsLaw_1 21 rfl rfl)
theorem dX3_putsLaw_46 : decode cX3_putsLaw 46 = .ok (.aload_n 0, 1) := dk_42 (dk_at dksX3_putsLaw_1 22 rfl rfl)
theorem dX3_putsLaw_47 : decode cX3_putsLaw 47 = .ok (.getfield 7, 3) := dk_180 0 7 (dk_at dksX3_putsLaw_2 0 rfl rfl)
theorem dX3_putsLaw_50 : decode cX3_putsLaw 50 = .ok (.sipush 298, 3) := dk_17 1 42 (dk_at dksX3_putsLaw_2 3 rfl rfl)
theorem dX3_putsLaw_53 : decode cX3_putsLaw 53 = .ok (.bipush 16, 2) := dk_16 16 (dk_at dksX3_putsLaw_2 6 rfl rfl)
theorem dX3_putsLaw_55 : decode cX3_putsLaw 55 = .ok (.iload_n 1, 1) := dk_27 (dk_at dksX3_putsLaw_2 8 rfl rfl)
theorem dX3_putsLaw_56 : decode cX3_putsLaw 56 = .ok (.imul, 1) := dk_104 (dk_at dksX3_putsLaw_2 9 rfl rfl)
theorem dX3_putsLaw_57 : decode cX3_putsLaw 57 = .ok (.iadd, 1) := dk_96 (dk_at dksX3_putsLaw_2 10 rfl rfl)
theorem dX3_putsLaw_58 : decode cX3_putsLaw 58 = .ok (.iload_n 2, 1) := dk_28 (dk_at dksX3_putsLaw_2 11 rfl rfl)
theorem dX3_putsLaw_59 : decode cX3_putsLaw 59 = .ok (.iadd, 1) := dk_96 (dk_at dksX3_putsLaw_2 12 rfl rfl)
theorem dX3_putsLaw_60 : decode cX3_putsLaw 60 = .ok (.aload_n 0, 1) := dk_42 (dk_at dksX3_putsLaw_2 13 rfl rfl)
theorem dX3_putsLaw_61 : decode cX3_putsLaw 61 = .ok (.getfield 22, 3) := dk_180 0 22 (dk_at dksX3_putsLaw_2 14 rfl rfl)
theorem dX3_putsLaw_64 : decode cX3_putsLaw 64 = .ok (.iconst 4, 1) := dk_7 (dk_at dksX3_putsLaw_2 17 rfl rfl)
theorem dX3_putsLaw_65 : decode cX3_putsLaw 65 = .ok (.iload_n 2, 1) := dk_28 (dk_at dksX3_putsLaw_2 18 rfl rfl)
theorem dX3_putsLaw_66 : decode cX3_putsLaw 66 = .ok (.imul, 1) := dk_104 (dk_at dksX3_putsLaw_2 19 rfl rfl)
theorem dX3_putsLaw_67 : decode cX3_putsLaw 67 = .ok (.iconst 1, 1) := dk_4 (dk_at dksX3_putsLaw_2 20 rfl rfl)
theorem dX3_putsLaw_68 : decode cX3_putsLaw 68 = .ok (.iadd, 1) := dk_96 (dk_at dksX3_putsLaw_2 21 rfl rfl)
theorem dX3_putsLaw_69 : decode cX3_putsLaw 69 = .ok (.iaload, 1) := dk_46 (dk_at dksX3_putsLaw_2 22 rfl rfl)
theorem dX3_putsLaw_70 : decode cX3_putsLaw 70 = .ok (.iastore, 1) := dk_79 (dk_at dksX3_putsLaw_2 23 rfl rfl)
theorem dX3_putsLaw_71 : decode cX3_putsLaw 71 = .ok (.aload_n 0, 1) := dk_42 (dk_at dksX3_putsLaw_3 0 rfl rfl)
theorem dX3_putsLaw_72 : decode cX3_putsLaw 72 = .ok (.getfield 7, 3) := dk_180 0 7 (dk_at dksX3_putsLaw_3 1 rfl rfl)
theorem dX3_putsLaw_75 : decode cX3_putsLaw 75 = .ok (.sipush 330, 3) := dk_17 1 74 (dk_at dksX3_putsLaw_3 4 rfl rfl)
theorem dX3_putsLaw_78 : decode cX3_putsLaw 78 = .ok (.bipush 16, 2) := dk_16 16 (dk_at dksX3_putsLaw_3 7 rfl rfl)
theorem dX3_putsLaw_80 : decode cX3_putsLaw 80 = .ok (.iload_n 1, 1) := dk_27 (dk_at dksX3_putsLaw_3 9 rfl rfl)
theorem dX3_putsLaw_81 : decode cX3_putsLaw 81 = .ok (.imul, 1) := dk_104 (dk_at dksX3_putsLaw_3 10 rfl rfl)
theorem dX3_putsLaw_82 : decode cX3_putsLaw 82 = .ok (.iadd, 1) := dk_96 (dk_at dksX3_putsLaw_3 11 rfl rfl)
theorem dX3_putsLaw_83 : decode cX3_putsLaw 83 = .ok (.iload_n 2, 1) := dk_28 (dk_at dksX3_putsLaw_3 12 rfl rfl)
theorem dX3_putsLaw_84 : decode cX3_putsLaw 84 = .ok (.iadd, 1) := dk_96 (dk_at dksX3_putsLaw_3 13 rfl rfl)
theorem dX3_putsLaw_85 : decode cX3_putsLaw 85 = .ok (.aload_n 0, 1) := dk_42 (dk_at dksX3_putsLaw_3 14 rfl rfl)
theorem dX3_putsLaw_86 : decode cX3_putsLaw 86 = .ok (.getfield 22, 3) := dk_180 0 22 (dk_at dksX3_putsLaw_3 15 rfl rfl)
theorem dX3_putsLaw_89 : decode cX3_putsLaw 89 = .ok (.iconst 4, 1) := dk_7 (dk_at dksX3_putsLaw_3 18 rfl rfl)
theorem dX3_putsLaw_90 : decode cX3_putsLaw 90 = .ok (.iload_n 2, 1) := dk_28 (dk_at dksX3_putsLaw_3 19 rfl rfl)
theorem dX3_putsLaw_91 : decode cX3_putsLaw 91 = .ok (.imul, 1) := dk_104 (dk_at dksX3_putsLaw_3 20 rfl rfl)
theorem dX3_putsLaw_92 : decode cX3_putsLaw 92 = .ok (.iconst 2, 1) := dk_5 (dk_at dksX3_putsLaw_3 21 rfl rfl)
theorem dX3_putsLaw_93 : decode cX3_putsLaw 93 = .ok (.iadd, 1) := dk_96 (dk_at dksX3_putsLaw_3 22 rfl rfl)
theorem dX3_putsLaw_94 : decode cX3_putsLaw 94 = .ok (.iaload, 1) := dk_46 (dk_at dksX3_putsLaw_3 23 rfl rfl)
theorem dX3_putsLaw_95 : decode cX3_putsLaw 95 = .ok (.iastore, 1) := dk_79 (dk_at dksX3_putsLaw_4 0 rfl rfl)
theorem dX3_putsLaw_96 : decode cX3_putsLaw 96 = .ok (.aload_n 0, 1) := dk_42 (dk_at dksX3_putsLaw_4 1 rfl rfl)
theorem dX3_putsLaw_97 : decode cX3_putsLaw 97 = .ok (.getfield 7, 3) := dk_180 0 7 (dk_at dksX3_putsLaw_4 2 rfl rfl)
theorem dX3_putsLaw_100 : decode cX3_putsLaw 100 = .ok (.sipush 362, 3) := dk_17 1 106 (dk_at dksX3_putsLaw_4 5 rfl rfl)
theorem dX3_putsLaw_103 : decode cX3_putsLaw 103 = .ok (.bipush 16, 2) := dk_16 16 (dk_at dksX3_putsLaw_4 8 rfl rfl)
theorem dX3_putsLaw_105 : decode cX3_putsLaw 105 = .ok (.iload_n 1, 1) := dk_27 (dk_at dksX3_putsLaw_4 10 rfl rfl)
theorem dX3_putsLaw_106 : decode cX3_putsLaw 106 = .ok (.imul, 1) := dk_104 (dk_at dksX3_putsLaw_4 11 rfl rfl)
theorem dX3_putsLaw_107 : decode cX3_putsLaw 107 = .ok (.iadd, 1) := dk_96 (dk_at dksX3_putsLaw_4 12 rfl rfl)
theorem dX3_putsLaw_108 : decode cX3_putsLaw 108 = .ok (.iload_n 2, 1) := dk_28 (dk_at dksX3_putsLaw_4 13 rfl rfl)
theorem dX3_putsLaw_109 : decode cX3_putsLaw 109 = .ok (.iadd, 1) := dk_96 (dk_at dksX3_putsLaw_4 14 rfl rfl)
theorem dX3_putsLaw_110 : decode cX3_putsLaw 110 = .ok (.aload_n 0, 1) := dk_42 (dk_at dksX3_putsLaw_4 15 rfl rfl)
theorem dX3_putsLaw_111 : decode cX3_putsLaw 111 = .ok (.getfield 22, 3) := dk_180 0 22 (dk_at dksX3_putsLaw_4 16 rfl rfl)
theorem dX3_putsLaw_114 : decode cX3_putsLaw 114 = .ok (.iconst 4, 1) := dk_7 (dk_at dksX3_putsLaw_4 19 rfl rfl)
theorem dX3_putsLaw_115 : decode cX3_putsLaw 115 = .ok (.iload_n 2, 1) := dk_28 (dk_at dksX3_putsLaw_4 20 rfl rfl)
theorem dX3_putsLaw_116 : decode cX3_putsLaw 116 = .ok (.imul, 1) := dk_104 (dk_at dksX3_putsLaw_4 21 rfl rfl)
theorem dX3_putsLaw_117 : decode cX3_putsLaw 117 = .ok (.iconst 3, 1) := dk_6 (dk_at dksX3_putsLaw_4 22 rfl rfl)
theorem dX3_putsLaw_118 : decode cX3_putsLaw 118 = .ok (.iadd, 1) := dk_96 (dk_at dksX3_putsLaw_4 23 rfl rfl)
theorem dX3_putsLaw_119 : decode cX3_putsLaw 119 = .ok (.iaload, 1) := dk_46 (dk_at dksX3_putsLaw_5 0 rfl rfl)
theorem dX3_putsLaw_120 : decode cX3_putsLaw 120 = .ok (.iastore, 1) := dk_79 (dk_at dksX3_putsLaw_5 1 rfl rfl)
theorem dX3_putsLaw_121 : decode cX3_putsLaw 121 = .ok (.iinc 2 1, 3) := dk_132 2 1 (dk_at dksX3_putsLaw_5 2 rfl rfl)
theorem dX3_putsLaw_124 : decode cX3_putsLaw 124 = .ok (.goto (-109), 3) := dk_167 255 147 (dk_at dksX3_putsLaw_5 5 rfl rfl)
theorem dX3_putsLaw_127 : decode cX3_putsLaw 127 = .ok (.iconst 0, 1) := dk_3 (dk_at dksX3_putsLaw_5 8 rfl rfl)
theorem dX3_putsLaw_128 : decode cX3_putsLaw 128 = .ok (.istore_n 2, 1) := dk_61 (dk_at dksX3_putsLaw_5 9 rfl rfl)
theorem dX3_putsLaw_129 : decode cX3_putsLaw 129 = .ok (.iload_n 2, 1) := dk_28 (dk_at dksX3_putsLaw_5 10 rfl rfl)
theorem dX3_putsLaw_130 : decode cX3_putsLaw 130 = .ok (.iconst 2, 1) := dk_5 (dk_at dksX3_putsLaw_5 11 rfl rfl)
theorem dX3_putsLaw_131 : decode cX3_putsLaw 131 = .ok (.aload_n 0, 1) := dk_42 (dk_at dksX3_putsLaw_5 12 rfl rfl)
theorem dX3_putsLaw_132 : decode cX3_putsLaw 132 = .ok (.getfield 224, 3) := dk_180 0 224 (dk_at dksX3_putsLaw_5 13 rfl rfl)
theorem dX3_putsLaw_135 : decode cX3_putsLaw 135 = .ok (.imul, 1) := dk_104 (dk_at dksX3_putsLaw_5 16 rfl rfl)
theorem dX3_putsLaw_136 : decode cX3_putsLaw 136 = .ok (.if_icmp .ge 31, 3) := dk_162 0 31 (dk_at dksX3_putsLaw_5 17 rfl rfl)
theorem dX3_putsLaw_139 : decode cX3_putsLaw 139 = .ok (.aload_n 0, 1) := dk_42 (dk_at dksX3_putsLaw_5 20 rfl rfl)
theorem dX3_putsLaw_140 : decode cX3_putsLaw 140 = .ok (.getfield 7, 3) := dk_180 0 7 (dk_at dksX3_putsLaw_5 21 rfl rfl)
theorem dX3_putsLaw_143 : decode cX3_putsLaw 143 = .ok (.sipush 394, 3) := dk_17 1 138 (dk_at dksX3_putsLaw_6 0 rfl rfl)
theorem dX3_putsLaw_146 : decode cX3_putsLaw 146 = .ok (.sipush 820, 3) := dk_17 3 52 (dk_at dksX3_putsLaw_6 3 rfl rfl)
theorem dX3_putsLaw_149 : decode cX3_putsLaw 149 = .ok (.iload_n 1, 1) := dk_27 (dk_at dksX3_putsLaw_6 6 rfl rfl)
theorem dX3_putsLaw_150 : decode cX3_putsLaw 150 = .ok (.imul, 1) := dk_104 (dk_at dksX3_putsLaw_6 7 rfl rfl)
theorem dX3_putsLaw_151 : decode cX3_putsLaw 151 = .ok (.iadd, 1) := dk_96 (dk_at dksX3_putsLaw_6 8 rfl rfl)
theorem dX3_putsLaw_152 : decode cX3_putsLaw 152 = .ok (.iload_n 2, 1) := dk_28 (dk_at dksX3_putsLaw_6 9 rfl rfl)
theorem dX3_putsLaw_153 : decode cX3_putsLaw 153 = .ok (.iadd, 1) := dk_96 (dk_at dksX3_putsLaw_6 10 rfl rfl)
theorem dX3_putsLaw_154 : decode cX3_putsLaw 154 = .ok (.aload_n 0, 1) := dk_42 (dk_at dksX3_putsLaw_6 11 rfl rfl)
theorem dX3_putsLaw_155 : decode cX3_putsLaw 155 = .ok (.getfield 25, 3) := dk_180 0 25 (dk_at dksX3_putsLaw_6 12 rfl rfl)
theorem dX3_putsLaw_158 : decode cX3_putsLaw 158 = .ok (.iload_n 2, 1) := dk_28 (dk_at dksX3_putsLaw_6 15 rfl rfl)
theorem dX3_putsLaw_159 : decode cX3_putsLaw 159 = .ok (.iaload, 1) := dk_46 (dk_at dksX3_putsLaw_6 16 rfl rfl)
theorem dX3_putsLaw_160 : decode cX3_putsLaw 160 = .ok (.iastore, 1) := dk_79 (dk_at dksX3_putsLaw_6 17 rfl rfl)
theorem dX3_putsLaw_161 : decode cX3_putsLaw 161 = .ok (.iinc 2 1, 3) := dk_132 2 1 (dk_at dksX3_putsLaw_6 18 rfl rfl)
theorem dX3_putsLaw_164 : decode cX3_putsLaw 164 = .ok (.goto (-35), 3) := dk_167 255 221 (dk_at dksX3_putsLaw_6 21 rfl rfl)
theorem dX3_putsLaw_167 : decode cX3_putsLaw 167 = .ok (.aload_n 0, 1) := dk_42 (dk_at dksX3_putsLaw_7 0 rfl rfl)
theorem dX3_putsLaw_168 : decode cX3_putsLaw 168 = .ok (.getfield 259, 3) := dk_180 1 3 (dk_at dksX3_putsLaw_7 1 rfl rfl)
theorem dX3_putsLaw_171 : decode cX3_putsLaw 171 = .ok (.ireturn, 1) := dk_172 (dk_at dksX3_putsLaw_7 4 rfl rfl)
abbrev cX3_putsHull : ByteArray := prog_14_method_50_code
def yX3_putsHull : MethodName := ⟨RX3, "putsHull", "()I"⟩
def dkwX3_putsHull_3 : List UInt8 := [180, 0, 7, 16, 8, 27, 96, 3, 79, 132, 1, 1, 167, 255, 237, 42, 182, 0, 84, 42, 180, 1, 16, 172]
abbrev dktX3_putsHull_3 : List UInt8 := dkwX3_putsHull_3 ++ []
def dkwX3_putsHull_2 : List UInt8 := [96, 42, 180, 0, 28, 27, 46, 79, 132, 1, 1, 167, 255, 227, 3, 60, 27, 16, 8, 162, 0, 19, 42]
abbrev dktX3_putsHull_2 : List UInt8 := dkwX3_putsHull_2 ++ dktX3_putsHull_3
def dkwX3_putsHull_1 : List UInt8 := [16, 104, 3, 79, 3, 60, 27, 6, 42, 180, 1, 16, 104, 162, 0, 25, 42, 180, 0, 7, 17, 0, 142, 27]
abbrev dktX3_putsHull_1 : List UInt8 := dkwX3_putsHull_1 ++ dktX3_putsHull_2
def dkwX3_putsHull_0 : List UInt8 := [42, 180, 0, 7, 16, 98, 42, 180, 1, 16, 79, 42, 180, 0, 7, 16, 99, 3, 79, 42, 180, 0, 7]
abbrev dktX3_putsHull_0 : List UInt8 := dkwX3_putsHull_0 ++ dktX3_putsHull_1
theorem dksX3_putsHull_0 : cX3_putsHull.data.toList.drop 0 = dktX3_putsHull_0 := by decide +kernel
theorem dksX3_putsHull_1 : cX3_putsHull.data.toList.drop 23 = dktX3_putsHull_1 := dk_seg dksX3_putsHull_0 23 rfl rfl
theorem dksX3_putsHull_2 : cX3_putsHull.data.toList.drop 47 = dktX3_putsHull_2 := dk_seg dksX3_putsHull_1 24 rfl rfl
theorem dksX3_putsHull_3 : cX3_putsHull.data.toList.drop 70 = dktX3_putsHull_3 := dk_seg dksX3_putsHull_2 23 rfl rfl
theorem dX3_putsHull_0 : decode cX3_putsHull 0 = .ok (.aload_n 0, 1) := dk_42 (dk_at dksX3_putsHull_0 0 rfl rfl)
theorem dX3_putsHull_1 : decode cX3_putsHull 1 = .ok (.getfield 7, 3) := dk_180 0 7 (dk_at dksX3_putsHull_0 1 rfl rfl)
theorem dX3_putsHull_4 : decode cX3_putsHull 4 = .ok (.bipush 98, 2) := dk_16 98 (dk_at dksX3_putsHull_0 4 rfl rfl)
theorem dX3_putsHull_6 : decode cX3_putsHull 6 = .ok (.aload_n 0, 1) := dk_42 (dk_at dksX3_putsHull_0 6 rfl rfl)
theorem dX3_putsHull_7 : decode cX3_putsHull 7 = .ok (.getfield 272, 3) := dk_180 1 16 (dk_at dksX3_putsHull_0 7 rfl rfl)
theorem dX3_putsHull_10 : decode cX3_putsHull 10 = .ok (.iastore, 1) := dk_79 (dk_at dksX3_putsHull_0 10 rfl rfl)
theorem dX3_putsHull_11 : decode cX3_putsHull 11 = .ok (.aload_n 0, 1) := dk_42 (dk_at dksX3_putsHull_0 11 rfl rfl)
theorem dX3_putsHull_12 : decode cX3_putsHull 12 = .ok (.getfield 7, 3) := dk_180 0 7 (dk_at dksX3_putsHull_0 12 rfl rfl)
theorem dX3_putsHull_15 : decode cX3_putsHull 15 = .ok (.bipush 99, 2) := dk_16 99 (dk_at dksX3_putsHull_0 15 rfl rfl)
theorem dX3_putsHull_17 : decode cX3_putsHull 17 = .ok (.iconst 0, 1) := dk_3 (dk_at dksX3_putsHull_0 17 rfl rfl)
theorem dX3_putsHull_18 : decode cX3_putsHull 18 = .ok (.iastore, 1) := dk_79 (dk_at dksX3_putsHull_0 18 rfl rfl)
theorem dX3_putsHull_19 : decode cX3_putsHull 19 = .ok (.aload_n 0, 1) := dk_42 (dk_at dksX3_putsHull_0 19 rfl rfl)
theorem dX3_putsHull_20 : decode cX3_putsHull 20 = .ok (.getfield 7, 3) := dk_180 0 7 (dk_at dksX3_putsHull_0 20 rfl rfl)
theorem dX3_putsHull_23 : decode cX3_putsHull 23 = .ok (.bipush 104, 2) := dk_16 104 (dk_at dksX3_putsHull_1 0 rfl rfl)
theorem dX3_putsHull_25 : decode cX3_putsHull 25 = .ok (.iconst 0, 1) := dk_3 (dk_at dksX3_putsHull_1 2 rfl rfl)
theorem dX3_putsHull_26 : decode cX3_putsHull 26 = .ok (.iastore, 1) := dk_79 (dk_at dksX3_putsHull_1 3 rfl rfl)
theorem dX3_putsHull_27 : decode cX3_putsHull 27 = .ok (.iconst 0, 1) := dk_3 (dk_at dksX3_putsHull_1 4 rfl rfl)
theorem dX3_putsHull_28 : decode cX3_putsHull 28 = .ok (.istore_n 1, 1) := dk_60 (dk_at dksX3_putsHull_1 5 rfl rfl)
theorem dX3_putsHull_29 : decode cX3_putsHull 29 = .ok (.iload_n 1, 1) := dk_27 (dk_at dksX3_putsHull_1 6 rfl rfl)
theorem dX3_putsHull_30 : decode cX3_putsHull 30 = .ok (.iconst 3, 1) := dk_6 (dk_at dksX3_putsHull_1 7 rfl rfl)
theorem dX3_putsHull_31 : decode cX3_putsHull 31 = .ok (.aload_n 0, 1) := dk_42 (dk_at dksX3_putsHull_1 8 rfl rfl)
theorem dX3_putsHull_32 : decode cX3_putsHull 32 = .ok (.getfield 272, 3) := dk_180 1 16 (dk_at dksX3_putsHull_1 9 rfl rfl)
theorem dX3_putsHull_35 : decode cX3_putsHull 35 = .ok (.imul, 1) := dk_104 (dk_at dksX3_putsHull_1 12 rfl rfl)
theorem dX3_putsHull_36 : decode cX3_putsHull 36 = .ok (.if_icmp .ge 25, 3) := dk_162 0 25 (dk_at dksX3_putsHull_1 13 rfl rfl)
theorem dX3_putsHull_39 : decode cX3_putsHull 39 = .ok (.aload_n 0, 1) := dk_42 (dk_at dksX3_putsHull_1 16 rfl rfl)
theorem dX3_putsHull_40 : decode cX3_putsHull 40 = .ok (.getfield 7, 3) := dk_180 0 7 (dk_at dksX3_putsHull_1 17 rfl rfl)
theorem dX3_putsHull_43 : decode cX3_putsHull 43 = .ok (.sipush 142, 3) := dk_17 0 142 (dk_at dksX3_putsHull_1 20 rfl rfl)
theorem dX3_putsHull_46 : decode cX3_putsHull 46 = .ok (.iload_n 1, 1) := dk_27 (dk_at dksX3_putsHull_1 23 rfl rfl)
theorem dX3_putsHull_47 : decode cX3_putsHull 47 = .ok (.iadd, 1) := dk_96 (dk_at dksX3_putsHull_2 0 rfl rfl)
theorem dX3_putsHull_48 : decode cX3_putsHull 48 = .ok (.aload_n 0, 1) := dk_42 (dk_at dksX3_putsHull_2 1 rfl rfl)
theorem dX3_putsHull_49 : decode cX3_putsHull 49 = .ok (.getfield 28, 3) := dk_180 0 28 (dk_at dksX3_putsHull_2 2 rfl rfl)
theorem dX3_putsHull_52 : decode cX3_putsHull 52 = .ok (.iload_n 1, 1) := dk_27 (dk_at dksX3_putsHull_2 5 rfl rfl)
theorem dX3_putsHull_53 : decode cX3_putsHull 53 = .ok (.iaload, 1) := dk_46 (dk_at dksX3_putsHull_2 6 rfl rfl)
theorem dX3_putsHull_54 : decode cX3_putsHull 54 = .ok (.iastore, 1) := dk_79 (dk_at dksX3_putsHull_2 7 rfl rfl)
theorem dX3_putsHull_55 : decode cX3_putsHull 55 = .ok (.iinc 1 1, 3) := dk_132 1 1 (dk_at dksX3_putsHull_2 8 rfl rfl)
theorem dX3_putsHull_58 : decode cX3_putsHull 58 = .ok (.goto (-29), 3) := dk_167 255 227 (dk_at dksX3_putsHull_2 11 rfl rfl)
theorem dX3_putsHull_61 : decode cX3_putsHull 61 = .ok (.iconst 0, 1) := dk_3 (dk_at dksX3_putsHull_2 14 rfl rfl)
theorem dX3_putsHull_62 : decode cX3_putsHull 62 = .ok (.istore_n 1, 1) := dk_60 (dk_at dksX3_putsHull_2 15 rfl rfl)
theorem dX3_putsHull_63 : decode cX3_putsHull 63 = .ok (.iload_n 1, 1) := dk_27 (dk_at dksX3_putsHull_2 16 rfl rfl)
theorem dX3_putsHull_64 : decode cX3_putsHull 64 = .ok (.bipush 8, 2) := dk_16 8 (dk_at dksX3_putsHull_2 17 rfl rfl)
theorem dX3_putsHull_66 : decode cX3_putsHull 66 = .ok (.if_icmp .ge 19, 3) := dk_162 0 19 (dk_at dksX3_putsHull_2 19 rfl rfl)
theorem dX3_putsHull_69 : decode cX3_putsHull 69 = .ok (.aload_n 0, 1) := dk_42 (dk_at dksX3_putsHull_2 22 rfl rfl)
theorem dX3_putsHull_70 : decode cX3_putsHull 70 = .ok (.getfield 7, 3) := dk_180 0 7 (dk_at dksX3_putsHull_3 0 rfl rfl)
theorem dX3_putsHull_73 : decode cX3_putsHull 73 = .ok (.bipush 8, 2) := dk_16 8 (dk_at dksX3_putsHull_3 3 rfl rfl)
theorem dX3_putsHull_75 : decode cX3_putsHull 75 = .ok (.iload_n 1, 1) := dk_27 (dk_at dksX3_putsHull_3 5 rfl rfl)
theorem dX3_putsHull_76 : decode cX3_putsHull 76 = .ok (.iadd, 1) := dk_96 (dk_at dksX3_putsHull_3 6 rfl rfl)
theorem dX3_putsHull_77 : decode cX3_putsHull 77 = .ok (.iconst 0, 1) := dk_3 (dk_at dksX3_putsHull_3 7 rfl rfl)
theorem dX3_putsHull_78 : decode cX3_putsHull 78 = .ok (.iastore, 1) := dk_79 (dk_at dksX3_putsHull_3 8 rfl rfl)
theorem dX3_putsHull_79 : decode cX3_putsHull 79 = .ok (.iinc 1 1, 3) := dk_132 1 1 (dk_at dksX3_putsHull_3 9 rfl rfl)
theorem dX3_putsHull_82 : decode cX3_putsHull 82 = .ok (.goto (-19), 3) := dk_167 255 237 (dk_at dksX3_putsHull_3 12 rfl rfl)
theorem dX3_putsHull_85 : decode cX3_putsHull 85 = .ok (.aload_n 0, 1) := dk_42 (dk_at dksX3_putsHull_3 15 rfl rfl)
theorem dX3_putsHull_86 : decode cX3_putsHull 86 = .ok (.invokevirtual 84, 3) := dk_182 0 84 (dk_at dksX3_putsHull_3 16 rfl rfl)
theorem dX3_putsHull_89 : decode cX3_putsHull 89 = .ok (.aload_n 0, 1) := dk_42 (dk_at dksX3_putsHull_3 19 rfl rfl)
theorem dX3_putsHull_90 : decode cX3_putsHull 90 = .ok (.getfield 272, 3) := dk_180 1 16 (dk_at dksX3_putsHull_3 20 rfl rfl)
theorem dX3_putsHull_93 : decode cX3_putsHull 93 = .ok (.ireturn, 1) := dk_172 (dk_at dksX3_putsHull_3 23 rfl rfl)
abbrev cX3_putsRota : ByteArray := prog_14_method_51_code
def yX3_putsRota : MethodName := ⟨RX3, "putsRota", "()I"⟩
def dkwX3_putsRota_2 : List UInt8 := [182, 0, 84, 42, 180, 1, 16, 172]
abbrev dktX3_putsRota_2 : List UInt8 := dkwX3_putsRota_2 ++ []
def dkwX3_putsRota_1 : List UInt8 := [180, 0, 7, 17, 0, 166, 27, 96, 42, 180, 0, 28, 27, 46, 79, 132, 1, 1, 167, 255, 227, 42]
abbrev dktX3_putsRota_1 : List UInt8 := dkwX3_putsRota_1 ++ dktX3_putsRota_2
def dkwX3_putsRota_0 : List UInt8 := [42, 180, 0, 7, 16, 99, 42, 180, 1, 16, 79, 3, 60, 27, 8, 42, 180, 1, 16, 104, 162, 0, 25, 42]
abbrev dktX3_putsRota_0 : List UInt8 := dkwX3_putsRota_0 ++ dktX3_putsRota_1
theorem dksX3_putsRota_0 : cX3_putsRota.data.toList.drop 0 = dktX3_putsRota_0 := by decide +kernel
theorem dksX3_putsRota_1 : cX3_putsRota.data.toList.drop 24 = dktX3_putsRota_1 := dk_seg dksX3_putsRota_0 24 rfl rfl
theorem dksX3_putsRota_2 : cX3_putsRota.data.toList.drop 46 = dktX3_putsRota_2 := dk_seg dksX3_putsRota_1 22 rfl rfl
theorem dX3_putsRota_0 : decode cX3_putsRota 0 = .ok (.aload_n 0, 1) := dk_42 (dk_at dksX3_putsRota_0 0 rfl rfl)
theorem dX3_putsRota_1 : decode cX3_putsRota 1 = .ok (.getfield 7, 3) := dk_180 0 7 (dk_at dksX3_putsRota_0 1 rfl rfl)
theorem dX3_putsRota_4 : decode cX3_putsRota 4 = .ok (.bipush 99, 2) := dk_16 99 (dk_at dksX3_putsRota_0 4 rfl rfl)
theorem dX3_putsRota_6 : decode cX3_putsRota 6 = .ok (.aload_n 0, 1) := dk_42 (dk_at dksX3_putsRota_0 6 rfl rfl)
theorem dX3_putsRota_7 : decode cX3_putsRota 7 = .ok (.getfield 272, 3) := dk_180 1 16 (dk_at dksX3_putsRota_0 7 rfl rfl)
theorem dX3_putsRota_10 : decode cX3_putsRota 10 = .ok (.iastore, 1) := dk_79 (dk_at dksX3_putsRota_0 10 rfl rfl)
theorem dX3_putsRota_11 : decode cX3_putsRota 11 = .ok (.iconst 0, 1) := dk_3 (dk_at dksX3_putsRota_0 11 rfl rfl)
theorem dX3_putsRota_12 : decode cX3_putsRota 12 = .ok (.istore_n 1, 1) := dk_60 (dk_at dksX3_putsRota_0 12 rfl rfl)
theorem dX3_putsRota_13 : decode cX3_putsRota 13 = .ok (.iload_n 1, 1) := dk_27 (dk_at dksX3_putsRota_0 13 rfl rfl)
theorem dX3_putsRota_14 : decode cX3_putsRota 14 = .ok (.iconst 5, 1) := dk_8 (dk_at dksX3_putsRota_0 14 rfl rfl)
theorem dX3_putsRota_15 : decode cX3_putsRota 15 = .ok (.aload_n 0, 1) := dk_42 (dk_at dksX3_putsRota_0 15 rfl rfl)
theorem dX3_putsRota_16 : decode cX3_putsRota 16 = .ok (.getfield 272, 3) := dk_180 1 16 (dk_at dksX3_putsRota_0 16 rfl rfl)
theorem dX3_putsRota_19 : decode cX3_putsRota 19 = .ok (.imul, 1) := dk_104 (dk_at dksX3_putsRota_0 19 rfl rfl)
theorem dX3_putsRota_20 : decode cX3_putsRota 20 = .ok (.if_icmp .ge 25, 3) := dk_162 0 25 (dk_at dksX3_putsRota_0 20 rfl rfl)
theorem dX3_putsRota_23 : decode cX3_putsRota 23 = .ok (.aload_n 0, 1) := dk_42 (dk_at dksX3_putsRota_0 23 rfl rfl)
theorem dX3_putsRota_24 : decode cX3_putsRota 24 = .ok (.getfield 7, 3) := dk_180 0 7 (dk_at dksX3_putsRota_1 0 rfl rfl)
theorem dX3_putsRota_27 : decode cX3_putsRota 27 = .ok (.sipush 166, 3) := dk_17 0 166 (dk_at dksX3_putsRota_1 3 rfl rfl)
theorem dX3_putsRota_30 : decode cX3_putsRota 30 = .ok (.iload_n 1, 1) := dk_27 (dk_at dksX3_putsRota_1 6 rfl rfl)
theorem dX3_putsRota_31 : decode cX3_putsRota 31 = .ok (.iadd, 1) := dk_96 (dk_at dksX3_putsRota_1 7 rfl rfl)
theorem dX3_putsRota_32 : decode cX3_putsRota 32 = .ok (.aload_n 0, 1) := dk_42 (dk_at dksX3_putsRota_1 8 rfl rfl)
theorem dX3_putsRota_33 : decode cX3_putsRota 33 = .ok (.getfield 28, 3) := dk_180 0 28 (dk_at dksX3_putsRota_1 9 rfl rfl)
theorem dX3_putsRota_36 : decode cX3_putsRota 36 = .ok (.iload_n 1, 1) := dk_27 (dk_at dksX3_putsRota_1 12 rfl rfl)
theorem dX3_putsRota_37 : decode cX3_putsRota 37 = .ok (.iaload, 1) := dk_46 (dk_at dksX3_putsRota_1 13 rfl rfl)
theorem dX3_putsRota_38 : decode cX3_putsRota 38 = .ok (.iastore, 1) := dk_79 (dk_at dksX3_putsRota_1 14 rfl rfl)
theorem dX3_putsRota_39 : decode cX3_putsRota 39 = .ok (.iinc 1 1, 3) := dk_132 1 1 (dk_at dksX3_putsRota_1 15 rfl rfl)
theorem dX3_putsRota_42 : decode cX3_putsRota 42 = .ok (.goto (-29), 3) := dk_167 255 227 (dk_at dksX3_putsRota_1 18 rfl rfl)
theorem dX3_putsRota_45 : decode cX3_putsRota 45 = .ok (.aload_n 0, 1) := dk_42 (dk_at dksX3_putsRota_1 21 rfl rfl)
theorem dX3_putsRota_46 : decode cX3_putsRota 46 = .ok (.invokevirtual 84, 3) := dk_182 0 84 (dk_at dksX3_putsRota_2 0 rfl rfl)
theorem dX3_putsRota_49 : decode cX3_putsRota 49 = .ok (.aload_n 0, 1) := dk_42 (dk_at dksX3_putsRota_2 3 rfl rfl)
theorem dX3_putsRota_50 : decode cX3_putsRota 50 = .ok (.getfield 272, 3) := dk_180 1 16 (dk_at dksX3_putsRota_2 4 rfl rfl)
theorem dX3_putsRota_53 : decode cX3_putsRota 53 = .ok (.ireturn, 1) := dk_172 (dk_at dksX3_putsRota_2 7 rfl rfl)
abbrev cX3_fault : ByteArray := prog_14_method_53_code
def yX3_fault : MethodName := ⟨RX3, "fault", "(I)I"⟩
def dkwX3_fault_1 : List UInt8 := [172]
abbrev dktX3_fault_1 : List UInt8 := dkwX3_fault_1 ++ []
def dkwX3_fault_0 : List UInt8 := [27, 154, 0, 10, 42, 180, 1, 29, 167, 0, 16, 27, 4, 160, 0, 10, 42, 180, 0, 40, 167, 0, 4, 2]
abbrev dktX3_fault_0 : List UInt8 := dkwX3_fault_0 ++ dktX3_fault_1
theorem dksX3_fault_0 : cX3_fault.data.toList.drop 0 = dktX3_fault_0 := by decide +kernel
theorem dksX3_fault_1 : cX3_fault.data.toList.drop 24 = dktX3_fault_1 := dk_seg dksX3_fault_0 24 rfl rfl
theorem dX3_fault_0 : decode cX3_fault 0 = .ok (.iload_n 1, 1) := dk_27 (dk_at dksX3_fault_0 0 rfl rfl)
theorem dX3_fault_1 : decode cX3_fault 1 = .ok (.ifCond .ne 10, 3) := dk_154 0 10 (dk_at dksX3_fault_0 1 rfl rfl)
theorem dX3_fault_4 : decode cX3_fault 4 = .ok (.aload_n 0, 1) := dk_42 (dk_at dksX3_fault_0 4 rfl rfl)
theorem dX3_fault_5 : decode cX3_fault 5 = .ok (.getfield 285, 3) := dk_180 1 29 (dk_at dksX3_fault_0 5 rfl rfl)
theorem dX3_fault_8 : decode cX3_fault 8 = .ok (.goto 16, 3) := dk_167 0 16 (dk_at dksX3_fault_0 8 rfl rfl)
theorem dX3_fault_11 : decode cX3_fault 11 = .ok (.iload_n 1, 1) := dk_27 (dk_at dksX3_fault_0 11 rfl rfl)
theorem dX3_fault_12 : decode cX3_fault 12 = .ok (.iconst 1, 1) := dk_4 (dk_at dksX3_fault_0 12 rfl rfl)
theorem dX3_fault_13 : decode cX3_fault 13 = .ok (.if_icmp .ne 10, 3) := dk_160 0 10 (dk_at dksX3_fault_0 13 rfl rfl)
theorem dX3_fault_16 : decode cX3_fault 16 = .ok (.aload_n 0, 1) := dk_42 (dk_at dksX3_fault_0 16 rfl rfl)
theorem dX3_fault_17 : decode cX3_fault 17 = .ok (.getfield 40, 3) := dk_180 0 40 (dk_at dksX3_fault_0 17 rfl rfl)
theorem dX3_fault_20 : decode cX3_fault 20 = .ok (.goto 4, 3) := dk_167 0 4 (dk_at dksX3_fault_0 20 rfl rfl)
theorem dX3_fault_23 : decode cX3_fault 23 = .ok (.iconst (-1), 1) := dk_2 (dk_at dksX3_fault_0 23 rfl rfl)
theorem dX3_fault_24 : decode cX3_fault 24 = .ok (.ireturn, 1) := dk_172 (dk_at dksX3_fault_1 0 rfl rfl)
abbrev cX3_undo : ByteArray := prog_14_method_71_code
def yX3_undo : MethodName := ⟨RX3, "undo", "()Z"⟩
def dkwX3_undo_2 : List UInt8 := [132, 1, 1, 167, 255, 227, 4, 172]
abbrev dktX3_undo_2 : List UInt8 := dkwX3_undo_2 ++ []
def dkwX3_undo_1 : List UInt8 := [162, 0, 29, 42, 180, 0, 7, 27, 42, 180, 0, 16, 16, 96, 42, 180, 0, 81, 104, 27, 96, 46, 79]
abbrev dktX3_undo_1 : List UInt8 := dkwX3_undo_1 ++ dktX3_undo_2
def dkwX3_undo_0 : List UInt8 := [42, 180, 0, 81, 154, 0, 5, 3, 172, 42, 89, 180, 0, 81, 4, 100, 181, 0, 81, 3, 60, 27, 16, 96]
abbrev dktX3_undo_0 : List UInt8 := dkwX3_undo_0 ++ dktX3_undo_1
theorem dksX3_undo_0 : cX3_undo.data.toList.drop 0 = dktX3_undo_0 := by decide +kernel
theorem dksX3_undo_1 : cX3_undo.data.toList.drop 24 = dktX3_undo_1 := dk_seg dksX3_undo_0 24 rfl rfl
theorem dksX3_undo_2 : cX3_undo.data.toList.drop 47 = dktX3_undo_2 := dk_seg dksX3_undo_1 23 rfl rfl
theorem dX3_undo_0 : decode cX3_undo 0 = .ok (.aload_n 0, 1) := dk_42 (dk_at dksX3_undo_0 0 rfl rfl)
theorem dX3_undo_1 : decode cX3_undo 1 = .ok (.getfield 81, 3) := dk_180 0 81 (dk_at dksX3_undo_0 1 rfl rfl)
theorem dX3_undo_4 : decode cX3_undo 4 = .ok (.ifCond .ne 5, 3) := dk_154 0 5 (dk_at dksX3_undo_0 4 rfl rfl)
theorem dX3_undo_7 : decode cX3_undo 7 = .ok (.iconst 0, 1) := dk_3 (dk_at dksX3_undo_0 7 rfl rfl)
theorem dX3_undo_8 : decode cX3_undo 8 = .ok (.ireturn, 1) := dk_172 (dk_at dksX3_undo_0 8 rfl rfl)
theorem dX3_undo_9 : decode cX3_undo 9 = .ok (.aload_n 0, 1) := dk_42 (dk_at dksX3_undo_0 9 rfl rfl)
theorem dX3_undo_10 : decode cX3_undo 10 = .ok (.dup, 1) := dk_89 (dk_at dksX3_undo_0 10 rfl rfl)
theorem dX3_undo_11 : decode cX3_undo 11 = .ok (.getfield 81, 3) := dk_180 0 81 (dk_at dksX3_undo_0 11 rfl rfl)
theorem dX3_undo_14 : decode cX3_undo 14 = .ok (.iconst 1, 1) := dk_4 (dk_at dksX3_undo_0 14 rfl rfl)
theorem dX3_undo_15 : decode cX3_undo 15 = .ok (.isub, 1) := dk_100 (dk_at dksX3_undo_0 15 rfl rfl)
theorem dX3_undo_16 : decode cX3_undo 16 = .ok (.putfield 81, 3) := dk_181 0 81 (dk_at dksX3_undo_0 16 rfl rfl)
theorem dX3_undo_19 : decode cX3_undo 19 = .ok (.iconst 0, 1) := dk_3 (dk_at dksX3_undo_0 19 rfl rfl)
theorem dX3_undo_20 : decode cX3_undo 20 = .ok (.istore_n 1, 1) := dk_60 (dk_at dksX3_undo_0 20 rfl rfl)
theorem dX3_undo_21 : decode cX3_undo 21 = .ok (.iload_n 1, 1) := dk_27 (dk_at dksX3_undo_0 21 rfl rfl)
theorem dX3_undo_22 : decode cX3_undo 22 = .ok (.bipush 96, 2) := dk_16 96 (dk_at dksX3_undo_0 22 rfl rfl)
theorem dX3_undo_24 : decode cX3_undo 24 = .ok (.if_icmp .ge 29, 3) := dk_162 0 29 (dk_at dksX3_undo_1 0 rfl rfl)
theorem dX3_undo_27 : decode cX3_undo 27 = .ok (.aload_n 0, 1) := dk_42 (dk_at dksX3_undo_1 3 rfl rfl)
theorem dX3_undo_28 : decode cX3_undo 28 = .ok (.getfield 7, 3) := dk_180 0 7 (dk_at dksX3_undo_1 4 rfl rfl)
theorem dX3_undo_31 : decode cX3_undo 31 = .ok (.iload_n 1, 1) := dk_27 (dk_at dksX3_undo_1 7 rfl rfl)
theorem dX3_undo_32 : decode cX3_undo 32 = .ok (.aload_n 0, 1) := dk_42 (dk_at dksX3_undo_1 8 rfl rfl)
theorem dX3_undo_33 : decode cX3_undo 33 = .ok (.getfield 16, 3) := dk_180 0 16 (dk_at dksX3_undo_1 9 rfl rfl)
theorem dX3_undo_36 : decode cX3_undo 36 = .ok (.bipush 96, 2) := dk_16 96 (dk_at dksX3_undo_1 12 rfl rfl)
theorem dX3_undo_38 : decode cX3_undo 38 = .ok (.aload_n 0, 1) := dk_42 (dk_at dksX3_undo_1 14 rfl rfl)
theorem dX3_undo_39 : decode cX3_undo 39 = .ok (.getfield 81, 3) := dk_180 0 81 (dk_at dksX3_undo_1 15 rfl rfl)
theorem dX3_undo_42 : decode cX3_undo 42 = .ok (.imul, 1) := dk_104 (dk_at dksX3_undo_1 18 rfl rfl)
theorem dX3_undo_43 : decode cX3_undo 43 = .ok (.iload_n 1, 1) := dk_27 (dk_at dksX3_undo_1 19 rfl rfl)
theorem dX3_undo_44 : decode cX3_undo 44 = .ok (.iadd, 1) := dk_96 (dk_at dksX3_undo_1 20 rfl rfl)
theorem dX3_undo_45 : decode cX3_undo 45 = .ok (.iaload, 1) := dk_46 (dk_at dksX3_undo_1 21 rfl rfl)
theorem dX3_undo_46 : decode cX3_undo 46 = .ok (.iastore, 1) := dk_79 (dk_at dksX3_undo_1 22 rfl rfl)
theorem dX3_undo_47 : decode cX3_undo 47 = .ok (.iinc 1 1, 3) := dk_132 1 1 (dk_at dksX3_undo_2 0 rfl rfl)
theorem dX3_undo_50 : decode cX3_undo 50 = .ok (.goto (-29), 3) := dk_167 255 227 (dk_at dksX3_undo_2 3 rfl rfl)
theorem dX3_undo_53 : decode cX3_undo 53 = .ok (.iconst 1, 1) := dk_4 (dk_at dksX3_undo_2 6 rfl rfl)
theorem dX3_undo_54 : decode cX3_undo 54 = .ok (.ireturn, 1) := dk_172 (dk_at dksX3_undo_2 7 rfl rfl)
abbrev cX3_mend : ByteArray := prog_14_method_72_code
def yX3_mend : MethodName := ⟨RX3, "mend", "(IZ)Z"⟩
def dkwX3_mend_3 : List UInt8 := [184, 0, 74, 182, 0, 89, 4, 172]
abbrev dktX3_mend_3 : List UInt8 := dkwX3_mend_3 ++ []
def dkwX3_mend_2 : List UInt8 := [182, 1, 57, 16, 20, 96, 184, 0, 70, 182, 0, 89, 42, 27, 7, 3, 42, 27, 7, 182, 1, 57, 8, 100]
abbrev dktX3_mend_2 : List UInt8 := dkwX3_mend_2 ++ dktX3_mend_3
def dkwX3_mend_1 : List UInt8 := [27, 7, 182, 1, 57, 16, 10, 96, 184, 0, 70, 182, 0, 89, 4, 172, 42, 27, 6, 16, 99, 42, 27, 6]
abbrev dktX3_mend_1 : List UInt8 := dkwX3_mend_1 ++ dktX3_mend_2
def dkwX3_mend_0 : List UInt8 := [42, 27, 182, 0, 97, 154, 0, 5, 3, 172, 42, 182, 1, 90, 28, 153, 0, 25, 42, 27, 7, 16, 99, 42]
abbrev dktX3_mend_0 : List UInt8 := dkwX3_mend_0 ++ dktX3_mend_1
theorem dksX3_mend_0 : cX3_mend.data.toList.drop 0 = dktX3_mend_0 := by decide +kernel
theorem dksX3_mend_1 : cX3_mend.data.toList.drop 24 = dktX3_mend_1 := dk_seg dksX3_mend_0 24 rfl rfl
theorem dksX3_mend_2 : cX3_mend.data.toList.drop 48 = dktX3_mend_2 := dk_seg dksX3_mend_1 24 rfl rfl
theorem dksX3_mend_3 : cX3_mend.data.toList.drop 72 = dktX3_mend_3 := dk_seg dksX3_mend_2 24 rfl rfl
theorem dX3_mend_0 : decode cX3_mend 0 = .ok (.aload_n 0, 1) := dk_42 (dk_at dksX3_mend_0 0 rfl rfl)
theorem dX3_mend_1 : decode cX3_mend 1 = .ok (.iload_n 1, 1) := dk_27 (dk_at dksX3_mend_0 1 rfl rfl)
theorem dX3_mend_2 : decode cX3_mend 2 = .ok (.invokevirtual 97, 3) := dk_182 0 97 (dk_at dksX3_mend_0 2 rfl rfl)
theorem dX3_mend_5 : decode cX3_mend 5 = .ok (.ifCond .ne 5, 3) := dk_154 0 5 (dk_at dksX3_mend_0 5 rfl rfl)
theorem dX3_mend_8 : decode cX3_mend 8 = .ok (.iconst 0, 1) := dk_3 (dk_at dksX3_mend_0 8 rfl rfl)
theorem dX3_mend_9 : decode cX3_mend 9 = .ok (.ireturn, 1) := dk_172 (dk_at dksX3_mend_0 9 rfl rfl)
theorem dX3_mend_10 : decode cX3_mend 10 = .ok (.aload_n 0, 1) := dk_42 (dk_at dksX3_mend_0 10 rfl rfl)
theorem dX3_mend_11 : decode cX3_mend 11 = .ok (.invokevirtual 346, 3) := dk_182 1 90 (dk_at dksX3_mend_0 11 rfl rfl)
theorem dX3_mend_14 : decode cX3_mend 14 = .ok (.iload_n 2, 1) := dk_28 (dk_at dksX3_mend_0 14 rfl rfl)
theorem dX3_mend_15 : decode cX3_mend 15 = .ok (.ifCond .eq 25, 3) := dk_153 0 25 (dk_at dksX3_mend_0 15 rfl rfl)
theorem dX3_mend_18 : decode cX3_mend 18 = .ok (.aload_n 0, 1) := dk_42 (dk_at dksX3_mend_0 18 rfl rfl)
theorem dX3_mend_19 : decode cX3_mend 19 = .ok (.iload_n 1, 1) := dk_27 (dk_at dksX3_mend_0 19 rfl rfl)
theorem dX3_mend_20 : decode cX3_mend 20 = .ok (.iconst 4, 1) := dk_7 (dk_at dksX3_mend_0 20 rfl rfl)
theorem dX3_mend_21 : decode cX3_mend 21 = .ok (.bipush 99, 2) := dk_16 99 (dk_at dksX3_mend_0 21 rfl rfl)
theorem dX3_mend_23 : decode cX3_mend 23 = .ok (.aload_n 0, 1) := dk_42 (dk_at dksX3_mend_0 23 rfl rfl)
theorem dX3_mend_24 : decode cX3_mend 24 = .ok (.iload_n 1, 1) := dk_27 (dk_at dksX3_mend_1 0 rfl rfl)
theorem dX3_mend_25 : decode cX3_mend 25 = .ok (.iconst 4, 1) := dk_7 (dk_at dksX3_mend_1 1 rfl rfl)
theorem dX3_mend_26 : decode cX3_mend 26 = .ok (.invokevirtual 313, 3) := dk_182 1 57 (dk_at dksX3_mend_1 2 rfl rfl)
theorem dX3_mend_29 : decode cX3_mend 29 = .ok (.bipush 10, 2) := dk_16 10 (dk_at dksX3_mend_1 5 rfl rfl)
theorem dX3_mend_31 : decode cX3_mend 31 = .ok (.iadd, 1) := dk_96 (dk_at dksX3_mend_1 7 rfl rfl)
theorem dX3_mend_32 : decode cX3_mend 32 = .ok (.invokestatic 70, 3) := dk_184 0 70 (dk_at dksX3_mend_1 8 rfl rfl)
theorem dX3_mend_35 : decode cX3_mend 35 = .ok (.invokevirtual 89, 3) := dk_182 0 89 (dk_at dksX3_mend_1 11 rfl rfl)
theorem dX3_mend_38 : decode cX3_mend 38 = .ok (.iconst 1, 1) := dk_4 (dk_at dksX3_mend_1 14 rfl rfl)
theorem dX3_mend_39 : decode cX3_mend 39 = .ok (.ireturn, 1) := dk_172 (dk_at dksX3_mend_1 15 rfl rfl)
theorem dX3_mend_40 : decode cX3_mend 40 = .ok (.aload_n 0, 1) := dk_42 (dk_at dksX3_mend_1 16 rfl rfl)
theorem dX3_mend_41 : decode cX3_mend 41 = .ok (.iload_n 1, 1) := dk_27 (dk_at dksX3_mend_1 17 rfl rfl)
theorem dX3_mend_42 : decode cX3_mend 42 = .ok (.iconst 3, 1) := dk_6 (dk_at dksX3_mend_1 18 rfl rfl)
theorem dX3_mend_43 : decode cX3_mend 43 = .ok (.bipush 99, 2) := dk_16 99 (dk_at dksX3_mend_1 19 rfl rfl)
theorem dX3_mend_45 : decode cX3_mend 45 = .ok (.aload_n 0, 1) := dk_42 (dk_at dksX3_mend_1 21 rfl rfl)
theorem dX3_mend_46 : decode cX3_mend 46 = .ok (.iload_n 1, 1) := dk_27 (dk_at dksX3_mend_1 22 rfl rfl)
theorem dX3_mend_47 : decode cX3_mend 47 = .ok (.iconst 3, 1) := dk_6 (dk_at dksX3_mend_1 23 rfl rfl)
theorem dX3_mend_48 : decode cX3_mend 48 = .ok (.invokevirtual 313, 3) := dk_182 1 57 (dk_at dksX3_mend_2 0 rfl rfl)
theorem dX3_mend_51 : decode cX3_mend 51 = .ok (.bipush 20, 2) := dk_16 20 (dk_at dksX3_mend_2 3 rfl rfl)
theorem dX3_mend_53 : decode cX3_mend 53 = .ok (.iadd, 1) := dk_96 (dk_at dksX3_mend_2 5 rfl rfl)
theorem dX3_mend_54 : decode cX3_mend 54 = .ok (.invokestatic 70, 3) := dk_184 0 70 (dk_at dksX3_mend_2 6 rfl rfl)
theorem dX3_mend_57 : decode cX3_mend 57 = .ok (.invokevirtual 89, 3) := dk_182 0 89 (dk_at dksX3_mend_2 9 rfl rfl)
theorem dX3_mend_60 : decode cX3_mend 60 = .ok (.aload_n 0, 1) := dk_42 (dk_at dksX3_mend_2 12 rfl rfl)
theorem dX3_mend_61 : decode cX3_mend 61 = .ok (.iload_n 1, 1) := dk_27 (dk_at dksX3_mend_2 13 rfl rfl)
theorem dX3_mend_62 : decode cX3_mend 62 = .ok (.iconst 4, 1) := dk_7 (dk_at dksX3_mend_2 14 rfl rfl)
theorem dX3_mend_63 : decode cX3_mend 63 = .ok (.iconst 0, 1) := dk_3 (dk_at dksX3_mend_2 15 rfl rfl)
theorem dX3_mend_64 : decode cX3_mend 64 = .ok (.aload_n 0, 1) := dk_42 (dk_at dksX3_mend_2 16 rfl rfl)
theorem dX3_mend_65 : decode cX3_mend 65 = .ok (.iload_n 1, 1) := dk_27 (dk_at dksX3_mend_2 17 rfl rfl)
theorem dX3_mend_66 : decode cX3_mend 66 = .ok (.iconst 4, 1) := dk_7 (dk_at dksX3_mend_2 18 rfl rfl)
theorem dX3_mend_67 : decode cX3_mend 67 = .ok (.invokevirtual 313, 3) := dk_182 1 57 (dk_at dksX3_mend_2 19 rfl rfl)
theorem dX3_mend_70 : decode cX3_mend 70 = .ok (.iconst 5, 1) := dk_8 (dk_at dksX3_mend_2 22 rfl rfl)
theorem dX3_mend_71 : decode cX3_mend 71 = .ok (.isub, 1) := dk_100 (dk_at dksX3_mend_2 23 rfl rfl)
theorem dX3_mend_72 : decode cX3_mend 72 = .ok (.invokestatic 74, 3) := dk_184 0 74 (dk_at dksX3_mend_3 0 rfl rfl)
theorem dX3_mend_75 : decode cX3_mend 75 = .ok (.invokevirtual 89, 3) := dk_182 0 89 (dk_at dksX3_mend_3 3 rfl rfl)
theorem dX3_mend_78 : decode cX3_mend 78 = .ok (.iconst 1, 1) := dk_4 (dk_at dksX3_mend_3 6 rfl rfl)
theorem dX3_mend_79 : decode cX3_mend 79 = .ok (.ireturn, 1) := dk_172 (dk_at dksX3_mend_3 7 rfl rfl)
abbrev cX3_keeps : ByteArray := prog_14_method_70_code
def yX3_keeps : MethodName := ⟨RX3, "keeps", "()V"⟩
def dkwX3_keeps_3 : List UInt8 := [42, 180, 0, 7, 27, 46, 79, 132, 1, 1, 167, 255, 227, 42, 89, 180, 0, 81, 4, 96, 181, 0, 81, 177]
abbrev dktX3_keeps_3 : List UInt8 := dkwX3_keeps_3 ++ []
def dkwX3_keeps_2 : List UInt8 := [181, 0, 81, 3, 60, 27, 16, 96, 162, 0, 29, 42, 180, 0, 16, 16, 96, 42, 180, 0, 81, 104, 27, 96]
abbrev dktX3_keeps_2 : List UInt8 := dkwX3_keeps_2 ++ dktX3_keeps_3
def dkwX3_keeps_1 : List UInt8 := [180, 0, 16, 27, 16, 96, 96, 46, 79, 132, 1, 1, 167, 255, 231, 42, 89, 180, 0, 81, 4, 100]
abbrev dktX3_keeps_1 : List UInt8 := dkwX3_keeps_1 ++ dktX3_keeps_2
def dkwX3_keeps_0 : List UInt8 := [42, 180, 0, 81, 16, 6, 160, 0, 43, 3, 60, 27, 17, 1, 224, 162, 0, 24, 42, 180, 0, 16, 27, 42]
abbrev dktX3_keeps_0 : List UInt8 := dkwX3_keeps_0 ++ dktX3_keeps_1
theorem dksX3_keeps_0 : cX3_keeps.data.toList.drop 0 = dktX3_keeps_0 := by decide +kernel
theorem dksX3_keeps_1 : cX3_keeps.data.toList.drop 24 = dktX3_keeps_1 := dk_seg dksX3_keeps_0 24 rfl rfl
theorem dksX3_keeps_2 : cX3_keeps.data.toList.drop 46 = dktX3_keeps_2 := dk_seg dksX3_keeps_1 22 rfl rfl
theorem dksX3_keeps_3 : cX3_keeps.data.toList.drop 70 = dktX3_keeps_3 := dk_seg dksX3_keeps_2 24 rfl rfl
theorem dX3_keeps_0 : decode cX3_keeps 0 = .ok (.aload_n 0, 1) := dk_42 (dk_at dksX3_keeps_0 0 rfl rfl)
theorem dX3_keeps_1 : decode cX3_keeps 1 = .ok (.getfield 81, 3) := dk_180 0 81 (dk_at dksX3_keeps_0 1 rfl rfl)
theorem dX3_keeps_4 : decode cX3_keeps 4 = .ok (.bipush 6, 2) := dk_16 6 (dk_at dksX3_keeps_0 4 rfl rfl)
theorem dX3_keeps_6 : decode cX3_keeps 6 = .ok (.if_icmp .ne 43, 3) := dk_160 0 43 (dk_at dksX3_keeps_0 6 rfl rfl)
theorem dX3_keeps_9 : decode cX3_keeps 9 = .ok (.iconst 0, 1) := dk_3 (dk_at dksX3_keeps_0 9 rfl rfl)
theorem dX3_keeps_10 : decode cX3_keeps 10 = .ok (.istore_n 1, 1) := dk_60 (dk_at dksX3_keeps_0 10 rfl rfl)
theorem dX3_keeps_11 : decode cX3_keeps 11 = .ok (.iload_n 1, 1) := dk_27 (dk_at dksX3_keeps_0 11 rfl rfl)
theorem dX3_keeps_12 : decode cX3_keeps 12 = .ok (.sipush 480, 3) := dk_17 1 224 (dk_at dksX3_keeps_0 12 rfl rfl)
theorem dX3_keeps_15 : decode cX3_keeps 15 = .ok (.if_icmp .ge 24, 3) := dk_162 0 24 (dk_at dksX3_keeps_0 15 rfl rfl)
theorem dX3_keeps_18 : decode cX3_keeps 18 = .ok (.aload_n 0, 1) := dk_42 (dk_at dksX3_keeps_0 18 rfl rfl)
theorem dX3_keeps_19 : decode cX3_keeps 19 = .ok (.getfield 16, 3) := dk_180 0 16 (dk_at dksX3_keeps_0 19 rfl rfl)
theorem dX3_keeps_22 : decode cX3_keeps 22 = .ok (.iload_n 1, 1) := dk_27 (dk_at dksX3_keeps_0 22 rfl rfl)
theorem dX3_keeps_23 : decode cX3_keeps 23 = .ok (.aload_n 0, 1) := dk_42 (dk_at dksX3_keeps_0 23 rfl rfl)
theorem dX3_keeps_24 : decode cX3_keeps 24 = .ok (.getfield 16, 3) := dk_180 0 16 (dk_at dksX3_keeps_1 0 rfl rfl)
theorem dX3_keeps_27 : decode cX3_keeps 27 = .ok (.iload_n 1, 1) := dk_27 (dk_at dksX3_keeps_1 3 rfl rfl)
theorem dX3_keeps_28 : decode cX3_keeps 28 = .ok (.bipush 96, 2) := dk_16 96 (dk_at dksX3_keeps_1 4 rfl rfl)
theorem dX3_keeps_30 : decode cX3_keeps 30 = .ok (.iadd, 1) := dk_96 (dk_at dksX3_keeps_1 6 rfl rfl)
theorem dX3_keeps_31 : decode cX3_keeps 31 = .ok (.iaload, 1) := dk_46 (dk_at dksX3_keeps_1 7 rfl rfl)
theorem dX3_keeps_32 : decode cX3_keeps 32 = .ok (.iastore, 1) := dk_79 (dk_at dksX3_keeps_1 8 rfl rfl)
theorem dX3_keeps_33 : decode cX3_keeps 33 = .ok (.iinc 1 1, 3) := dk_132 1 1 (dk_at dksX3_keeps_1 9 rfl rfl)
theorem dX3_keeps_36 : decode cX3_keeps 36 = .ok (.goto (-25), 3) := dk_167 255 231 (dk_at dksX3_keeps_1 12 rfl rfl)
theorem dX3_keeps_39 : decode cX3_keeps 39 = .ok (.aload_n 0, 1) := dk_42 (dk_at dksX3_keeps_1 15 rfl rfl)
theorem dX3_keeps_40 : decode cX3_keeps 40 = .ok (.dup, 1) := dk_89 (dk_at dksX3_keeps_1 16 rfl rfl)
theorem dX3_keeps_41 : decode cX3_keeps 41 = .ok (.getfield 81, 3) := dk_180 0 81 (dk_at dksX3_keeps_1 17 rfl rfl)
theorem dX3_keeps_44 : decode cX3_keeps 44 = .ok (.iconst 1, 1) := dk_4 (dk_at dksX3_keeps_1 20 rfl rfl)
theorem dX3_keeps_45 : decode cX3_keeps 45 = .ok (.isub, 1) := dk_100 (dk_at dksX3_keeps_1 21 rfl rfl)
theorem dX3_keeps_46 : decode cX3_keeps 46 = .ok (.putfield 81, 3) := dk_181 0 81 (dk_at dksX3_keeps_2 0 rfl rfl)
theorem dX3_keeps_49 : decode cX3_keeps 49 = .ok (.iconst 0, 1) := dk_3 (dk_at dksX3_keeps_2 3 rfl rfl)
theorem dX3_keeps_50 : decode cX3_keeps 50 = .ok (.istore_n 1, 1) := dk_60 (dk_at dksX3_keeps_2 4 rfl rfl)
theorem dX3_keeps_51 : decode cX3_keeps 51 = .ok (.iload_n 1, 1) := dk_27 (dk_at dksX3_keeps_2 5 rfl rfl)
theorem dX3_keeps_52 : decode cX3_keeps 52 = .ok (.bipush 96, 2) := dk_16 96 (dk_at dksX3_keeps_2 6 rfl rfl)
theorem dX3_keeps_54 : decode cX3_keeps 54 = .ok (.if_icmp .ge 29, 3) := dk_162 0 29 (dk_at dksX3_keeps_2 8 rfl rfl)
theorem dX3_keeps_57 : decode cX3_keeps 57 = .ok (.aload_n 0, 1) := dk_42 (dk_at dksX3_keeps_2 11 rfl rfl)
theorem dX3_keeps_58 : decode cX3_keeps 58 = .ok (.getfield 16, 3) := dk_180 0 16 (dk_at dksX3_keeps_2 12 rfl rfl)
theorem dX3_keeps_61 : decode cX3_keeps 61 = .ok (.bipush 96, 2) := dk_16 96 (dk_at dksX3_keeps_2 15 rfl rfl)
theorem dX3_keeps_63 : decode cX3_keeps 63 = .ok (.aload_n 0, 1) := dk_42 (dk_at dksX3_keeps_2 17 rfl rfl)
theorem dX3_keeps_64 : decode cX3_keeps 64 = .ok (.getfield 81, 3) := dk_180 0 81 (dk_at dksX3_keeps_2 18 rfl rfl)
theorem dX3_keeps_67 : decode cX3_keeps 67 = .ok (.imul, 1) := dk_104 (dk_at dksX3_keeps_2 21 rfl rfl)
theorem dX3_keeps_68 : decode cX3_keeps 68 = .ok (.iload_n 1, 1) := dk_27 (dk_at dksX3_keeps_2 22 rfl rfl)
theorem dX3_keeps_69 : decode cX3_keeps 69 = .ok (.iadd, 1) := dk_96 (dk_at dksX3_keeps_2 23 rfl rfl)
theorem dX3_keeps_70 : decode cX3_keeps 70 = .ok (.aload_n 0, 1) := dk_42 (dk_at dksX3_keeps_3 0 rfl rfl)
theorem dX3_keeps_71 : decode cX3_keeps 71 = .ok (.getfield 7, 3) := dk_180 0 7 (dk_at dksX3_keeps_3 1 rfl rfl)
theorem dX3_keeps_74 : decode cX3_keeps 74 = .ok (.iload_n 1, 1) := dk_27 (dk_at dksX3_keeps_3 4 rfl rfl)
theorem dX3_keeps_75 : decode cX3_keeps 75 = .ok (.iaload, 1) := dk_46 (dk_at dksX3_keeps_3 5 rfl rfl)
theorem dX3_keeps_76 : decode cX3_keeps 76 = .ok (.iastore, 1) := dk_79 (dk_at dksX3_keeps_3 6 rfl rfl)
theorem dX3_keeps_77 : decode cX3_keeps 77 = .ok (.iinc 1 1, 3) := dk_132 1 1 (dk_at dksX3_keeps_3 7 rfl rfl)
theorem dX3_keeps_80 : decode cX3_keeps 80 = .ok (.goto (-29), 3) := dk_167 255 227 (dk_at dksX3_keeps_3 10 rfl rfl)
theorem dX3_keeps_83 : decode cX3_keeps 83 = .ok (.aload_n 0, 1) := dk_42 (dk_at dksX3_keeps_3 13 rfl rfl)
theorem dX3_keeps_84 : decode cX3_keeps 84 = .ok (.dup, 1) := dk_89 (dk_at dksX3_keeps_3 14 rfl rfl)
theorem dX3_keeps_85 : decode cX3_keeps 85 = .ok (.getfield 81, 3) := dk_180 0 81 (dk_at dksX3_keeps_3 15 rfl rfl)
theorem dX3_keeps_88 : decode cX3_keeps 88 = .ok (.iconst 1, 1) := dk_4 (dk_at dksX3_keeps_3 18 rfl rfl)
theorem dX3_keeps_89 : decode cX3_keeps 89 = .ok (.iadd, 1) := dk_96 (dk_at dksX3_keeps_3 19 rfl rfl)
theorem dX3_keeps_90 : decode cX3_keeps 90 = .ok (.putfield 81, 3) := dk_181 0 81 (dk_at dksX3_keeps_3 20 rfl rfl)
theorem dX3_keeps_93 : decode cX3_keeps 93 = .ok (.return_, 1) := dk_177 (dk_at dksX3_keeps_3 23 rfl rfl)
abbrev cX3_ofTool : ByteArray := prog_14_method_9_code
def yX3_ofTool : MethodName := ⟨RX3, "ofTool", "(II)I"⟩
def dkwX3_ofTool_0 : List UInt8 := [42, 180, 0, 7, 16, 16, 16, 10, 27, 104, 96, 28, 96, 46, 172]
abbrev dktX3_ofTool_0 : List UInt8 := dkwX3_ofTool_0 ++ []
theorem dksX3_ofTool_0 : cX3_ofTool.data.toList.drop 0 = dktX3_ofTool_0 := by decide +kernel
theorem dX3_ofTool_0 : decode cX3_ofTool 0 = .ok (.aload_n 0, 1) := dk_42 (dk_at dksX3_ofTool_0 0 rfl rfl)
theorem dX3_ofTool_1 : decode cX3_ofTool 1 = .ok (.getfield 7, 3) := dk_180 0 7 (dk_at dksX3_ofTool_0 1 rfl rfl)
theorem dX3_ofTool_4 : decode cX3_ofTool 4 = .ok (.bipush 16, 2) := dk_16 16 (dk_at dksX3_ofTool_0 4 rfl rfl)
theorem dX3_ofTool_6 : decode cX3_ofTool 6 = .ok (.bipush 10, 2) := dk_16 10 (dk_at dksX3_ofTool_0 6 rfl rfl)
theorem dX3_ofTool_8 : decode cX3_ofTool 8 = .ok (.iload_n 1, 1) := dk_27 (dk_at dksX3_ofTool_0 8 rfl rfl)
theorem dX3_ofTool_9 : decode cX3_ofTool 9 = .ok (.imul, 1) := dk_104 (dk_at dksX3_ofTool_0 9 rfl rfl)
theorem dX3_ofTool_10 : decode cX3_ofTool 10 = .ok (.iadd, 1) := dk_96 (dk_at dksX3_ofTool_0 10 rfl rfl)
theorem dX3_ofTool_11 : decode cX3_ofTool 11 = .ok (.iload_n 2, 1) := dk_28 (dk_at dksX3_ofTool_0 11 rfl rfl)
theorem dX3_ofTool_12 : decode cX3_ofTool 12 = .ok (.iadd, 1) := dk_96 (dk_at dksX3_ofTool_0 12 rfl rfl)
theorem dX3_ofTool_13 : decode cX3_ofTool 13 = .ok (.iaload, 1) := dk_46 (dk_at dksX3_ofTool_0 13 rfl rfl)
theorem dX3_ofTool_14 : decode cX3_ofTool 14 = .ok (.ireturn, 1) := dk_172 (dk_at dksX3_ofTool_0 14 rfl rfl)
abbrev cX3_lesser : ByteArray := prog_14_method_3_code
def yX3_lesser : MethodName := ⟨RX3, "lesser", "(II)I"⟩
def dkwX3_lesser_0 : List UInt8 := [26, 27, 162, 0, 7, 26, 167, 0, 4, 27, 172]
abbrev dktX3_lesser_0 : List UInt8 := dkwX3_lesser_0 ++ []
theorem dksX3_lesser_0 : cX3_lesser.data.toList.drop 0 = dktX3_lesser_0 := by decide +kernel
theorem dX3_lesser_0 : decode cX3_lesser 0 = .ok (.iload_n 0, 1) := dk_26 (dk_at dksX3_lesser_0 0 rfl rfl)
theorem dX3_lesser_1 : decode cX3_lesser 1 = .ok (.iload_n 1, 1) := dk_27 (dk_at dksX3_lesser_0 1 rfl rfl)
theorem dX3_lesser_2 : decode cX3_lesser 2 = .ok (.if_icmp .ge 7, 3) := dk_162 0 7 (dk_at dksX3_lesser_0 2 rfl rfl)
theorem dX3_lesser_5 : decode cX3_lesser 5 = .ok (.iload_n 0, 1) := dk_26 (dk_at dksX3_lesser_0 5 rfl rfl)
theorem dX3_lesser_6 : decode cX3_lesser 6 = .ok (.goto 4, 3) := dk_167 0 4 (dk_at dksX3_lesser_0 6 rfl rfl)
theorem dX3_lesser_9 : decode cX3_lesser 9 = .ok (.iload_n 1, 1) := dk_27 (dk_at dksX3_lesser_0 9 rfl rfl)
theorem dX3_lesser_10 : decode cX3_lesser 10 = .ok (.ireturn, 1) := dk_172 (dk_at dksX3_lesser_0 10 rfl rfl)
abbrev cX3_greater : ByteArray := prog_14_method_4_code
def yX3_greater : MethodName := ⟨RX3, "greater", "(II)I"⟩
def dkwX3_greater_0 : List UInt8 := [26, 27, 164, 0, 7, 26, 167, 0, 4, 27, 172]
abbrev dktX3_greater_0 : List UInt8 := dkwX3_greater_0 ++ []
theorem dksX3_greater_0 : cX3_greater.data.toList.drop 0 = dktX3_greater_0 := by decide +kernel
theorem dX3_greater_0 : decode cX3_greater 0 = .ok (.iload_n 0, 1) := dk_26 (dk_at dksX3_greater_0 0 rfl rfl)
theorem dX3_greater_1 : decode cX3_greater 1 = .ok (.iload_n 1, 1) := dk_27 (dk_at dksX3_greater_0 1 rfl rfl)
theorem dX3_greater_2 : decode cX3_greater 2 = .ok (.if_icmp .le 7, 3) := dk_164 0 7 (dk_at dksX3_greater_0 2 rfl rfl)
theorem dX3_greater_5 : decode cX3_greater 5 = .ok (.iload_n 0, 1) := dk_26 (dk_at dksX3_greater_0 5 rfl rfl)
theorem dX3_greater_6 : decode cX3_greater 6 = .ok (.goto 4, 3) := dk_167 0 4 (dk_at dksX3_greater_0 6 rfl rfl)
theorem dX3_greater_9 : decode cX3_greater 9 = .ok (.iload_n 1, 1) := dk_27 (dk_at dksX3_greater_0 9 rfl rfl)
theorem dX3_greater_10 : decode cX3_greater 10 = .ok (.ireturn, 1) := dk_172 (dk_at dksX3_greater_0 10 rfl rfl)
abbrev cX3_strike : ByteArray := prog_14_method_73_code
def yX3_strike : MethodName := ⟨RX3, "strike", "(IZ)Z"⟩
def dkwX3_strike_2 : List UInt8 := [130, 79, 4, 172]
abbrev dktX3_strike_2 : List UInt8 := dkwX3_strike_2 ++ []
def dkwX3_strike_1 : List UInt8 := [167, 0, 4, 3, 28, 160, 0, 5, 3, 172, 42, 182, 1, 90, 42, 180, 0, 7, 4, 92, 46, 4, 27, 120]
abbrev dktX3_strike_1 : List UInt8 := dkwX3_strike_1 ++ dktX3_strike_2
def dkwX3_strike_0 : List UInt8 := [27, 3, 6, 184, 0, 77, 153, 0, 26, 42, 180, 0, 7, 4, 46, 27, 122, 4, 126, 4, 160, 0, 7, 4]
abbrev dktX3_strike_0 : List UInt8 := dkwX3_strike_0 ++ dktX3_strike_1
theorem dksX3_strike_0 : cX3_strike.data.toList.drop 0 = dktX3_strike_0 := by decide +kernel
theorem dksX3_strike_1 : cX3_strike.data.toList.drop 24 = dktX3_strike_1 := dk_seg dksX3_strike_0 24 rfl rfl
theorem dksX3_strike_2 : cX3_strike.data.toList.drop 48 = dktX3_strike_2 := dk_seg dksX3_strike_1 24 rfl rfl
theorem dX3_strike_0 : decode cX3_strike 0 = .ok (.iload_n 1, 1) := dk_27 (dk_at dksX3_strike_0 0 rfl rfl)
theorem dX3_strike_1 : decode cX3_strike 1 = .ok (.iconst 0, 1) := dk_3 (dk_at dksX3_strike_0 1 rfl rfl)
theorem dX3_strike_2 : decode cX3_strike 2 = .ok (.iconst 3, 1) := dk_6 (dk_at dksX3_strike_0 2 rfl rfl)
theorem dX3_strike_3 : decode cX3_strike 3 = .ok (.invokestatic 77, 3) := dk_184 0 77 (dk_at dksX3_strike_0 3 rfl rfl)
theorem dX3_strike_6 : decode cX3_strike 6 = .ok (.ifCond .eq 26, 3) := dk_153 0 26 (dk_at dksX3_strike_0 6 rfl rfl)
theorem dX3_strike_9 : decode cX3_strike 9 = .ok (.aload_n 0, 1) := dk_42 (dk_at dksX3_strike_0 9 rfl rfl)
theorem dX3_strike_10 : decode cX3_strike 10 = .ok (.getfield 7, 3) := dk_180 0 7 (dk_at dksX3_strike_0 10 rfl rfl)
theorem dX3_strike_13 : decode cX3_strike 13 = .ok (.iconst 1, 1) := dk_4 (dk_at dksX3_strike_0 13 rfl rfl)
theorem dX3_strike_14 : decode cX3_strike 14 = .ok (.iaload, 1) := dk_46 (dk_at dksX3_strike_0 14 rfl rfl)
theorem dX3_strike_15 : decode cX3_strike 15 = .ok (.iload_n 1, 1) := dk_27 (dk_at dksX3_strike_0 15 rfl rfl)
theorem dX3_strike_16 : decode cX3_strike 16 = .ok (.ishr, 1) := dk_122 (dk_at dksX3_strike_0 16 rfl rfl)
theorem dX3_strike_17 : decode cX3_strike 17 = .ok (.iconst 1, 1) := dk_4 (dk_at dksX3_strike_0 17 rfl rfl)
theorem dX3_strike_18 : decode cX3_strike 18 = .ok (.iand, 1) := dk_126 (dk_at dksX3_strike_0 18 rfl rfl)
theorem dX3_strike_19 : decode cX3_strike 19 = .ok (.iconst 1, 1) := dk_4 (dk_at dksX3_strike_0 19 rfl rfl)
theorem dX3_strike_20 : decode cX3_strike 20 = .ok (.if_icmp .ne 7, 3) := dk_160 0 7 (dk_at dksX3_strike_0 20 rfl rfl)
theorem dX3_strike_23 : decode cX3_strike 23 = .ok (.iconst 1, 1) := dk_4 (dk_at dksX3_strike_0 23 rfl rfl)
theorem dX3_strike_24 : decode cX3_strike 24 = .ok (.goto 4, 3) := dk_167 0 4 (dk_at dksX3_strike_1 0 rfl rfl)
theorem dX3_strike_27 : decode cX3_strike 27 = .ok (.iconst 0, 1) := dk_3 (dk_at dksX3_strike_1 3 rfl rfl)
theorem dX3_strike_28 : decode cX3_strike 28 = .ok (.iload_n 2, 1) := dk_28 (dk_at dksX3_strike_1 4 rfl rfl)
theorem dX3_strike_29 : decode cX3_strike 29 = .ok (.if_icmp .ne 5, 3) := dk_160 0 5 (dk_at dksX3_strike_1 5 rfl rfl)
theorem dX3_strike_32 : decode cX3_strike 32 = .ok (.iconst 0, 1) := dk_3 (dk_at dksX3_strike_1 8 rfl rfl)
theorem dX3_strike_33 : decode cX3_strike 33 = .ok (.ireturn, 1) := dk_172 (dk_at dksX3_strike_1 9 rfl rfl)
theorem dX3_strike_34 : decode cX3_strike 34 = .ok (.aload_n 0, 1) := dk_42 (dk_at dksX3_strike_1 10 rfl rfl)
theorem dX3_strike_35 : decode cX3_strike 35 = .ok (.invokevirtual 346, 3) := dk_182 1 90 (dk_at dksX3_strike_1 11 rfl rfl)
theorem dX3_strike_38 : decode cX3_strike 38 = .ok (.aload_n 0, 1) := dk_42 (dk_at dksX3_strike_1 14 rfl rfl)
theorem dX3_strike_39 : decode cX3_strike 39 = .ok (.getfield 7, 3) := dk_180 0 7 (dk_at dksX3_strike_1 15 rfl rfl)
theorem dX3_strike_42 : decode cX3_strike 42 = .ok (.iconst 1, 1) := dk_4 (dk_at dksX3_strike_1 18 rfl rfl)
theorem dX3_strike_43 : decode cX3_strike 43 = .ok (.dup2, 1) := dk_92 (dk_at dksX3_strike_1 19 rfl rfl)
theorem dX3_strike_44 : decode cX3_strike 44 = .ok (.iaload, 1) := dk_46 (dk_at dksX3_strike_1 20 rfl rfl)
theorem dX3_strike_45 : decode cX3_strike 45 = .ok (.iconst 1, 1) := dk_4 (dk_at dksX3_strike_1 21 rfl rfl)
theorem dX3_strike_46 : decode cX3_strike 46 = .ok (.iload_n 1, 1) := dk_27 (dk_at dksX3_strike_1 22 rfl rfl)
theorem dX3_strike_47 : decode cX3_strike 47 = .ok (.ishl, 1) := dk_120 (dk_at dksX3_strike_1 23 rfl rfl)
theorem dX3_strike_48 : decode cX3_strike 48 = .ok (.ixor, 1) := dk_130 (dk_at dksX3_strike_2 0 rfl rfl)
theorem dX3_strike_49 : decode cX3_strike 49 = .ok (.iastore, 1) := dk_79 (dk_at dksX3_strike_2 1 rfl rfl)
theorem dX3_strike_50 : decode cX3_strike 50 = .ok (.iconst 1, 1) := dk_4 (dk_at dksX3_strike_2 2 rfl rfl)
theorem dX3_strike_51 : decode cX3_strike 51 = .ok (.ireturn, 1) := dk_172 (dk_at dksX3_strike_2 3 rfl rfl)
abbrev cX3_may : ByteArray := prog_14_method_74_code
def yX3_may : MethodName := ⟨RX3, "may", "(IIZ)Z"⟩
def dkwX3_may_2 : List UInt8 := [4, 172]
abbrev dktX3_may_2 : List UInt8 := dkwX3_may_2 ++ []
def dkwX3_may_1 : List UInt8 := [29, 160, 0, 5, 3, 172, 42, 182, 1, 90, 42, 180, 0, 7, 7, 27, 96, 92, 46, 4, 28, 120, 130, 79]
abbrev dktX3_may_1 : List UInt8 := dkwX3_may_1 ++ dktX3_may_2
def dkwX3_may_0 : List UInt8 := [27, 3, 6, 184, 0, 77, 153, 0, 22, 28, 3, 6, 184, 0, 77, 153, 0, 13, 42, 27, 28, 182, 1, 68]
abbrev dktX3_may_0 : List UInt8 := dkwX3_may_0 ++ dktX3_may_1
theorem dksX3_may_0 : cX3_may.data.toList.drop 0 = dktX3_may_0 := by decide +kernel
theorem dksX3_may_1 : cX3_may.data.toList.drop 24 = dktX3_may_1 := dk_seg dksX3_may_0 24 rfl rfl
theorem dksX3_may_2 : cX3_may.data.toList.drop 48 = dktX3_may_2 := dk_seg dksX3_may_1 24 rfl rfl
theorem dX3_may_0 : decode cX3_may 0 = .ok (.iload_n 1, 1) := dk_27 (dk_at dksX3_may_0 0 rfl rfl)
theorem dX3_may_1 : decode cX3_may 1 = .ok (.iconst 0, 1) := dk_3 (dk_at dksX3_may_0 1 rfl rfl)
theorem dX3_may_2 : decode cX3_may 2 = .ok (.iconst 3, 1) := dk_6 (dk_at dksX3_may_0 2 rfl rfl)
theorem dX3_may_3 : decode cX3_may 3 = .ok (.invokestatic 77, 3) := dk_184 0 77 (dk_at dksX3_may_0 3 rfl rfl)
theorem dX3_may_6 : decode cX3_may 6 = .ok (.ifCond .eq 22, 3) := dk_153 0 22 (dk_at dksX3_may_0 6 rfl rfl)
theorem dX3_may_9 : decode cX3_may 9 = .ok (.iload_n 2, 1) := dk_28 (dk_at dksX3_may_0 9 rfl rfl)
theorem dX3_may_10 : decode cX3_may 10 = .ok (.iconst 0, 1) := dk_3 (dk_at dksX3_may_0 10 rfl rfl)
theorem dX3_may_11 : decode cX3_may 11 = .ok (.iconst 3, 1) := dk_6 (dk_at dksX3_may_0 11 rfl rfl)
theorem dX3_may_12 : decode cX3_may 12 = .ok (.invokestatic 77, 3) := dk_184 0 77 (dk_at dksX3_may_0 12 rfl rfl)
theorem dX3_may_15 : decode cX3_may 15 = .ok (.ifCond .eq 13, 3) := dk_153 0 13 (dk_at dksX3_may_0 15 rfl rfl)
theorem dX3_may_18 : decode cX3_may 18 = .ok (.aload_n 0, 1) := dk_42 (dk_at dksX3_may_0 18 rfl rfl)
theorem dX3_may_19 : decode cX3_may 19 = .ok (.iload_n 1, 1) := dk_27 (dk_at dksX3_may_0 19 rfl rfl)
theorem dX3_may_20 : decode cX3_may 20 = .ok (.iload_n 2, 1) := dk_28 (dk_at dksX3_may_0 20 rfl rfl)
theorem dX3_may_21 : decode cX3_may 21 = .ok (.invokevirtual 324, 3) := dk_182 1 68 (dk_at dksX3_may_0 21 rfl rfl)
theorem dX3_may_24 : decode cX3_may 24 = .ok (.iload_n 3, 1) := dk_29 (dk_at dksX3_may_1 0 rfl rfl)
theorem dX3_may_25 : decode cX3_may 25 = .ok (.if_icmp .ne 5, 3) := dk_160 0 5 (dk_at dksX3_may_1 1 rfl rfl)
theorem dX3_may_28 : decode cX3_may 28 = .ok (.iconst 0, 1) := dk_3 (dk_at dksX3_may_1 4 rfl rfl)
theorem dX3_may_29 : decode cX3_may 29 = .ok (.ireturn, 1) := dk_172 (dk_at dksX3_may_1 5 rfl rfl)
theorem dX3_may_30 : decode cX3_may 30 = .ok (.aload_n 0, 1) := dk_42 (dk_at dksX3_may_1 6 rfl rfl)
theorem dX3_may_31 : decode cX3_may 31 = .ok (.invokevirtual 346, 3) := dk_182 1 90 (dk_at dksX3_may_1 7 rfl rfl)
theorem dX3_may_34 : decode cX3_may 34 = .ok (.aload_n 0, 1) := dk_42 (dk_at dksX3_may_1 10 rfl rfl)
theorem dX3_may_35 : decode cX3_may 35 = .ok (.getfield 7, 3) := dk_180 0 7 (dk_at dksX3_may_1 11 rfl rfl)
theorem dX3_may_38 : decode cX3_may 38 = .ok (.iconst 4, 1) := dk_7 (dk_at dksX3_may_1 14 rfl rfl)
theorem dX3_may_39 : decode cX3_may 39 = .ok (.iload_n 1, 1) := dk_27 (dk_at dksX3_may_1 15 rfl rfl)
theorem dX3_may_40 : decode cX3_may 40 = .ok (.iadd, 1) := dk_96 (dk_at dksX3_may_1 16 rfl rfl)
theorem dX3_may_41 : decode cX3_may 41 = .ok (.dup2, 1) := dk_92 (dk_at dksX3_may_1 17 rfl rfl)
theorem dX3_may_42 : decode cX3_may 42 = .ok (.iaload, 1) := dk_46 (dk_at dksX3_may_1 18 rfl rfl)
theorem dX3_may_43 : decode cX3_may 43 = .ok (.iconst 1, 1) := dk_4 (dk_at dksX3_may_1 19 rfl rfl)
theorem dX3_may_44 : decode cX3_may 44 = .ok (.iload_n 2, 1) := dk_28 (dk_at dksX3_may_1 20 rfl rfl)
theorem dX3_may_45 : decode cX3_may 45 = .ok (.ishl, 1) := dk_120 (dk_at dksX3_may_1 21 rfl rfl)
theorem dX3_may_46 : decode cX3_may 46 = .ok (.ixor, 1) := dk_130 (dk_at dksX3_may_1 22 rfl rfl)
theorem dX3_may_47 : decode cX3_may 47 = .ok (.iastore, 1) := dk_79 (dk_at dksX3_may_1 23 rfl rfl)
theorem dX3_may_48 : decode cX3_may 48 = .ok (.iconst 1, 1) := dk_4 (dk_at dksX3_may_2 0 rfl rfl)
theorem dX3_may_49 : decode cX3_may 49 = .ok (.ireturn, 1) := dk_172 (dk_at dksX3_may_2 1 rfl rfl)
abbrev cX3_mayIts : ByteArray := prog_14_method_59_code
def yX3_mayIts : MethodName := ⟨RX3, "mayIts", "(II)Z"⟩
def dkwX3_mayIts_0 : List UInt8 := [42, 180, 0, 7, 7, 27, 96, 46, 28, 122, 4, 126, 4, 160, 0, 7, 4, 167, 0, 4, 3, 172]
abbrev dktX3_mayIts_0 : List UInt8 := dkwX3_mayIts_0 ++ []
theorem dksX3_mayIts_0 : cX3_mayIts.data.toList.drop 0 = dktX3_mayIts_0 := by decide +kernel
theorem dX3_mayIts_0 : decode cX3_mayIts 0 = .ok (.aload_n 0, 1) := dk_42 (dk_at dksX3_mayIts_0 0 rfl rfl)
theorem dX3_mayIts_1 : decode cX3_mayIts 1 = .ok (.getfield 7, 3) := dk_180 0 7 (dk_at dksX3_mayIts_0 1 rfl rfl)
theorem dX3_mayIts_4 : decode cX3_mayIts 4 = .ok (.iconst 4, 1) := dk_7 (dk_at dksX3_mayIts_0 4 rfl rfl)
theorem dX3_mayIts_5 : decode cX3_mayIts 5 = .ok (.iload_n 1, 1) := dk_27 (dk_at dksX3_mayIts_0 5 rfl rfl)
theorem dX3_mayIts_6 : decode cX3_mayIts 6 = .ok (.iadd, 1) := dk_96 (dk_at dksX3_mayIts_0 6 rfl rfl)
theorem dX3_mayIts_7 : decode cX3_mayIts 7 = .ok (.iaload, 1) := dk_46 (dk_at dksX3_mayIts_0 7 rfl rfl)
theorem dX3_mayIts_8 : decode cX3_mayIts 8 = .ok (.iload_n 2, 1) := dk_28 (dk_at dksX3_mayIts_0 8 rfl rfl)
theorem dX3_mayIts_9 : decode cX3_mayIts 9 = .ok (.ishr, 1) := dk_122 (dk_at dksX3_mayIts_0 9 rfl rfl)
theorem dX3_mayIts_10 : decode cX3_mayIts 10 = .ok (.iconst 1, 1) := dk_4 (dk_at dksX3_mayIts_0 10 rfl rfl)
theorem dX3_mayIts_11 : decode cX3_mayIts 11 = .ok (.iand, 1) := dk_126 (dk_at dksX3_mayIts_0 11 rfl rfl)
theorem dX3_mayIts_12 : decode cX3_mayIts 12 = .ok (.iconst 1, 1) := dk_4 (dk_at dksX3_mayIts_0 12 rfl rfl)
theorem dX3_mayIts_13 : decode cX3_mayIts 13 = .ok (.if_icmp .ne 7, 3) := dk_160 0 7 (dk_at dksX3_mayIts_0 13 rfl rfl)
theorem dX3_mayIts_16 : decode cX3_mayIts 16 = .ok (.iconst 1, 1) := dk_4 (dk_at dksX3_mayIts_0 16 rfl rfl)
theorem dX3_mayIts_17 : decode cX3_mayIts 17 = .ok (.goto 4, 3) := dk_167 0 4 (dk_at dksX3_mayIts_0 17 rfl rfl)
theorem dX3_mayIts_20 : decode cX3_mayIts 20 = .ok (.iconst 0, 1) := dk_3 (dk_at dksX3_mayIts_0 20 rfl rfl)
theorem dX3_mayIts_21 : decode cX3_mayIts 21 = .ok (.ireturn, 1) := dk_172 (dk_at dksX3_mayIts_0 21 rfl rfl)
abbrev cX3_hours : ByteArray := prog_14_method_79_code
def yX3_hours : MethodName := ⟨RX3, "hours", "(I)I"⟩
def dkwX3_hours_2 : List UInt8 := [132, 3, 1, 167, 255, 236, 28, 172]
abbrev dktX3_hours_2 : List UInt8 := dkwX3_hours_2 ++ []
def dkwX3_hours_1 : List UInt8 := [2, 172, 3, 61, 3, 62, 29, 27, 162, 0, 21, 42, 182, 1, 90, 28, 42, 4, 182, 1, 130, 96, 61]
abbrev dktX3_hours_1 : List UInt8 := dkwX3_hours_1 ++ dktX3_hours_2
def dkwX3_hours_0 : List UInt8 := [27, 4, 16, 60, 184, 0, 77, 153, 0, 17, 42, 180, 0, 7, 3, 46, 27, 96, 17, 39, 15, 164, 0, 5]
abbrev dktX3_hours_0 : List UInt8 := dkwX3_hours_0 ++ dktX3_hours_1
theorem dksX3_hours_0 : cX3_hours.data.toList.drop 0 = dktX3_hours_0 := by decide +kernel
theorem dksX3_hours_1 : cX3_hours.data.toList.drop 24 = dktX3_hours_1 := dk_seg dksX3_hours_0 24 rfl rfl
theorem dksX3_hours_2 : cX3_hours.data.toList.drop 47 = dktX3_hours_2 := dk_seg dksX3_hours_1 23 rfl rfl
theorem dX3_hours_0 : decode cX3_hours 0 = .ok (.iload_n 1, 1) := dk_27 (dk_at dksX3_hours_0 0 rfl rfl)
theorem dX3_hours_1 : decode cX3_hours 1 = .ok (.iconst 1, 1) := dk_4 (dk_at dksX3_hours_0 1 rfl rfl)
theorem dX3_hours_2 : decode cX3_hours 2 = .ok (.bipush 60, 2) := dk_16 60 (dk_at dksX3_hours_0 2 rfl rfl)
theorem dX3_hours_4 : decode cX3_hours 4 = .ok (.invokestatic 77, 3) := dk_184 0 77 (dk_at dksX3_hours_0 4 rfl rfl)
theorem dX3_hours_7 : decode cX3_hours 7 = .ok (.ifCond .eq 17, 3) := dk_153 0 17 (dk_at dksX3_hours_0 7 rfl rfl)
theorem dX3_hours_10 : decode cX3_hours 10 = .ok (.aload_n 0, 1) := dk_42 (dk_at dksX3_hours_0 10 rfl rfl)
theorem dX3_hours_11 : decode cX3_hours 11 = .ok (.getfield 7, 3) := dk_180 0 7 (dk_at dksX3_hours_0 11 rfl rfl)
theorem dX3_hours_14 : decode cX3_hours 14 = .ok (.iconst 0, 1) := dk_3 (dk_at dksX3_hours_0 14 rfl rfl)
theorem dX3_hours_15 : decode cX3_hours 15 = .ok (.iaload, 1) := dk_46 (dk_at dksX3_hours_0 15 rfl rfl)
theorem dX3_hours_16 : decode cX3_hours 16 = .ok (.iload_n 1, 1) := dk_27 (dk_at dksX3_hours_0 16 rfl rfl)
theorem dX3_hours_17 : decode cX3_hours 17 = .ok (.iadd, 1) := dk_96 (dk_at dksX3_hours_0 17 rfl rfl)
theorem dX3_hours_18 : decode cX3_hours 18 = .ok (.sipush 9999, 3) := dk_17 39 15 (dk_at dksX3_hours_0 18 rfl rfl)
theorem dX3_hours_21 : decode cX3_hours 21 = .ok (.if_icmp .le 5, 3) := dk_164 0 5 (dk_at dksX3_hours_0 21 rfl rfl)
theorem dX3_hours_24 : decode cX3_hours 24 = .ok (.iconst (-1), 1) := dk_2 (dk_at dksX3_hours_1 0 rfl rfl)
theorem dX3_hours_25 : decode cX3_hours 25 = .ok (.ireturn, 1) := dk_172 (dk_at dksX3_hours_1 1 rfl rfl)
theorem dX3_hours_26 : decode cX3_hours 26 = .ok (.iconst 0, 1) := dk_3 (dk_at dksX3_hours_1 2 rfl rfl)
theorem dX3_hours_27 : decode cX3_hours 27 = .ok (.istore_n 2, 1) := dk_61 (dk_at dksX3_hours_1 3 rfl rfl)
theorem dX3_hours_28 : decode cX3_hours 28 = .ok (.iconst 0, 1) := dk_3 (dk_at dksX3_hours_1 4 rfl rfl)
theorem dX3_hours_29 : decode cX3_hours 29 = .ok (.istore_n 3, 1) := dk_62 (dk_at dksX3_hours_1 5 rfl rfl)
theorem dX3_hours_30 : decode cX3_hours 30 = .ok (.iload_n 3, 1) := dk_29 (dk_at dksX3_hours_1 6 rfl rfl)
theorem dX3_hours_31 : decode cX3_hours 31 = .ok (.iload_n 1, 1) := dk_27 (dk_at dksX3_hours_1 7 rfl rfl)
theorem dX3_hours_32 : decode cX3_hours 32 = .ok (.if_icmp .ge 21, 3) := dk_162 0 21 (dk_at dksX3_hours_1 8 rfl rfl)
theorem dX3_hours_35 : decode cX3_hours 35 = .ok (.aload_n 0, 1) := dk_42 (dk_at dksX3_hours_1 11 rfl rfl)
theorem dX3_hours_36 : decode cX3_hours 36 = .ok (.invokevirtual 346, 3) := dk_182 1 90 (dk_at dksX3_hours_1 12 rfl rfl)
theorem dX3_hours_39 : decode cX3_hours 39 = .ok (.iload_n 2, 1) := dk_28 (dk_at dksX3_hours_1 15 rfl rfl)
theorem dX3_hours_40 : decode cX3_hours 40 = .ok (.aload_n 0, 1) := dk_42 (dk_at dksX3_hours_1 16 rfl rfl)
theorem dX3_hours_41 : decode cX3_hours 41 = .ok (.iconst 1, 1) := dk_4 (dk_at dksX3_hours_1 17 rfl rfl)
theorem dX3_hours_42 : decode cX3_hours 42 = .ok (.invokevirtual 386, 3) := dk_182 1 130 (dk_at dksX3_hours_1 18 rfl rfl)
theorem dX3_hours_45 : decode cX3_hours 45 = .ok (.iadd, 1) := dk_96 (dk_at dksX3_hours_1 21 rfl rfl)
theorem dX3_hours_46 : decode cX3_hours 46 = .ok (.istore_n 2, 1) := dk_61 (dk_at dksX3_hours_1 22 rfl rfl)
theorem dX3_hours_47 : decode cX3_hours 47 = .ok (.iinc 3 1, 3) := dk_132 3 1 (dk_at dksX3_hours_2 0 rfl rfl)
theorem dX3_hours_50 : decode cX3_hours 50 = .ok (.goto (-20), 3) := dk_167 255 236 (dk_at dksX3_hours_2 3 rfl rfl)
theorem dX3_hours_53 : decode cX3_hours 53 = .ok (.iload_n 2, 1) := dk_28 (dk_at dksX3_hours_2 6 rfl rfl)
theorem dX3_hours_54 : decode cX3_hours 54 = .ok (.ireturn, 1) := dk_172 (dk_at dksX3_hours_2 7 rfl rfl)
abbrev cX3_anHour : ByteArray := prog_14_method_78_code
def yX3_anHour : MethodName := ⟨RX3, "anHour", "(Z)I"⟩
def dkwX3_anHour_11 : List UInt8 := [154, 0, 17, 42, 29, 16, 7, 3, 182, 0, 89, 132, 3, 1, 167, 255, 222, 28, 172]
abbrev dktX3_anHour_11 : List UInt8 := dkwX3_anHour_11 ++ []
def dkwX3_anHour_10 : List UInt8 := [3, 62, 29, 42, 180, 0, 7, 16, 96, 46, 162, 0, 29, 42, 180, 0, 7, 3, 46, 16, 8, 112]
abbrev dktX3_anHour_10 : List UInt8 := dkwX3_anHour_10 ++ dktX3_anHour_11
def dkwX3_anHour_9 : List UInt8 := [182, 1, 57, 4, 100, 182, 0, 89, 132, 3, 1, 167, 255, 178, 42, 180, 0, 7, 3, 92, 46, 4, 96, 79]
abbrev dktX3_anHour_9 : List UInt8 := dkwX3_anHour_9 ++ dktX3_anHour_10
def dkwX3_anHour_8 : List UInt8 := [17, 3, 232, 182, 1, 127, 42, 180, 0, 7, 16, 102, 46, 162, 0, 17, 42, 29, 6, 42, 29, 6]
abbrev dktX3_anHour_8 : List UInt8 := dkwX3_anHour_8 ++ dktX3_anHour_9
def dkwX3_anHour_7 : List UInt8 := [158, 0, 59, 42, 29, 16, 9, 182, 1, 57, 154, 0, 43, 42, 29, 6, 182, 1, 57, 158, 0, 34, 42]
abbrev dktX3_anHour_7 : List UInt8 := dkwX3_anHour_7 ++ dktX3_anHour_8
def dkwX3_anHour_6 : List UInt8 := [3, 62, 29, 42, 180, 0, 7, 16, 96, 46, 162, 0, 73, 27, 153, 0, 69, 42, 180, 0, 7, 16, 102, 46]
abbrev dktX3_anHour_6 : List UInt8 := dkwX3_anHour_6 ++ dktX3_anHour_7
def dkwX3_anHour_5 : List UInt8 := [42, 29, 181, 1, 121, 42, 42, 180, 0, 7, 3, 46, 181, 1, 124, 132, 2, 1, 132, 3, 1, 167, 255, 152]
abbrev dktX3_anHour_5 : List UInt8 := dkwX3_anHour_5 ++ dktX3_anHour_6
def dkwX3_anHour_4 : List UInt8 := [153, 0, 42, 42, 21, 4, 27, 182, 1, 117, 153, 0, 6, 167, 0, 29, 42, 180, 1, 121, 2, 160, 0, 18]
abbrev dktX3_anHour_4 : List UInt8 := dkwX3_anHour_4 ++ dktX3_anHour_5
def dkwX3_anHour_3 : List UInt8 := [42, 180, 0, 7, 21, 4, 6, 96, 46, 42, 180, 0, 7, 21, 4, 7, 96, 46, 96, 4, 100, 184, 0, 77]
abbrev dktX3_anHour_3 : List UInt8 := dkwX3_anHour_3 ++ dktX3_anHour_4
def dkwX3_anHour_2 : List UInt8 := [17, 0, 166, 8, 29, 104, 96, 54, 4, 42, 180, 0, 7, 3, 46, 42, 180, 0, 7, 21, 4, 6, 96, 46]
abbrev dktX3_anHour_2 : List UInt8 := dkwX3_anHour_2 ++ dktX3_anHour_3
def dkwX3_anHour_1 : List UInt8 := [3, 182, 0, 89, 132, 3, 1, 167, 255, 234, 3, 62, 29, 42, 180, 0, 7, 16, 99, 46, 162, 0, 99]
abbrev dktX3_anHour_1 : List UInt8 := dkwX3_anHour_1 ++ dktX3_anHour_2
def dkwX3_anHour_0 : List UInt8 := [3, 61, 42, 3, 181, 1, 99, 3, 62, 29, 42, 180, 0, 7, 16, 96, 46, 162, 0, 17, 42, 29, 16, 9]
abbrev dktX3_anHour_0 : List UInt8 := dkwX3_anHour_0 ++ dktX3_anHour_1
theorem dksX3_anHour_0 : cX3_anHour.data.toList.drop 0 = dktX3_anHour_0 := by decide +kernel
theorem dksX3_anHour_1 : cX3_anHour.data.toList.drop 24 = dktX3_anHour_1 := dk_seg dksX3_anHour_0 24 rfl rfl
theorem dksX3_anHour_2 : cX3_anHour.data.toList.drop 47 = dktX3_anHour_2 := dk_seg dksX3_anHour_1 23 rfl rfl
theorem dksX3_anHour_3 : cX3_anHour.data.toList.drop 71 = dktX3_anHour_3 := dk_seg dksX3_anHour_2 24 rfl rfl
theorem dksX3_anHour_4 : cX3_anHour.data.toList.drop 95 = dktX3_anHour_4 := dk_seg dksX3_anHour_3 24 rfl rfl
theorem dksX3_anHour_5 : cX3_anHour.data.toList.drop 119 = dktX3_anHour_5 := dk_seg dksX3_anHour_4 24 rfl rfl
theorem dksX3_anHour_6 : cX3_anHour.data.toList.drop 143 = dktX3_anHour_6 := dk_seg dksX3_anHour_5 24 rfl rfl
theorem dksX3_anHour_7 : cX3_anHour.data.toList.drop 167 = dktX3_anHour_7 := dk_seg dksX3_anHour_6 24 rfl rfl
theorem dksX3_anHour_8 : cX3_anHour.data.toList.drop 190 = dktX3_anHour_8 := dk_seg dksX3_anHour_7 23 rfl rfl
theorem dksX3_anHour_9 : cX3_anHour.data.toList.drop 212 = dktX3_anHour_9 := dk_seg dksX3_anHour_8 22 rfl rfl
theorem dksX3_anHour_10 : cX3_anHour.data.toList.drop 236 = dktX3_anHour_10 := dk_seg dksX3_anHour_9 24 rfl rfl
theorem dksX3_anHour_11 : cX3_anHour.data.toList.drop 258 = dktX3_anHour_11 := dk_seg dksX3_anHour_10 22 rfl rfl
theorem dX3_anHour_0 : decode cX3_anHour 0 = .ok (.iconst 0, 1) := dk_3 (dk_at dksX3_anHour_0 0 rfl rfl)
theorem dX3_anHour_1 : decode cX3_anHour 1 = .ok (.istore_n 2, 1) := dk_61 (dk_at dksX3_anHour_0 1 rfl rfl)
theorem dX3_anHour_2 : decode cX3_anHour 2 = .ok (.aload_n 0, 1) := dk_42 (dk_at dksX3_anHour_0 2 rfl rfl)
theorem dX3_anHour_3 : decode cX3_anHour 3 = .ok (.iconst 0, 1) := dk_3 (dk_at dksX3_anHour_0 3 rfl rfl)
theorem dX3_anHour_4 : decode cX3_anHour 4 = .ok (.putfield 355, 3) := dk_181 1 99 (dk_at dksX3_anHour_0 4 rfl rfl)
theorem dX3_anHour_7 : decode cX3_anHour 7 = .ok (.iconst 0, 1) := dk_3 (dk_at dksX3_anHour_0 7 rfl rfl)
theorem dX3_anHour_8 : decode cX3_anHour 8 = .ok (.istore_n 3, 1) := dk_62 (dk_at dksX3_anHour_0 8 rfl rfl)
theorem dX3_anHour_9 : decode cX3_anHour 9 = .ok (.iload_n 3, 1) := dk_29 (dk_at dksX3_anHour_0 9 rfl rfl)
theorem dX3_anHour_10 : decode cX3_anHour 10 = .ok (.aload_n 0, 1) := dk_42 (dk_at dksX3_anHour_0 10 rfl rfl)
theorem dX3_anHour_11 : decode cX3_anHour 11 = .ok (.getfield 7, 3) := dk_180 0 7 (dk_at dksX3_anHour_0 11 rfl rfl)
theorem dX3_anHour_14 : decode cX3_anHour 14 = .ok (.bipush 96, 2) := dk_16 96 (dk_at dksX3_anHour_0 14 rfl rfl)
theorem dX3_anHour_16 : decode cX3_anHour 16 = .ok (.iaload, 1) := dk_46 (dk_at dksX3_anHour_0 16 rfl rfl)
theorem dX3_anHour_17 : decode cX3_anHour 17 = .ok (.if_icmp .ge 17, 3) := dk_162 0 17 (dk_at dksX3_anHour_0 17 rfl rfl)
theorem dX3_anHour_20 : decode cX3_anHour 20 = .ok (.aload_n 0, 1) := dk_42 (dk_at dksX3_anHour_0 20 rfl rfl)
theorem dX3_anHour_21 : decode cX3_anHour 21 = .ok (.iload_n 3, 1) := dk_29 (dk_at dksX3_anHour_0 21 rfl rfl)
theorem dX3_anHour_22 : decode cX3_anHour 22 = .ok (.bipush 9, 2) := dk_16 9 (dk_at dksX3_anHour_0 22 rfl rfl)
theorem dX3_anHour_24 : decode cX3_anHour 24 = .ok (.iconst 0, 1) := dk_3 (dk_at dksX3_anHour_1 0 rfl rfl)
theorem dX3_anHour_25 : decode cX3_anHour 25 = .ok (.invokevirtual 89, 3) := dk_182 0 89 (dk_at dksX3_anHour_1 1 rfl rfl)
theorem dX3_anHour_28 : decode cX3_anHour 28 = .ok (.iinc 3 1, 3) := dk_132 3 1 (dk_at dksX3_anHour_1 4 rfl rfl)
theorem dX3_anHour_31 : decode cX3_anHour 31 = .ok (.goto (-22), 3) := dk_167 255 234 (dk_at dksX3_anHour_1 7 rfl rfl)
theorem dX3_anHour_34 : decode cX3_anHour 34 = .ok (.iconst 0, 1) := dk_3 (dk_at dksX3_anHour_1 10 rfl rfl)
theorem dX3_anHour_35 : decode cX3_anHour 35 = .ok (.istore_n 3, 1) := dk_62 (dk_at dksX3_anHour_1 11 rfl rfl)
theorem dX3_anHour_36 : decode cX3_anHour 36 = .ok (.iload_n 3, 1) := dk_29 (dk_at dksX3_anHour_1 12 rfl rfl)
theorem dX3_anHour_37 : decode cX3_anHour 37 = .ok (.aload_n 0, 1) := dk_42 (dk_at dksX3_anHour_1 13 rfl rfl)
theorem dX3_anHour_38 : decode cX3_anHour 38 = .ok (.getfield 7, 3) := dk_180 0 7 (dk_at dksX3_anHour_1 14 rfl rfl)
theorem dX3_anHour_41 : decode cX3_anHour 41 = .ok (.bipush 99, 2) := dk_16 99 (dk_at dksX3_anHour_1 17 rfl rfl)
theorem dX3_anHour_43 : decode cX3_anHour 43 = .ok (.iaload, 1) := dk_46 (dk_at dksX3_anHour_1 19 rfl rfl)
theorem dX3_anHour_44 : decode cX3_anHour 44 = .ok (.if_icmp .ge 99, 3) := dk_162 0 99 (dk_at dksX3_anHour_1 20 rfl rfl)
theorem dX3_anHour_47 : decode cX3_anHour 47 = .ok (.sipush 166, 3) := dk_17 0 166 (dk_at dksX3_anHour_2 0 rfl rfl)
theorem dX3_anHour_50 : decode cX3_anHour 50 = .ok (.iconst 5, 1) := dk_8 (dk_at dksX3_anHour_2 3 rfl rfl)
theorem dX3_anHour_51 : decode cX3_anHour 51 = .ok (.iload_n 3, 1) := dk_29 (dk_at dksX3_anHour_2 4 rfl rfl)
theorem dX3_anHour_52 : decode cX3_anHour 52 = .ok (.imul, 1) := dk_104 (dk_at dksX3_anHour_2 5 rfl rfl)
theorem dX3_anHour_53 : decode cX3_anHour 53 = .ok (.iadd, 1) := dk_96 (dk_at dksX3_anHour_2 6 rfl rfl)
theorem dX3_anHour_54 : decode cX3_anHour 54 = .ok (.istore 4, 2) := dk_54 4 (dk_at dksX3_anHour_2 7 rfl rfl)
theorem dX3_anHour_56 : decode cX3_anHour 56 = .ok (.aload_n 0, 1) := dk_42 (dk_at dksX3_anHour_2 9 rfl rfl)
theorem dX3_anHour_57 : decode cX3_anHour 57 = .ok (.getfield 7, 3) := dk_180 0 7 (dk_at dksX3_anHour_2 10 rfl rfl)
theorem dX3_anHour_60 : decode cX3_anHour 60 = .ok (.iconst 0, 1) := dk_3 (dk_at dksX3_anHour_2 13 rfl rfl)
theorem dX3_anHour_61 : decode cX3_anHour 61 = .ok (.iaload, 1) := dk_46 (dk_at dksX3_anHour_2 14 rfl rfl)
theorem dX3_anHour_62 : decode cX3_anHour 62 = .ok (.aload_n 0, 1) := dk_42 (dk_at dksX3_anHour_2 15 rfl rfl)
theorem dX3_anHour_63 : decode cX3_anHour 63 = .ok (.getfield 7, 3) := dk_180 0 7 (dk_at dksX3_anHour_2 16 rfl rfl)
theorem dX3_anHour_66 : decode cX3_anHour 66 = .ok (.iload 4, 2) := dk_21 4 (dk_at dksX3_anHour_2 19 rfl rfl)
theorem dX3_anHour_68 : decode cX3_anHour 68 = .ok (.iconst 3, 1) := dk_6 (dk_at dksX3_anHour_2 21 rfl rfl)
theorem dX3_anHour_69 : decode cX3_anHour 69 = .ok (.iadd, 1) := dk_96 (dk_at dksX3_anHour_2 22 rfl rfl)
theorem dX3_anHour_70 : decode cX3_anHour 70 = .ok (.iaload, 1) := dk_46 (dk_at dksX3_anHour_2 23 rfl rfl)
theorem dX3_anHour_71 : decode cX3_anHour 71 = .ok (.aload_n 0, 1) := dk_42 (dk_at dksX3_anHour_3 0 rfl rfl)
theorem dX3_anHour_72 : decode cX3_anHour 72 = .ok (.getfield 7, 3) := dk_180 0 7 (dk_at dksX3_anHour_3 1 rfl rfl)
theorem dX3_anHour_75 : decode cX3_anHour 75 = .ok (.iload 4, 2) := dk_21 4 (dk_at dksX3_anHour_3 4 rfl rfl)
theorem dX3_anHour_77 : decode cX3_anHour 77 = .ok (.iconst 3, 1) := dk_6 (dk_at dksX3_anHour_3 6 rfl rfl)
theorem dX3_anHour_78 : decode cX3_anHour 78 = .ok (.iadd, 1) := dk_96 (dk_at dksX3_anHour_3 7 rfl rfl)
theorem dX3_anHour_79 : decode cX3_anHour 79 = .ok (.iaload, 1) := dk_46 (dk_at dksX3_anHour_3 8 rfl rfl)
theorem dX3_anHour_80 : decode cX3_anHour 80 = .ok (.aload_n 0, 1) := dk_42 (dk_at dksX3_anHour_3 9 rfl rfl)
theorem dX3_anHour_81 : decode cX3_anHour 81 = .ok (.getfield 7, 3) := dk_180 0 7 (dk_at dksX3_anHour_3 10 rfl rfl)
theorem dX3_anHour_84 : decode cX3_anHour 84 = .ok (.iload 4, 2) := dk_21 4 (dk_at dksX3_anHour_3 13 rfl rfl)
theorem dX3_anHour_86 : decode cX3_anHour 86 = .ok (.iconst 4, 1) := dk_7 (dk_at dksX3_anHour_3 15 rfl rfl)
theorem dX3_anHour_87 : decode cX3_anHour 87 = .ok (.iadd, 1) := dk_96 (dk_at dksX3_anHour_3 16 rfl rfl)
theorem dX3_anHour_88 : decode cX3_anHour 88 = .ok (.iaload, 1) := dk_46 (dk_at dksX3_anHour_3 17 rfl rfl)
theorem dX3_anHour_89 : decode cX3_anHour 89 = .ok (.iadd, 1) := dk_96 (dk_at dksX3_anHour_3 18 rfl rfl)
theorem dX3_anHour_90 : decode cX3_anHour 90 = .ok (.iconst 1, 1) := dk_4 (dk_at dksX3_anHour_3 19 rfl rfl)
theorem dX3_anHour_91 : decode cX3_anHour 91 = .ok (.isub, 1) := dk_100 (dk_at dksX3_anHour_3 20 rfl rfl)
theorem dX3_anHour_92 : decode cX3_anHour 92 = .ok (.invokestatic 77, 3) := dk_184 0 77 (dk_at dksX3_anHour_3 21 rfl rfl)
theorem dX3_anHour_95 : decode cX3_anHour 95 = .ok (.ifCond .eq 42, 3) := dk_153 0 42 (dk_at dksX3_anHour_4 0 rfl rfl)
theorem dX3_anHour_98 : decode cX3_anHour 98 = .ok (.aload_n 0, 1) := dk_42 (dk_at dksX3_anHour_4 3 rfl rfl)
theorem dX3_anHour_99 : decode cX3_anHour 99 = .ok (.iload 4, 2) := dk_21 4 (dk_at dksX3_anHour_4 4 rfl rfl)
theorem dX3_anHour_101 : decode cX3_anHour 101 = .ok (.iload_n 1, 1) := dk_27 (dk_at dksX3_anHour_4 6 rfl rfl)
theorem dX3_anHour_102 : decode cX3_anHour 102 = .ok (.invokevirtual 373, 3) := dk_182 1 117 (dk_at dksX3_anHour_4 7 rfl rfl)
theorem dX3_anHour_105 : decode cX3_anHour 105 = .ok (.ifCond .eq 6, 3) := dk_153 0 6 (dk_at dksX3_anHour_4 10 rfl rfl)
theorem dX3_anHour_108 : decode cX3_anHour 108 = .ok (.goto 29, 3) := dk_167 0 29 (dk_at dksX3_anHour_4 13 rfl rfl)
theorem dX3_anHour_111 : decode cX3_anHour 111 = .ok (.aload_n 0, 1) := dk_42 (dk_at dksX3_anHour_4 16 rfl rfl)
theorem dX3_anHour_112 : decode cX3_anHour 112 = .ok (.getfield 377, 3) := dk_180 1 121 (dk_at dksX3_anHour_4 17 rfl rfl)
theorem dX3_anHour_115 : decode cX3_anHour 115 = .ok (.iconst (-1), 1) := dk_2 (dk_at dksX3_anHour_4 20 rfl rfl)
theorem dX3_anHour_116 : decode cX3_anHour 116 = .ok (.if_icmp .ne 18, 3) := dk_160 0 18 (dk_at dksX3_anHour_4 21 rfl rfl)
theorem dX3_anHour_119 : decode cX3_anHour 119 = .ok (.aload_n 0, 1) := dk_42 (dk_at dksX3_anHour_5 0 rfl rfl)
theorem dX3_anHour_120 : decode cX3_anHour 120 = .ok (.iload_n 3, 1) := dk_29 (dk_at dksX3_anHour_5 1 rfl rfl)
theorem dX3_anHour_121 : decode cX3_anHour 121 = .ok (.putfield 377, 3) := dk_181 1 121 (dk_at dksX3_anHour_5 2 rfl rfl)
theorem dX3_anHour_124 : decode cX3_anHour 124 = .ok (.aload_n 0, 1) := dk_42 (dk_at dksX3_anHour_5 5 rfl rfl)
theorem dX3_anHour_125 : decode cX3_anHour 125 = .ok (.aload_n 0, 1) := dk_42 (dk_at dksX3_anHour_5 6 rfl rfl)
theorem dX3_anHour_126 : decode cX3_anHour 126 = .ok (.getfield 7, 3) := dk_180 0 7 (dk_at dksX3_anHour_5 7 rfl rfl)
theorem dX3_anHour_129 : decode cX3_anHour 129 = .ok (.iconst 0, 1) := dk_3 (dk_at dksX3_anHour_5 10 rfl rfl)
theorem dX3_anHour_130 : decode cX3_anHour 130 = .ok (.iaload, 1) := dk_46 (dk_at dksX3_anHour_5 11 rfl rfl)
theorem dX3_anHour_131 : decode cX3_anHour 131 = .ok (.putfield 380, 3) := dk_181 1 124 (dk_at dksX3_anHour_5 12 rfl rfl)
theorem dX3_anHour_134 : decode cX3_anHour 134 = .ok (.iinc 2 1, 3) := dk_132 2 1 (dk_at dksX3_anHour_5 15 rfl rfl)
theorem dX3_anHour_137 : decode cX3_anHour 137 = .ok (.iinc 3 1, 3) := dk_132 3 1 (dk_at dksX3_anHour_5 18 rfl rfl)
theorem dX3_anHour_140 : decode cX3_anHour 140 = .ok (.goto (-104), 3) := dk_167 255 152 (dk_at dksX3_anHour_5 21 rfl rfl)
theorem dX3_anHour_143 : decode cX3_anHour 143 = .ok (.iconst 0, 1) := dk_3 (dk_at dksX3_anHour_6 0 rfl rfl)
theorem dX3_anHour_144 : decode cX3_anHour 144 = .ok (.istore_n 3, 1) := dk_62 (dk_at dksX3_anHour_6 1 rfl rfl)
theorem dX3_anHour_145 : decode cX3_anHour 145 = .ok (.iload_n 3, 1) := dk_29 (dk_at dksX3_anHour_6 2 rfl rfl)
theorem dX3_anHour_146 : decode cX3_anHour 146 = .ok (.aload_n 0, 1) := dk_42 (dk_at dksX3_anHour_6 3 rfl rfl)
theorem dX3_anHour_147 : decode cX3_anHour 147 = .ok (.getfield 7, 3) := dk_180 0 7 (dk_at dksX3_anHour_6 4 rfl rfl)
theorem dX3_anHour_150 : decode cX3_anHour 150 = .ok (.bipush 96, 2) := dk_16 96 (dk_at dksX3_anHour_6 7 rfl rfl)
theorem dX3_anHour_152 : decode cX3_anHour 152 = .ok (.iaload, 1) := dk_46 (dk_at dksX3_anHour_6 9 rfl rfl)
theorem dX3_anHour_153 : decode cX3_anHour 153 = .ok (.if_icmp .ge 73, 3) := dk_162 0 73 (dk_at dksX3_anHour_6 10 rfl rfl)
theorem dX3_anHour_156 : decode cX3_anHour 156 = .ok (.iload_n 1, 1) := dk_27 (dk_at dksX3_anHour_6 13 rfl rfl)
theorem dX3_anHour_157 : decode cX3_anHour 157 = .ok (.ifCond .eq 69, 3) := dk_153 0 69 (dk_at dksX3_anHour_6 14 rfl rfl)
theorem dX3_anHour_160 : decode cX3_anHour 160 = .ok (.aload_n 0, 1) := dk_42 (dk_at dksX3_anHour_6 17 rfl rfl)
theorem dX3_anHour_161 : decode cX3_anHour 161 = .ok (.getfield 7, 3) := dk_180 0 7 (dk_at dksX3_anHour_6 18 rfl rfl)
theorem dX3_anHour_164 : decode cX3_anHour 164 = .ok (.bipush 102, 2) := dk_16 102 (dk_at dksX3_anHour_6 21 rfl rfl)
theorem dX3_anHour_166 : decode cX3_anHour 166 = .ok (.iaload, 1) := dk_46 (dk_at dksX3_anHour_6 23 rfl rfl)
theorem dX3_anHour_167 : decode cX3_anHour 167 = .ok (.ifCond .le 59, 3) := dk_158 0 59 (dk_at dksX3_anHour_7 0 rfl rfl)
theorem dX3_anHour_170 : decode cX3_anHour 170 = .ok (.aload_n 0, 1) := dk_42 (dk_at dksX3_anHour_7 3 rfl rfl)
theorem dX3_anHour_171 : decode cX3_anHour 171 = .ok (.iload_n 3, 1) := dk_29 (dk_at dksX3_anHour_7 4 rfl rfl)
theorem dX3_anHour_172 : decode cX3_anHour 172 = .ok (.bipush 9, 2) := dk_16 9 (dk_at dksX3_anHour_7 5 rfl rfl)
theorem dX3_anHour_174 : decode cX3_anHour 174 = .ok (.invokevirtual 313, 3) := dk_182 1 57 (dk_at dksX3_anHour_7 7 rfl rfl)
theorem dX3_anHour_177 : decode cX3_anHour 177 = .ok (.ifCond .ne 43, 3) := dk_154 0 43 (dk_at dksX3_anHour_7 10 rfl rfl)
theorem dX3_anHour_180 : decode cX3_anHour 180 = .ok (.aload_n 0, 1) := dk_42 (dk_at dksX3_anHour_7 13 rfl rfl)
theorem dX3_anHour_181 : decode cX3_anHour 181 = .ok (.iload_n 3, 1) := dk_29 (dk_at dksX3_anHour_7 14 rfl rfl)
theorem dX3_anHour_182 : decode cX3_anHour 182 = .ok (.iconst 3, 1) := dk_6 (dk_at dksX3_anHour_7 15 rfl rfl)
theorem dX3_anHour_183 : decode cX3_anHour 183 = .ok (.invokevirtual 313, 3) := dk_182 1 57 (dk_at dksX3_anHour_7 16 rfl rfl)
theorem dX3_anHour_186 : decode cX3_anHour 186 = .ok (.ifCond .le 34, 3) := dk_158 0 34 (dk_at dksX3_anHour_7 19 rfl rfl)
theorem dX3_anHour_189 : decode cX3_anHour 189 = .ok (.aload_n 0, 1) := dk_42 (dk_at dksX3_anHour_7 22 rfl rfl)
theorem dX3_anHour_190 : decode cX3_anHour 190 = .ok (.sipush 1000, 3) := dk_17 3 232 (dk_at dksX3_anHour_8 0 rfl rfl)
theorem dX3_anHour_193 : decode cX3_anHour 193 = .ok (.invokevirtual 383, 3) := dk_182 1 127 (dk_at dksX3_anHour_8 3 rfl rfl)
theorem dX3_anHour_196 : decode cX3_anHour 196 = .ok (.aload_n 0, 1) := dk_42 (dk_at dksX3_anHour_8 6 rfl rfl)
theorem dX3_anHour_197 : decode cX3_anHour 197 = .ok (.getfield 7, 3) := dk_180 0 7 (dk_at dksX3_anHour_8 7 rfl rfl)
theorem dX3_anHour_200 : decode cX3_anHour 200 = .ok (.bipush 102, 2) := dk_16 102 (dk_at dksX3_anHour_8 10 rfl rfl)
theorem dX3_anHour_202 : decode cX3_anHour 202 = .ok (.iaload, 1) := dk_46 (dk_at dksX3_anHour_8 12 rfl rfl)
theorem dX3_anHour_203 : decode cX3_anHour 203 = .ok (.if_icmp .ge 17, 3) := dk_162 0 17 (dk_at dksX3_anHour_8 13 rfl rfl)
theorem dX3_anHour_206 : decode cX3_anHour 206 = .ok (.aload_n 0, 1) := dk_42 (dk_at dksX3_anHour_8 16 rfl rfl)
theorem dX3_anHour_207 : decode cX3_anHour 207 = .ok (.iload_n 3, 1) := dk_29 (dk_at dksX3_anHour_8 17 rfl rfl)
theorem dX3_anHour_208 : decode cX3_anHour 208 = .ok (.iconst 3, 1) := dk_6 (dk_at dksX3_anHour_8 18 rfl rfl)
theorem dX3_anHour_209 : decode cX3_anHour 209 = .ok (.aload_n 0, 1) := dk_42 (dk_at dksX3_anHour_8 19 rfl rfl)
theorem dX3_anHour_210 : decode cX3_anHour 210 = .ok (.iload_n 3, 1) := dk_29 (dk_at dksX3_anHour_8 20 rfl rfl)
theorem dX3_anHour_211 : decode cX3_anHour 211 = .ok (.iconst 3, 1) := dk_6 (dk_at dksX3_anHour_8 21 rfl rfl)
theorem dX3_anHour_212 : decode cX3_anHour 212 = .ok (.invokevirtual 313, 3) := dk_182 1 57 (dk_at dksX3_anHour_9 0 rfl rfl)
theorem dX3_anHour_215 : decode cX3_anHour 215 = .ok (.iconst 1, 1) := dk_4 (dk_at dksX3_anHour_9 3 rfl rfl)
theorem dX3_anHour_216 : decode cX3_anHour 216 = .ok (.isub, 1) := dk_100 (dk_at dksX3_anHour_9 4 rfl rfl)
theorem dX3_anHour_217 : decode cX3_anHour 217 = .ok (.invokevirtual 89, 3) := dk_182 0 89 (dk_at dksX3_anHour_9 5 rfl rfl)
theorem dX3_anHour_220 : decode cX3_anHour 220 = .ok (.iinc 3 1, 3) := dk_132 3 1 (dk_at dksX3_anHour_9 8 rfl rfl)
theorem dX3_anHour_223 : decode cX3_anHour 223 = .ok (.goto (-78), 3) := dk_167 255 178 (dk_at dksX3_anHour_9 11 rfl rfl)
theorem dX3_anHour_226 : decode cX3_anHour 226 = .ok (.aload_n 0, 1) := dk_42 (dk_at dksX3_anHour_9 14 rfl rfl)
theorem dX3_anHour_227 : decode cX3_anHour 227 = .ok (.getfield 7, 3) := dk_180 0 7 (dk_at dksX3_anHour_9 15 rfl rfl)
theorem dX3_anHour_230 : decode cX3_anHour 230 = .ok (.iconst 0, 1) := dk_3 (dk_at dksX3_anHour_9 18 rfl rfl)
theorem dX3_anHour_231 : decode cX3_anHour 231 = .ok (.dup2, 1) := dk_92 (dk_at dksX3_anHour_9 19 rfl rfl)
theorem dX3_anHour_232 : decode cX3_anHour 232 = .ok (.iaload, 1) := dk_46 (dk_at dksX3_anHour_9 20 rfl rfl)
theorem dX3_anHour_233 : decode cX3_anHour 233 = .ok (.iconst 1, 1) := dk_4 (dk_at dksX3_anHour_9 21 rfl rfl)
theorem dX3_anHour_234 : decode cX3_anHour 234 = .ok (.iadd, 1) := dk_96 (dk_at dksX3_anHour_9 22 rfl rfl)
theorem dX3_anHour_235 : decode cX3_anHour 235 = .ok (.iastore, 1) := dk_79 (dk_at dksX3_anHour_9 23 rfl rfl)
theorem dX3_anHour_236 : decode cX3_anHour 236 = .ok (.iconst 0, 1) := dk_3 (dk_at dksX3_anHour_10 0 rfl rfl)
theorem dX3_anHour_237 : decode cX3_anHour 237 = .ok (.istore_n 3, 1) := dk_62 (dk_at dksX3_anHour_10 1 rfl rfl)
theorem dX3_anHour_238 : decode cX3_anHour 238 = .ok (.iload_n 3, 1) := dk_29 (dk_at dksX3_anHour_10 2 rfl rfl)
theorem dX3_anHour_239 : decode cX3_anHour 239 = .ok (.aload_n 0, 1) := dk_42 (dk_at dksX3_anHour_10 3 rfl rfl)
theorem dX3_anHour_240 : decode cX3_anHour 240 = .ok (.getfield 7, 3) := dk_180 0 7 (dk_at dksX3_anHour_10 4 rfl rfl)
theorem dX3_anHour_243 : decode cX3_anHour 243 = .ok (.bipush 96, 2) := dk_16 96 (dk_at dksX3_anHour_10 7 rfl rfl)
theorem dX3_anHour_245 : decode cX3_anHour 245 = .ok (.iaload, 1) := dk_46 (dk_at dksX3_anHour_10 9 rfl rfl)
theorem dX3_anHour_246 : decode cX3_anHour 246 = .ok (.if_icmp .ge 29, 3) := dk_162 0 29 (dk_at dksX3_anHour_10 10 rfl rfl)
theorem dX3_anHour_249 : decode cX3_anHour 249 = .ok (.aload_n 0, 1) := dk_42 (dk_at dksX3_anHour_10 13 rfl rfl)
theorem dX3_anHour_250 : decode cX3_anHour 250 = .ok (.getfield 7, 3) := dk_180 0 7 (dk_at dksX3_anHour_10 14 rfl rfl)
theorem dX3_anHour_253 : decode cX3_anHour 253 = .ok (.iconst 0, 1) := dk_3 (dk_at dksX3_anHour_10 17 rfl rfl)
theorem dX3_anHour_254 : decode cX3_anHour 254 = .ok (.iaload, 1) := dk_46 (dk_at dksX3_anHour_10 18 rfl rfl)
theorem dX3_anHour_255 : decode cX3_anHour 255 = .ok (.bipush 8, 2) := dk_16 8 (dk_at dksX3_anHour_10 19 rfl rfl)
theorem dX3_anHour_257 : decode cX3_anHour 257 = .ok (.irem, 1) := dk_112 (dk_at dksX3_anHour_10 21 rfl rfl)
theorem dX3_anHour_258 : decode cX3_anHour 258 = .ok (.ifCond .ne 17, 3) := dk_154 0 17 (dk_at dksX3_anHour_11 0 rfl rfl)
theorem dX3_anHour_261 : decode cX3_anHour 261 = .ok (.aload_n 0, 1) := dk_42 (dk_at dksX3_anHour_11 3 rfl rfl)
theorem dX3_anHour_262 : decode cX3_anHour 262 = .ok (.iload_n 3, 1) := dk_29 (dk_at dksX3_anHour_11 4 rfl rfl)
theorem dX3_anHour_263 : decode cX3_anHour 263 = .ok (.bipush 7, 2) := dk_16 7 (dk_at dksX3_anHour_11 5 rfl rfl)
theorem dX3_anHour_265 : decode cX3_anHour 265 = .ok (.iconst 0, 1) := dk_3 (dk_at dksX3_anHour_11 7 rfl rfl)
theorem dX3_anHour_266 : decode cX3_anHour 266 = .ok (.invokevirtual 89, 3) := dk_182 0 89 (dk_at dksX3_anHour_11 8 rfl rfl)
theorem dX3_anHour_269 : decode cX3_anHour 269 = .ok (.iinc 3 1, 3) := dk_132 3 1 (dk_at dksX3_anHour_11 11 rfl rfl)
theorem dX3_anHour_272 : decode cX3_anHour 272 = .ok (.goto (-34), 3) := dk_167 255 222 (dk_at dksX3_anHour_11 14 rfl rfl)
theorem dX3_anHour_275 : decode cX3_anHour 275 = .ok (.iload_n 2, 1) := dk_28 (dk_at dksX3_anHour_11 17 rfl rfl)
theorem dX3_anHour_276 : decode cX3_anHour 276 = .ok (.ireturn, 1) := dk_172 (dk_at dksX3_anHour_11 18 rfl rfl)
abbrev cX3_works : ByteArray := prog_14_method_77_code
def yX3_works : MethodName := ⟨RX3, "works", "(IZ)Z"⟩
def dkwX3_works_6 : List UInt8 := [28, 153, 0, 12, 42, 29, 21, 4, 21, 5, 182, 1, 114, 4, 172]
abbrev dktX3_works_6 : List UInt8 := dkwX3_works_6 ++ []
def dkwX3_works_5 : List UInt8 := [42, 180, 0, 7, 16, 8, 21, 5, 96, 92, 46, 4, 96, 79, 42, 89, 180, 1, 111, 4, 96, 181, 1, 111]
abbrev dktX3_works_5 : List UInt8 := dkwX3_works_5 ++ dktX3_works_6
def dkwX3_works_4 : List UInt8 := [182, 1, 108, 42, 29, 16, 9, 4, 182, 0, 89, 42, 89, 180, 1, 99, 4, 21, 4, 120, 128, 181, 1, 99]
abbrev dktX3_works_4 : List UInt8 := dkwX3_works_4 ++ dktX3_works_5
def dkwX3_works_3 : List UInt8 := [182, 1, 57, 160, 0, 13, 42, 29, 21, 4, 182, 1, 105, 154, 0, 5, 3, 172, 42, 29, 21, 4]
abbrev dktX3_works_3 : List UInt8 := dkwX3_works_3 ++ dktX3_works_4
def dkwX3_works_2 : List UInt8 := [126, 4, 159, 0, 38, 42, 21, 5, 182, 1, 102, 153, 0, 29, 42, 21, 5, 3, 182, 1, 81, 42, 29, 3]
abbrev dktX3_works_2 : List UInt8 := dkwX3_works_2 ++ dktX3_works_3
def dkwX3_works_1 : List UInt8 := [5, 96, 46, 54, 5, 42, 29, 16, 9, 182, 1, 57, 4, 159, 0, 51, 42, 180, 1, 99, 21, 4, 122, 4]
abbrev dktX3_works_1 : List UInt8 := dkwX3_works_1 ++ dktX3_works_2
def dkwX3_works_0 : List UInt8 := [42, 180, 0, 7, 27, 3, 96, 46, 62, 42, 180, 0, 7, 27, 4, 96, 46, 54, 4, 42, 180, 0, 7, 27]
abbrev dktX3_works_0 : List UInt8 := dkwX3_works_0 ++ dktX3_works_1
theorem dksX3_works_0 : cX3_works.data.toList.drop 0 = dktX3_works_0 := by decide +kernel
theorem dksX3_works_1 : cX3_works.data.toList.drop 24 = dktX3_works_1 := dk_seg dksX3_works_0 24 rfl rfl
theorem dksX3_works_2 : cX3_works.data.toList.drop 48 = dktX3_works_2 := dk_seg dksX3_works_1 24 rfl rfl
theorem dksX3_works_3 : cX3_works.data.toList.drop 72 = dktX3_works_3 := dk_seg dksX3_works_2 24 rfl rfl
theorem dksX3_works_4 : cX3_works.data.toList.drop 94 = dktX3_works_4 := dk_seg dksX3_works_3 22 rfl rfl
theorem dksX3_works_5 : cX3_works.data.toList.drop 118 = dktX3_works_5 := dk_seg dksX3_works_4 24 rfl rfl
theorem dksX3_works_6 : cX3_works.data.toList.drop 142 = dktX3_works_6 := dk_seg dksX3_works_5 24 rfl rfl
theorem dX3_works_0 : decode cX3_works 0 = .ok (.aload_n 0, 1) := dk_42 (dk_at dksX3_works_0 0 rfl rfl)
theorem dX3_works_1 : decode cX3_works 1 = .ok (.getfield 7, 3) := dk_180 0 7 (dk_at dksX3_works_0 1 rfl rfl)
theorem dX3_works_4 : decode cX3_works 4 = .ok (.iload_n 1, 1) := dk_27 (dk_at dksX3_works_0 4 rfl rfl)
theorem dX3_works_5 : decode cX3_works 5 = .ok (.iconst 0, 1) := dk_3 (dk_at dksX3_works_0 5 rfl rfl)
theorem dX3_works_6 : decode cX3_works 6 = .ok (.iadd, 1) := dk_96 (dk_at dksX3_works_0 6 rfl rfl)
theorem dX3_works_7 : decode cX3_works 7 = .ok (.iaload, 1) := dk_46 (dk_at dksX3_works_0 7 rfl rfl)
theorem dX3_works_8 : decode cX3_works 8 = .ok (.istore_n 3, 1) := dk_62 (dk_at dksX3_works_0 8 rfl rfl)
theorem dX3_works_9 : decode cX3_works 9 = .ok (.aload_n 0, 1) := dk_42 (dk_at dksX3_works_0 9 rfl rfl)
theorem dX3_works_10 : decode cX3_works 10 = .ok (.getfield 7, 3) := dk_180 0 7 (dk_at dksX3_works_0 10 rfl rfl)
theorem dX3_works_13 : decode cX3_works 13 = .ok (.iload_n 1, 1) := dk_27 (dk_at dksX3_works_0 13 rfl rfl)
theorem dX3_works_14 : decode cX3_works 14 = .ok (.iconst 1, 1) := dk_4 (dk_at dksX3_works_0 14 rfl rfl)
theorem dX3_works_15 : decode cX3_works 15 = .ok (.iadd, 1) := dk_96 (dk_at dksX3_works_0 15 rfl rfl)
theorem dX3_works_16 : decode cX3_works 16 = .ok (.iaload, 1) := dk_46 (dk_at dksX3_works_0 16 rfl rfl)
theorem dX3_works_17 : decode cX3_works 17 = .ok (.istore 4, 2) := dk_54 4 (dk_at dksX3_works_0 17 rfl rfl)
theorem dX3_works_19 : decode cX3_works 19 = .ok (.aload_n 0, 1) := dk_42 (dk_at dksX3_works_0 19 rfl rfl)
theorem dX3_works_20 : decode cX3_works 20 = .ok (.getfield 7, 3) := dk_180 0 7 (dk_at dksX3_works_0 20 rfl rfl)
theorem dX3_works_23 : decode cX3_works 23 = .ok (.iload_n 1, 1) := dk_27 (dk_at dksX3_works_0 23 rfl rfl)
theorem dX3_works_24 : decode cX3_works 24 = .ok (.iconst 2, 1) := dk_5 (dk_at dksX3_works_1 0 rfl rfl)
theorem dX3_works_25 : decode cX3_works 25 = .ok (.iadd, 1) := dk_96 (dk_at dksX3_works_1 1 rfl rfl)
theorem dX3_works_26 : decode cX3_works 26 = .ok (.iaload, 1) := dk_46 (dk_at dksX3_works_1 2 rfl rfl)
theorem dX3_works_27 : decode cX3_works 27 = .ok (.istore 5, 2) := dk_54 5 (dk_at dksX3_works_1 3 rfl rfl)
theorem dX3_works_29 : decode cX3_works 29 = .ok (.aload_n 0, 1) := dk_42 (dk_at dksX3_works_1 5 rfl rfl)
theorem dX3_works_30 : decode cX3_works 30 = .ok (.iload_n 3, 1) := dk_29 (dk_at dksX3_works_1 6 rfl rfl)
theorem dX3_works_31 : decode cX3_works 31 = .ok (.bipush 9, 2) := dk_16 9 (dk_at dksX3_works_1 7 rfl rfl)
theorem dX3_works_33 : decode cX3_works 33 = .ok (.invokevirtual 313, 3) := dk_182 1 57 (dk_at dksX3_works_1 9 rfl rfl)
theorem dX3_works_36 : decode cX3_works 36 = .ok (.iconst 1, 1) := dk_4 (dk_at dksX3_works_1 12 rfl rfl)
theorem dX3_works_37 : decode cX3_works 37 = .ok (.if_icmp .eq 51, 3) := dk_159 0 51 (dk_at dksX3_works_1 13 rfl rfl)
theorem dX3_works_40 : decode cX3_works 40 = .ok (.aload_n 0, 1) := dk_42 (dk_at dksX3_works_1 16 rfl rfl)
theorem dX3_works_41 : decode cX3_works 41 = .ok (.getfield 355, 3) := dk_180 1 99 (dk_at dksX3_works_1 17 rfl rfl)
theorem dX3_works_44 : decode cX3_works 44 = .ok (.iload 4, 2) := dk_21 4 (dk_at dksX3_works_1 20 rfl rfl)
theorem dX3_works_46 : decode cX3_works 46 = .ok (.ishr, 1) := dk_122 (dk_at dksX3_works_1 22 rfl rfl)
theorem dX3_works_47 : decode cX3_works 47 = .ok (.iconst 1, 1) := dk_4 (dk_at dksX3_works_1 23 rfl rfl)
theorem dX3_works_48 : decode cX3_works 48 = .ok (.iand, 1) := dk_126 (dk_at dksX3_works_2 0 rfl rfl)
theorem dX3_works_49 : decode cX3_works 49 = .ok (.iconst 1, 1) := dk_4 (dk_at dksX3_works_2 1 rfl rfl)
theorem dX3_works_50 : decode cX3_works 50 = .ok (.if_icmp .eq 38, 3) := dk_159 0 38 (dk_at dksX3_works_2 2 rfl rfl)
theorem dX3_works_53 : decode cX3_works 53 = .ok (.aload_n 0, 1) := dk_42 (dk_at dksX3_works_2 5 rfl rfl)
theorem dX3_works_54 : decode cX3_works 54 = .ok (.iload 5, 2) := dk_21 5 (dk_at dksX3_works_2 6 rfl rfl)
theorem dX3_works_56 : decode cX3_works 56 = .ok (.invokevirtual 358, 3) := dk_182 1 102 (dk_at dksX3_works_2 8 rfl rfl)
theorem dX3_works_59 : decode cX3_works 59 = .ok (.ifCond .eq 29, 3) := dk_153 0 29 (dk_at dksX3_works_2 11 rfl rfl)
theorem dX3_works_62 : decode cX3_works 62 = .ok (.aload_n 0, 1) := dk_42 (dk_at dksX3_works_2 14 rfl rfl)
theorem dX3_works_63 : decode cX3_works 63 = .ok (.iload 5, 2) := dk_21 5 (dk_at dksX3_works_2 15 rfl rfl)
theorem dX3_works_65 : decode cX3_works 65 = .ok (.iconst 0, 1) := dk_3 (dk_at dksX3_works_2 17 rfl rfl)
theorem dX3_works_66 : decode cX3_works 66 = .ok (.invokevirtual 337, 3) := dk_182 1 81 (dk_at dksX3_works_2 18 rfl rfl)
theorem dX3_works_69 : decode cX3_works 69 = .ok (.aload_n 0, 1) := dk_42 (dk_at dksX3_works_2 21 rfl rfl)
theorem dX3_works_70 : decode cX3_works 70 = .ok (.iload_n 3, 1) := dk_29 (dk_at dksX3_works_2 22 rfl rfl)
theorem dX3_works_71 : decode cX3_works 71 = .ok (.iconst 0, 1) := dk_3 (dk_at dksX3_works_2 23 rfl rfl)
theorem dX3_works_72 : decode cX3_works 72 = .ok (.invokevirtual 313, 3) := dk_182 1 57 (dk_at dksX3_works_3 0 rfl rfl)
theorem dX3_works_75 : decode cX3_works 75 = .ok (.if_icmp .ne 13, 3) := dk_160 0 13 (dk_at dksX3_works_3 3 rfl rfl)
theorem dX3_works_78 : decode cX3_works 78 = .ok (.aload_n 0, 1) := dk_42 (dk_at dksX3_works_3 6 rfl rfl)
theorem dX3_works_79 : decode cX3_works 79 = .ok (.iload_n 3, 1) := dk_29 (dk_at dksX3_works_3 7 rfl rfl)
theorem dX3_works_80 : decode cX3_works 80 = .ok (.iload 4, 2) := dk_21 4 (dk_at dksX3_works_3 8 rfl rfl)
theorem dX3_works_82 : decode cX3_works 82 = .ok (.invokevirtual 361, 3) := dk_182 1 105 (dk_at dksX3_works_3 10 rfl rfl)
theorem dX3_works_85 : decode cX3_works 85 = .ok (.ifCond .ne 5, 3) := dk_154 0 5 (dk_at dksX3_works_3 13 rfl rfl)
theorem dX3_works_88 : decode cX3_works 88 = .ok (.iconst 0, 1) := dk_3 (dk_at dksX3_works_3 16 rfl rfl)
theorem dX3_works_89 : decode cX3_works 89 = .ok (.ireturn, 1) := dk_172 (dk_at dksX3_works_3 17 rfl rfl)
theorem dX3_works_90 : decode cX3_works 90 = .ok (.aload_n 0, 1) := dk_42 (dk_at dksX3_works_3 18 rfl rfl)
theorem dX3_works_91 : decode cX3_works 91 = .ok (.iload_n 3, 1) := dk_29 (dk_at dksX3_works_3 19 rfl rfl)
theorem dX3_works_92 : decode cX3_works 92 = .ok (.iload 4, 2) := dk_21 4 (dk_at dksX3_works_3 20 rfl rfl)
theorem dX3_works_94 : decode cX3_works 94 = .ok (.invokevirtual 364, 3) := dk_182 1 108 (dk_at dksX3_works_4 0 rfl rfl)
theorem dX3_works_97 : decode cX3_works 97 = .ok (.aload_n 0, 1) := dk_42 (dk_at dksX3_works_4 3 rfl rfl)
theorem dX3_works_98 : decode cX3_works 98 = .ok (.iload_n 3, 1) := dk_29 (dk_at dksX3_works_4 4 rfl rfl)
theorem dX3_works_99 : decode cX3_works 99 = .ok (.bipush 9, 2) := dk_16 9 (dk_at dksX3_works_4 5 rfl rfl)
theorem dX3_works_101 : decode cX3_works 101 = .ok (.iconst 1, 1) := dk_4 (dk_at dksX3_works_4 7 rfl rfl)
theorem dX3_works_102 : decode cX3_works 102 = .ok (.invokevirtual 89, 3) := dk_182 0 89 (dk_at dksX3_works_4 8 rfl rfl)
theorem dX3_works_105 : decode cX3_works 105 = .ok (.aload_n 0, 1) := dk_42 (dk_at dksX3_works_4 11 rfl rfl)
theorem dX3_works_106 : decode cX3_works 106 = .ok (.dup, 1) := dk_89 (dk_at dksX3_works_4 12 rfl rfl)
theorem dX3_works_107 : decode cX3_works 107 = .ok (.getfield 355, 3) := dk_180 1 99 (dk_at dksX3_works_4 13 rfl rfl)
theorem dX3_works_110 : decode cX3_works 110 = .ok (.iconst 1, 1) := dk_4 (dk_at dksX3_works_4 16 rfl rfl)
theorem dX3_works_111 : decode cX3_works 111 = .ok (.iload 4, 2) := dk_21 4 (dk_at dksX3_works_4 17 rfl rfl)
theorem dX3_works_113 : decode cX3_works 113 = .ok (.ishl, 1) := dk_120 (dk_at dksX3_works_4 19 rfl rfl)
theorem dX3_works_114 : decode cX3_works 114 = .ok (.ior, 1) := dk_128 (dk_at dksX3_works_4 20 rfl rfl)
theorem dX3_works_115 : decode cX3_works 115 = .ok (.putfield 355, 3) := dk_181 1 99 (dk_at dksX3_works_4 21 rfl rfl)
theorem dX3_works_118 : decode cX3_works 118 = .ok (.aload_n 0, 1) := dk_42 (dk_at dksX3_works_5 0 rfl rfl)
theorem dX3_works_119 : decode cX3_works 119 = .ok (.getfield 7, 3) := dk_180 0 7 (dk_at dksX3_works_5 1 rfl rfl)
theorem dX3_works_122 : decode cX3_works 122 = .ok (.bipush 8, 2) := dk_16 8 (dk_at dksX3_works_5 4 rfl rfl)
theorem dX3_works_124 : decode cX3_works 124 = .ok (.iload 5, 2) := dk_21 5 (dk_at dksX3_works_5 6 rfl rfl)
theorem dX3_works_126 : decode cX3_works 126 = .ok (.iadd, 1) := dk_96 (dk_at dksX3_works_5 8 rfl rfl)
theorem dX3_works_127 : decode cX3_works 127 = .ok (.dup2, 1) := dk_92 (dk_at dksX3_works_5 9 rfl rfl)
theorem dX3_works_128 : decode cX3_works 128 = .ok (.iaload, 1) := dk_46 (dk_at dksX3_works_5 10 rfl rfl)
theorem dX3_works_129 : decode cX3_works 129 = .ok (.iconst 1, 1) := dk_4 (dk_at dksX3_works_5 11 rfl rfl)
theorem dX3_works_130 : decode cX3_works 130 = .ok (.iadd, 1) := dk_96 (dk_at dksX3_works_5 12 rfl rfl)
theorem dX3_works_131 : decode cX3_works 131 = .ok (.iastore, 1) := dk_79 (dk_at dksX3_works_5 13 rfl rfl)
theorem dX3_works_132 : decode cX3_works 132 = .ok (.aload_n 0, 1) := dk_42 (dk_at dksX3_works_5 14 rfl rfl)
theorem dX3_works_133 : decode cX3_works 133 = .ok (.dup, 1) := dk_89 (dk_at dksX3_works_5 15 rfl rfl)
theorem dX3_works_134 : decode cX3_works 134 = .ok (.getfield 367, 3) := dk_180 1 111 (dk_at dksX3_works_5 16 rfl rfl)
theorem dX3_works_137 : decode cX3_works 137 = .ok (.iconst 1, 1) := dk_4 (dk_at dksX3_works_5 19 rfl rfl)
theorem dX3_works_138 : decode cX3_works 138 = .ok (.iadd, 1) := dk_96 (dk_at dksX3_works_5 20 rfl rfl)
theorem dX3_works_139 : decode cX3_works 139 = .ok (.putfield 367, 3) := dk_181 1 111 (dk_at dksX3_works_5 21 rfl rfl)
theorem dX3_works_142 : decode cX3_works 142 = .ok (.iload_n 2, 1) := dk_28 (dk_at dksX3_works_6 0 rfl rfl)
theorem dX3_works_143 : decode cX3_works 143 = .ok (.ifCond .eq 12, 3) := dk_153 0 12 (dk_at dksX3_works_6 1 rfl rfl)
theorem dX3_works_146 : decode cX3_works 146 = .ok (.aload_n 0, 1) := dk_42 (dk_at dksX3_works_6 4 rfl rfl)
theorem dX3_works_147 : decode cX3_works 147 = .ok (.iload_n 3, 1) := dk_29 (dk_at dksX3_works_6 5 rfl rfl)
theorem dX3_works_148 : decode cX3_works 148 = .ok (.iload 4, 2) := dk_21 4 (dk_at dksX3_works_6 6 rfl rfl)
theorem dX3_works_150 : decode cX3_works 150 = .ok (.iload 5, 2) := dk_21 5 (dk_at dksX3_works_6 8 rfl rfl)
theorem dX3_works_152 : decode cX3_works 152 = .ok (.invokevirtual 370, 3) := dk_182 1 114 (dk_at dksX3_works_6 10 rfl rfl)
theorem dX3_works_155 : decode cX3_works 155 = .ok (.iconst 1, 1) := dk_4 (dk_at dksX3_works_6 13 rfl rfl)
theorem dX3_works_156 : decode cX3_works 156 = .ok (.ireturn, 1) := dk_172 (dk_at dksX3_works_6 14 rfl rfl)
abbrev cX3_isOpen : ByteArray := prog_14_method_69_code
def yX3_isOpen : MethodName := ⟨RX3, "isOpen", "(I)Z"⟩
def dkwX3_isOpen_1 : List UInt8 := [4, 167, 0, 4, 3, 172]
abbrev dktX3_isOpen_1 : List UInt8 := dkwX3_isOpen_1 ++ []
def dkwX3_isOpen_0 : List UInt8 := [42, 27, 182, 1, 84, 154, 0, 23, 42, 27, 5, 182, 1, 81, 42, 182, 1, 87, 2, 130, 126, 154, 0, 7]
abbrev dktX3_isOpen_0 : List UInt8 := dkwX3_isOpen_0 ++ dktX3_isOpen_1
theorem dksX3_isOpen_0 : cX3_isOpen.data.toList.drop 0 = dktX3_isOpen_0 := by decide +kernel
theorem dksX3_isOpen_1 : cX3_isOpen.data.toList.drop 24 = dktX3_isOpen_1 := dk_seg dksX3_isOpen_0 24 rfl rfl
theorem dX3_isOpen_0 : decode cX3_isOpen 0 = .ok (.aload_n 0, 1) := dk_42 (dk_at dksX3_isOpen_0 0 rfl rfl)
theorem dX3_isOpen_1 : decode cX3_isOpen 1 = .ok (.iload_n 1, 1) := dk_27 (dk_at dksX3_isOpen_0 1 rfl rfl)
theorem dX3_isOpen_2 : decode cX3_isOpen 2 = .ok (.invokevirtual 340, 3) := dk_182 1 84 (dk_at dksX3_isOpen_0 2 rfl rfl)
theorem dX3_isOpen_5 : decode cX3_isOpen 5 = .ok (.ifCond .ne 23, 3) := dk_154 0 23 (dk_at dksX3_isOpen_0 5 rfl rfl)
theorem dX3_isOpen_8 : decode cX3_isOpen 8 = .ok (.aload_n 0, 1) := dk_42 (dk_at dksX3_isOpen_0 8 rfl rfl)
theorem dX3_isOpen_9 : decode cX3_isOpen 9 = .ok (.iload_n 1, 1) := dk_27 (dk_at dksX3_isOpen_0 9 rfl rfl)
theorem dX3_isOpen_10 : decode cX3_isOpen 10 = .ok (.iconst 2, 1) := dk_5 (dk_at dksX3_isOpen_0 10 rfl rfl)
theorem dX3_isOpen_11 : decode cX3_isOpen 11 = .ok (.invokevirtual 337, 3) := dk_182 1 81 (dk_at dksX3_isOpen_0 11 rfl rfl)
theorem dX3_isOpen_14 : decode cX3_isOpen 14 = .ok (.aload_n 0, 1) := dk_42 (dk_at dksX3_isOpen_0 14 rfl rfl)
theorem dX3_isOpen_15 : decode cX3_isOpen 15 = .ok (.invokevirtual 343, 3) := dk_182 1 87 (dk_at dksX3_isOpen_0 15 rfl rfl)
theorem dX3_isOpen_18 : decode cX3_isOpen 18 = .ok (.iconst (-1), 1) := dk_2 (dk_at dksX3_isOpen_0 18 rfl rfl)
theorem dX3_isOpen_19 : decode cX3_isOpen 19 = .ok (.ixor, 1) := dk_130 (dk_at dksX3_isOpen_0 19 rfl rfl)
theorem dX3_isOpen_20 : decode cX3_isOpen 20 = .ok (.iand, 1) := dk_126 (dk_at dksX3_isOpen_0 20 rfl rfl)
theorem dX3_isOpen_21 : decode cX3_isOpen 21 = .ok (.ifCond .ne 7, 3) := dk_154 0 7 (dk_at dksX3_isOpen_0 21 rfl rfl)
theorem dX3_isOpen_24 : decode cX3_isOpen 24 = .ok (.iconst 1, 1) := dk_4 (dk_at dksX3_isOpen_1 0 rfl rfl)
theorem dX3_isOpen_25 : decode cX3_isOpen 25 = .ok (.goto 4, 3) := dk_167 0 4 (dk_at dksX3_isOpen_1 1 rfl rfl)
theorem dX3_isOpen_28 : decode cX3_isOpen 28 = .ok (.iconst 0, 1) := dk_3 (dk_at dksX3_isOpen_1 4 rfl rfl)
theorem dX3_isOpen_29 : decode cX3_isOpen 29 = .ok (.ireturn, 1) := dk_172 (dk_at dksX3_isOpen_1 5 rfl rfl)
abbrev cX3_isDone : ByteArray := prog_14_method_66_code
def yX3_isDone : MethodName := ⟨RX3, "isDone", "(I)Z"⟩
def dkwX3_isDone_0 : List UInt8 := [42, 180, 0, 7, 16, 8, 27, 96, 46, 42, 27, 4, 182, 1, 81, 160, 0, 7, 4, 167, 0, 4, 3, 172]
abbrev dktX3_isDone_0 : List UInt8 := dkwX3_isDone_0 ++ []
theorem dksX3_isDone_0 : cX3_isDone.data.toList.drop 0 = dktX3_isDone_0 := by decide +kernel
theorem dX3_isDone_0 : decode cX3_isDone 0 = .ok (.aload_n 0, 1) := dk_42 (dk_at dksX3_isDone_0 0 rfl rfl)
theorem dX3_isDone_1 : decode cX3_isDone 1 = .ok (.getfield 7, 3) := dk_180 0 7 (dk_at dksX3_isDone_0 1 rfl rfl)
theorem dX3_isDone_4 : decode cX3_isDone 4 = .ok (.bipush 8, 2) := dk_16 8 (dk_at dksX3_isDone_0 4 rfl rfl)
theorem dX3_isDone_6 : decode cX3_isDone 6 = .ok (.iload_n 1, 1) := dk_27 (dk_at dksX3_isDone_0 6 rfl rfl)
theorem dX3_isDone_7 : decode cX3_isDone 7 = .ok (.iadd, 1) := dk_96 (dk_at dksX3_isDone_0 7 rfl rfl)
theorem dX3_isDone_8 : decode cX3_isDone 8 = .ok (.iaload, 1) := dk_46 (dk_at dksX3_isDone_0 8 rfl rfl)
theorem dX3_isDone_9 : decode cX3_isDone 9 = .ok (.aload_n 0, 1) := dk_42 (dk_at dksX3_isDone_0 9 rfl rfl)
theorem dX3_isDone_10 : decode cX3_isDone 10 = .ok (.iload_n 1, 1) := dk_27 (dk_at dksX3_isDone_0 10 rfl rfl)
theorem dX3_isDone_11 : decode cX3_isDone 11 = .ok (.iconst 1, 1) := dk_4 (dk_at dksX3_isDone_0 11 rfl rfl)
theorem dX3_isDone_12 : decode cX3_isDone 12 = .ok (.invokevirtual 337, 3) := dk_182 1 81 (dk_at dksX3_isDone_0 12 rfl rfl)
theorem dX3_isDone_15 : decode cX3_isDone 15 = .ok (.if_icmp .ne 7, 3) := dk_160 0 7 (dk_at dksX3_isDone_0 15 rfl rfl)
theorem dX3_isDone_18 : decode cX3_isDone 18 = .ok (.iconst 1, 1) := dk_4 (dk_at dksX3_isDone_0 18 rfl rfl)
theorem dX3_isDone_19 : decode cX3_isDone 19 = .ok (.goto 4, 3) := dk_167 0 4 (dk_at dksX3_isDone_0 19 rfl rfl)
theorem dX3_isDone_22 : decode cX3_isDone 22 = .ok (.iconst 0, 1) := dk_3 (dk_at dksX3_isDone_0 22 rfl rfl)
theorem dX3_isDone_23 : decode cX3_isDone 23 = .ok (.ireturn, 1) := dk_172 (dk_at dksX3_isDone_0 23 rfl rfl)
abbrev cX3_ofWork : ByteArray := prog_14_method_12_code
def yX3_ofWork : MethodName := ⟨RX3, "ofWork", "(II)I"⟩
def dkwX3_ofWork_0 : List UInt8 := [42, 180, 0, 7, 17, 0, 142, 6, 27, 104, 96, 28, 96, 46, 172]
abbrev dktX3_ofWork_0 : List UInt8 := dkwX3_ofWork_0 ++ []
theorem dksX3_ofWork_0 : cX3_ofWork.data.toList.drop 0 = dktX3_ofWork_0 := by decide +kernel
theorem dX3_ofWork_0 : decode cX3_ofWork 0 = .ok (.aload_n 0, 1) := dk_42 (dk_at dksX3_ofWork_0 0 rfl rfl)
theorem dX3_ofWork_1 : decode cX3_ofWork 1 = .ok (.getfield 7, 3) := dk_180 0 7 (dk_at dksX3_ofWork_0 1 rfl rfl)
theorem dX3_ofWork_4 : decode cX3_ofWork 4 = .ok (.sipush 142, 3) := dk_17 0 142 (dk_at dksX3_ofWork_0 4 rfl rfl)
theorem dX3_ofWork_7 : decode cX3_ofWork 7 = .ok (.iconst 3, 1) := dk_6 (dk_at dksX3_ofWork_0 7 rfl rfl)
theorem dX3_ofWork_8 : decode cX3_ofWork 8 = .ok (.iload_n 1, 1) := dk_27 (dk_at dksX3_ofWork_0 8 rfl rfl)
theorem dX3_ofWork_9 : decode cX3_ofWork 9 = .ok (.imul, 1) := dk_104 (dk_at dksX3_ofWork_0 9 rfl rfl)
theorem dX3_ofWork_10 : decode cX3_ofWork 10 = .ok (.iadd, 1) := dk_96 (dk_at dksX3_ofWork_0 10 rfl rfl)
theorem dX3_ofWork_11 : decode cX3_ofWork 11 = .ok (.iload_n 2, 1) := dk_28 (dk_at dksX3_ofWork_0 11 rfl rfl)
theorem dX3_ofWork_12 : decode cX3_ofWork 12 = .ok (.iadd, 1) := dk_96 (dk_at dksX3_ofWork_0 12 rfl rfl)
theorem dX3_ofWork_13 : decode cX3_ofWork 13 = .ok (.iaload, 1) := dk_46 (dk_at dksX3_ofWork_0 13 rfl rfl)
theorem dX3_ofWork_14 : decode cX3_ofWork 14 = .ok (.ireturn, 1) := dk_172 (dk_at dksX3_ofWork_0 14 rfl rfl)
abbrev cX3_doneSet : ByteArray := prog_14_method_67_code
def yX3_doneSet : MethodName := ⟨RX3, "doneSet", "()I"⟩
def dkwX3_doneSet_1 : List UInt8 := [4, 28, 120, 167, 0, 4, 3, 128, 60, 132, 2, 1, 167, 255, 224, 27, 172]
abbrev dktX3_doneSet_1 : List UInt8 := dkwX3_doneSet_1 ++ []
def dkwX3_doneSet_0 : List UInt8 := [3, 60, 3, 61, 28, 42, 180, 0, 7, 16, 98, 46, 162, 0, 27, 27, 42, 28, 182, 1, 84, 153, 0, 9]
abbrev dktX3_doneSet_0 : List UInt8 := dkwX3_doneSet_0 ++ dktX3_doneSet_1
theorem dksX3_doneSet_0 : cX3_doneSet.data.toList.drop 0 = dktX3_doneSet_0 := by decide +kernel
theorem dksX3_doneSet_1 : cX3_doneSet.data.toList.drop 24 = dktX3_doneSet_1 := dk_seg dksX3_doneSet_0 24 rfl rfl
theorem dX3_doneSet_0 : decode cX3_doneSet 0 = .ok (.iconst 0, 1) := dk_3 (dk_at dksX3_doneSet_0 0 rfl rfl)
theorem dX3_doneSet_1 : decode cX3_doneSet 1 = .ok (.istore_n 1, 1) := dk_60 (dk_at dksX3_doneSet_0 1 rfl rfl)
theorem dX3_doneSet_2 : decode cX3_doneSet 2 = .ok (.iconst 0, 1) := dk_3 (dk_at dksX3_doneSet_0 2 rfl rfl)
theorem dX3_doneSet_3 : decode cX3_doneSet 3 = .ok (.istore_n 2, 1) := dk_61 (dk_at dksX3_doneSet_0 3 rfl rfl)
theorem dX3_doneSet_4 : decode cX3_doneSet 4 = .ok (.iload_n 2, 1) := dk_28 (dk_at dksX3_doneSet_0 4 rfl rfl)
theorem dX3_doneSet_5 : decode cX3_doneSet 5 = .ok (.aload_n 0, 1) := dk_42 (dk_at dksX3_doneSet_0 5 rfl rfl)
theorem dX3_doneSet_6 : decode cX3_doneSet 6 = .ok (.getfield 7, 3) := dk_180 0 7 (dk_at dksX3_doneSet_0 6 rfl rfl)
theorem dX3_doneSet_9 : decode cX3_doneSet 9 = .ok (.bipush 98, 2) := dk_16 98 (dk_at dksX3_doneSet_0 9 rfl rfl)
theorem dX3_doneSet_11 : decode cX3_doneSet 11 = .ok (.iaload, 1) := dk_46 (dk_at dksX3_doneSet_0 11 rfl rfl)
theorem dX3_doneSet_12 : decode cX3_doneSet 12 = .ok (.if_icmp .ge 27, 3) := dk_162 0 27 (dk_at dksX3_doneSet_0 12 rfl rfl)
theorem dX3_doneSet_15 : decode cX3_doneSet 15 = .ok (.iload_n 1, 1) := dk_27 (dk_at dksX3_doneSet_0 15 rfl rfl)
theorem dX3_doneSet_16 : decode cX3_doneSet 16 = .ok (.aload_n 0, 1) := dk_42 (dk_at dksX3_doneSet_0 16 rfl rfl)
theorem dX3_doneSet_17 : decode cX3_doneSet 17 = .ok (.iload_n 2, 1) := dk_28 (dk_at dksX3_doneSet_0 17 rfl rfl)
theorem dX3_doneSet_18 : decode cX3_doneSet 18 = .ok (.invokevirtual 340, 3) := dk_182 1 84 (dk_at dksX3_doneSet_0 18 rfl rfl)
theorem dX3_doneSet_21 : decode cX3_doneSet 21 = .ok (.ifCond .eq 9, 3) := dk_153 0 9 (dk_at dksX3_doneSet_0 21 rfl rfl)
theorem dX3_doneSet_24 : decode cX3_doneSet 24 = .ok (.iconst 1, 1) := dk_4 (dk_at dksX3_doneSet_1 0 rfl rfl)
theorem dX3_doneSet_25 : decode cX3_doneSet 25 = .ok (.iload_n 2, 1) := dk_28 (dk_at dksX3_doneSet_1 1 rfl rfl)
theorem dX3_doneSet_26 : decode cX3_doneSet 26 = .ok (.ishl, 1) := dk_120 (dk_at dksX3_doneSet_1 2 rfl rfl)
theorem dX3_doneSet_27 : decode cX3_doneSet 27 = .ok (.goto 4, 3) := dk_167 0 4 (dk_at dksX3_doneSet_1 3 rfl rfl)
theorem dX3_doneSet_30 : decode cX3_doneSet 30 = .ok (.iconst 0, 1) := dk_3 (dk_at dksX3_doneSet_1 6 rfl rfl)
theorem dX3_doneSet_31 : decode cX3_doneSet 31 = .ok (.ior, 1) := dk_128 (dk_at dksX3_doneSet_1 7 rfl rfl)
theorem dX3_doneSet_32 : decode cX3_doneSet 32 = .ok (.istore_n 1, 1) := dk_60 (dk_at dksX3_doneSet_1 8 rfl rfl)
theorem dX3_doneSet_33 : decode cX3_doneSet 33 = .ok (.iinc 2 1, 3) := dk_132 2 1 (dk_at dksX3_doneSet_1 9 rfl rfl)
theorem dX3_doneSet_36 : decode cX3_doneSet 36 = .ok (.goto (-32), 3) := dk_167 255 224 (dk_at dksX3_doneSet_1 12 rfl rfl)
theorem dX3_doneSet_39 : decode cX3_doneSet 39 = .ok (.iload_n 1, 1) := dk_27 (dk_at dksX3_doneSet_1 15 rfl rfl)
theorem dX3_doneSet_40 : decode cX3_doneSet 40 = .ok (.ireturn, 1) := dk_172 (dk_at dksX3_doneSet_1 16 rfl rfl)
abbrev cX3_doesServe : ByteArray := prog_14_method_61_code
def yX3_doesServe : MethodName := ⟨RX3, "doesServe", "(II)Z"⟩
def dkwX3_doesServe_1 : List UInt8 := [182, 1, 71, 153, 0, 7, 4, 167, 0, 4, 3, 172]
abbrev dktX3_doesServe_1 : List UInt8 := dkwX3_doesServe_1 ++ []
def dkwX3_doesServe_0 : List UInt8 := [42, 42, 27, 4, 182, 1, 57, 42, 27, 3, 182, 1, 57, 182, 1, 68, 153, 0, 16, 42, 27, 28]
abbrev dktX3_doesServe_0 : List UInt8 := dkwX3_doesServe_0 ++ dktX3_doesServe_1
theorem dksX3_doesServe_0 : cX3_doesServe.data.toList.drop 0 = dktX3_doesServe_0 := by decide +kernel
theorem dksX3_doesServe_1 : cX3_doesServe.data.toList.drop 22 = dktX3_doesServe_1 := dk_seg dksX3_doesServe_0 22 rfl rfl
theorem dX3_doesServe_0 : decode cX3_doesServe 0 = .ok (.aload_n 0, 1) := dk_42 (dk_at dksX3_doesServe_0 0 rfl rfl)
theorem dX3_doesServe_1 : decode cX3_doesServe 1 = .ok (.aload_n 0, 1) := dk_42 (dk_at dksX3_doesServe_0 1 rfl rfl)
theorem dX3_doesServe_2 : decode cX3_doesServe 2 = .ok (.iload_n 1, 1) := dk_27 (dk_at dksX3_doesServe_0 2 rfl rfl)
theorem dX3_doesServe_3 : decode cX3_doesServe 3 = .ok (.iconst 1, 1) := dk_4 (dk_at dksX3_doesServe_0 3 rfl rfl)
theorem dX3_doesServe_4 : decode cX3_doesServe 4 = .ok (.invokevirtual 313, 3) := dk_182 1 57 (dk_at dksX3_doesServe_0 4 rfl rfl)
theorem dX3_doesServe_7 : decode cX3_doesServe 7 = .ok (.aload_n 0, 1) := dk_42 (dk_at dksX3_doesServe_0 7 rfl rfl)
theorem dX3_doesServe_8 : decode cX3_doesServe 8 = .ok (.iload_n 1, 1) := dk_27 (dk_at dksX3_doesServe_0 8 rfl rfl)
theorem dX3_doesServe_9 : decode cX3_doesServe 9 = .ok (.iconst 0, 1) := dk_3 (dk_at dksX3_doesServe_0 9 rfl rfl)
theorem dX3_doesServe_10 : decode cX3_doesServe 10 = .ok (.invokevirtual 313, 3) := dk_182 1 57 (dk_at dksX3_doesServe_0 10 rfl rfl)
theorem dX3_doesServe_13 : decode cX3_doesServe 13 = .ok (.invokevirtual 324, 3) := dk_182 1 68 (dk_at dksX3_doesServe_0 13 rfl rfl)
theorem dX3_doesServe_16 : decode cX3_doesServe 16 = .ok (.ifCond .eq 16, 3) := dk_153 0 16 (dk_at dksX3_doesServe_0 16 rfl rfl)
theorem dX3_doesServe_19 : decode cX3_doesServe 19 = .ok (.aload_n 0, 1) := dk_42 (dk_at dksX3_doesServe_0 19 rfl rfl)
theorem dX3_doesServe_20 : decode cX3_doesServe 20 = .ok (.iload_n 1, 1) := dk_27 (dk_at dksX3_doesServe_0 20 rfl rfl)
theorem dX3_doesServe_21 : decode cX3_doesServe 21 = .ok (.iload_n 2, 1) := dk_28 (dk_at dksX3_doesServe_0 21 rfl rfl)
theorem dX3_doesServe_22 : decode cX3_doesServe 22 = .ok (.invokevirtual 327, 3) := dk_182 1 71 (dk_at dksX3_doesServe_1 0 rfl rfl)
theorem dX3_doesServe_25 : decode cX3_doesServe 25 = .ok (.ifCond .eq 7, 3) := dk_153 0 7 (dk_at dksX3_doesServe_1 3 rfl rfl)
theorem dX3_doesServe_28 : decode cX3_doesServe 28 = .ok (.iconst 1, 1) := dk_4 (dk_at dksX3_doesServe_1 6 rfl rfl)
theorem dX3_doesServe_29 : decode cX3_doesServe 29 = .ok (.goto 4, 3) := dk_167 0 4 (dk_at dksX3_doesServe_1 7 rfl rfl)
theorem dX3_doesServe_32 : decode cX3_doesServe 32 = .ok (.iconst 0, 1) := dk_3 (dk_at dksX3_doesServe_1 10 rfl rfl)
theorem dX3_doesServe_33 : decode cX3_doesServe 33 = .ok (.ireturn, 1) := dk_172 (dk_at dksX3_doesServe_1 11 rfl rfl)
abbrev cX3_wouldServe : ByteArray := prog_14_method_60_code
def yX3_wouldServe : MethodName := ⟨RX3, "wouldServe", "(II)Z"⟩
def dkwX3_wouldServe_2 : List UInt8 := [158, 0, 16, 42, 27, 28, 182, 1, 66, 153, 0, 7, 4, 167, 0, 4, 3, 172]
abbrev dktX3_wouldServe_2 : List UInt8 := dkwX3_wouldServe_2 ++ []
def dkwX3_wouldServe_1 : List UInt8 := [182, 1, 57, 42, 180, 0, 7, 3, 46, 16, 8, 108, 16, 7, 112, 159, 0, 25, 42, 27, 6, 182, 1, 57]
abbrev dktX3_wouldServe_1 : List UInt8 := dkwX3_wouldServe_1 ++ dktX3_wouldServe_2
def dkwX3_wouldServe_0 : List UInt8 := [42, 180, 0, 7, 4, 46, 42, 27, 4, 182, 1, 57, 122, 4, 126, 154, 0, 47, 42, 27, 16, 6]
abbrev dktX3_wouldServe_0 : List UInt8 := dkwX3_wouldServe_0 ++ dktX3_wouldServe_1
theorem dksX3_wouldServe_0 : cX3_wouldServe.data.toList.drop 0 = dktX3_wouldServe_0 := by decide +kernel
theorem dksX3_wouldServe_1 : cX3_wouldServe.data.toList.drop 22 = dktX3_wouldServe_1 := dk_seg dksX3_wouldServe_0 22 rfl rfl
theorem dksX3_wouldServe_2 : cX3_wouldServe.data.toList.drop 46 = dktX3_wouldServe_2 := dk_seg dksX3_wouldServe_1 24 rfl rfl
theorem dX3_wouldServe_0 : decode cX3_wouldServe 0 = .ok (.aload_n 0, 1) := dk_42 (dk_at dksX3_wouldServe_0 0 rfl rfl)
theorem dX3_wouldServe_1 : decode cX3_wouldServe 1 = .ok (.getfield 7, 3) := dk_180 0 7 (dk_at dksX3_wouldServe_0 1 rfl rfl)
theorem dX3_wouldServe_4 : decode cX3_wouldServe 4 = .ok (.iconst 1, 1) := dk_4 (dk_at dksX3_wouldServe_0 4 rfl rfl)
theorem dX3_wouldServe_5 : decode cX3_wouldServe 5 = .ok (.iaload, 1) := dk_46 (dk_at dksX3_wouldServe_0 5 rfl rfl)
theorem dX3_wouldServe_6 : decode cX3_wouldServe 6 = .ok (.aload_n 0, 1) := dk_42 (dk_at dksX3_wouldServe_0 6 rfl rfl)
theorem dX3_wouldServe_7 : decode cX3_wouldServe 7 = .ok (.iload_n 1, 1) := dk_27 (dk_at dksX3_wouldServe_0 7 rfl rfl)
theorem dX3_wouldServe_8 : decode cX3_wouldServe 8 = .ok (.iconst 1, 1) := dk_4 (dk_at dksX3_wouldServe_0 8 rfl rfl)
theorem dX3_wouldServe_9 : decode cX3_wouldServe 9 = .ok (.invokevirtual 313, 3) := dk_182 1 57 (dk_at dksX3_wouldServe_0 9 rfl rfl)
theorem dX3_wouldServe_12 : decode cX3_wouldServe 12 = .ok (.ishr, 1) := dk_122 (dk_at dksX3_wouldServe_0 12 rfl rfl)
theorem dX3_wouldServe_13 : decode cX3_wouldServe 13 = .ok (.iconst 1, 1) := dk_4 (dk_at dksX3_wouldServe_0 13 rfl rfl)
theorem dX3_wouldServe_14 : decode cX3_wouldServe 14 = .ok (.iand, 1) := dk_126 (dk_at dksX3_wouldServe_0 14 rfl rfl)
theorem dX3_wouldServe_15 : decode cX3_wouldServe 15 = .ok (.ifCond .ne 47, 3) := dk_154 0 47 (dk_at dksX3_wouldServe_0 15 rfl rfl)
theorem dX3_wouldServe_18 : decode cX3_wouldServe 18 = .ok (.aload_n 0, 1) := dk_42 (dk_at dksX3_wouldServe_0 18 rfl rfl)
theorem dX3_wouldServe_19 : decode cX3_wouldServe 19 = .ok (.iload_n 1, 1) := dk_27 (dk_at dksX3_wouldServe_0 19 rfl rfl)
theorem dX3_wouldServe_20 : decode cX3_wouldServe 20 = .ok (.bipush 6, 2) := dk_16 6 (dk_at dksX3_wouldServe_0 20 rfl rfl)
theorem dX3_wouldServe_22 : decode cX3_wouldServe 22 = .ok (.invokevirtual 313, 3) := dk_182 1 57 (dk_at dksX3_wouldServe_1 0 rfl rfl)
theorem dX3_wouldServe_25 : decode cX3_wouldServe 25 = .ok (.aload_n 0, 1) := dk_42 (dk_at dksX3_wouldServe_1 3 rfl rfl)
theorem dX3_wouldServe_26 : decode cX3_wouldServe 26 = .ok (.getfield 7, 3) := dk_180 0 7 (dk_at dksX3_wouldServe_1 4 rfl rfl)
theorem dX3_wouldServe_29 : decode cX3_wouldServe 29 = .ok (.iconst 0, 1) := dk_3 (dk_at dksX3_wouldServe_1 7 rfl rfl)
theorem dX3_wouldServe_30 : decode cX3_wouldServe 30 = .ok (.iaload, 1) := dk_46 (dk_at dksX3_wouldServe_1 8 rfl rfl)
theorem dX3_wouldServe_31 : decode cX3_wouldServe 31 = .ok (.bipush 8, 2) := dk_16 8 (dk_at dksX3_wouldServe_1 9 rfl rfl)
theorem dX3_wouldServe_33 : decode cX3_wouldServe 33 = .ok (.idiv, 1) := dk_108 (dk_at dksX3_wouldServe_1 11 rfl rfl)
theorem dX3_wouldServe_34 : decode cX3_wouldServe 34 = .ok (.bipush 7, 2) := dk_16 7 (dk_at dksX3_wouldServe_1 12 rfl rfl)
theorem dX3_wouldServe_36 : decode cX3_wouldServe 36 = .ok (.irem, 1) := dk_112 (dk_at dksX3_wouldServe_1 14 rfl rfl)
theorem dX3_wouldServe_37 : decode cX3_wouldServe 37 = .ok (.if_icmp .eq 25, 3) := dk_159 0 25 (dk_at dksX3_wouldServe_1 15 rfl rfl)
theorem dX3_wouldServe_40 : decode cX3_wouldServe 40 = .ok (.aload_n 0, 1) := dk_42 (dk_at dksX3_wouldServe_1 18 rfl rfl)
theorem dX3_wouldServe_41 : decode cX3_wouldServe 41 = .ok (.iload_n 1, 1) := dk_27 (dk_at dksX3_wouldServe_1 19 rfl rfl)
theorem dX3_wouldServe_42 : decode cX3_wouldServe 42 = .ok (.iconst 3, 1) := dk_6 (dk_at dksX3_wouldServe_1 20 rfl rfl)
theorem dX3_wouldServe_43 : decode cX3_wouldServe 43 = .ok (.invokevirtual 313, 3) := dk_182 1 57 (dk_at dksX3_wouldServe_1 21 rfl rfl)
theorem dX3_wouldServe_46 : decode cX3_wouldServe 46 = .ok (.ifCond .le 16, 3) := dk_158 0 16 (dk_at dksX3_wouldServe_2 0 rfl rfl)
theorem dX3_wouldServe_49 : decode cX3_wouldServe 49 = .ok (.aload_n 0, 1) := dk_42 (dk_at dksX3_wouldServe_2 3 rfl rfl)
theorem dX3_wouldServe_50 : decode cX3_wouldServe 50 = .ok (.iload_n 1, 1) := dk_27 (dk_at dksX3_wouldServe_2 4 rfl rfl)
theorem dX3_wouldServe_51 : decode cX3_wouldServe 51 = .ok (.iload_n 2, 1) := dk_28 (dk_at dksX3_wouldServe_2 5 rfl rfl)
theorem dX3_wouldServe_52 : decode cX3_wouldServe 52 = .ok (.invokevirtual 322, 3) := dk_182 1 66 (dk_at dksX3_wouldServe_2 6 rfl rfl)
theorem dX3_wouldServe_55 : decode cX3_wouldServe 55 = .ok (.ifCond .eq 7, 3) := dk_153 0 7 (dk_at dksX3_wouldServe_2 9 rfl rfl)
theorem dX3_wouldServe_58 : decode cX3_wouldServe 58 = .ok (.iconst 1, 1) := dk_4 (dk_at dksX3_wouldServe_2 12 rfl rfl)
theorem dX3_wouldServe_59 : decode cX3_wouldServe 59 = .ok (.goto 4, 3) := dk_167 0 4 (dk_at dksX3_wouldServe_2 13 rfl rfl)
theorem dX3_wouldServe_62 : decode cX3_wouldServe 62 = .ok (.iconst 0, 1) := dk_3 (dk_at dksX3_wouldServe_2 16 rfl rfl)
theorem dX3_wouldServe_63 : decode cX3_wouldServe 63 = .ok (.ireturn, 1) := dk_172 (dk_at dksX3_wouldServe_2 17 rfl rfl)
abbrev cX3_will : ByteArray := prog_14_method_58_code
def yX3_will : MethodName := ⟨RX3, "will", "(II)Z"⟩
def dkwX3_will_2 : List UInt8 := [167, 0, 4, 3, 172, 132, 3, 1, 167, 255, 212, 4, 172]
abbrev dktX3_will_2 : List UInt8 := dkwX3_will_2 ++ []
def dkwX3_will_1 : List UInt8 := [182, 1, 63, 153, 0, 24, 42, 180, 0, 7, 17, 1, 106, 29, 96, 46, 16, 20, 160, 0, 7, 4]
abbrev dktX3_will_1 : List UInt8 := dkwX3_will_1 ++ dktX3_will_2
def dkwX3_will_0 : List UInt8 := [42, 27, 28, 182, 1, 60, 3, 62, 29, 42, 180, 0, 7, 16, 100, 46, 162, 0, 39, 42, 3, 29]
abbrev dktX3_will_0 : List UInt8 := dkwX3_will_0 ++ dktX3_will_1
theorem dksX3_will_0 : cX3_will.data.toList.drop 0 = dktX3_will_0 := by decide +kernel
theorem dksX3_will_1 : cX3_will.data.toList.drop 22 = dktX3_will_1 := dk_seg dksX3_will_0 22 rfl rfl
theorem dksX3_will_2 : cX3_will.data.toList.drop 44 = dktX3_will_2 := dk_seg dksX3_will_1 22 rfl rfl
theorem dX3_will_0 : decode cX3_will 0 = .ok (.aload_n 0, 1) := dk_42 (dk_at dksX3_will_0 0 rfl rfl)
theorem dX3_will_1 : decode cX3_will 1 = .ok (.iload_n 1, 1) := dk_27 (dk_at dksX3_will_0 1 rfl rfl)
theorem dX3_will_2 : decode cX3_will 2 = .ok (.iload_n 2, 1) := dk_28 (dk_at dksX3_will_0 2 rfl rfl)
theorem dX3_will_3 : decode cX3_will 3 = .ok (.invokevirtual 316, 3) := dk_182 1 60 (dk_at dksX3_will_0 3 rfl rfl)
theorem dX3_will_6 : decode cX3_will 6 = .ok (.iconst 0, 1) := dk_3 (dk_at dksX3_will_0 6 rfl rfl)
theorem dX3_will_7 : decode cX3_will 7 = .ok (.istore_n 3, 1) := dk_62 (dk_at dksX3_will_0 7 rfl rfl)
theorem dX3_will_8 : decode cX3_will 8 = .ok (.iload_n 3, 1) := dk_29 (dk_at dksX3_will_0 8 rfl rfl)
theorem dX3_will_9 : decode cX3_will 9 = .ok (.aload_n 0, 1) := dk_42 (dk_at dksX3_will_0 9 rfl rfl)
theorem dX3_will_10 : decode cX3_will 10 = .ok (.getfield 7, 3) := dk_180 0 7 (dk_at dksX3_will_0 10 rfl rfl)
theorem dX3_will_13 : decode cX3_will 13 = .ok (.bipush 100, 2) := dk_16 100 (dk_at dksX3_will_0 13 rfl rfl)
theorem dX3_will_15 : decode cX3_will 15 = .ok (.iaload, 1) := dk_46 (dk_at dksX3_will_0 15 rfl rfl)
theorem dX3_will_16 : decode cX3_will 16 = .ok (.if_icmp .ge 39, 3) := dk_162 0 39 (dk_at dksX3_will_0 16 rfl rfl)
theorem dX3_will_19 : decode cX3_will 19 = .ok (.aload_n 0, 1) := dk_42 (dk_at dksX3_will_0 19 rfl rfl)
theorem dX3_will_20 : decode cX3_will 20 = .ok (.iconst 0, 1) := dk_3 (dk_at dksX3_will_0 20 rfl rfl)
theorem dX3_will_21 : decode cX3_will 21 = .ok (.iload_n 3, 1) := dk_29 (dk_at dksX3_will_0 21 rfl rfl)
theorem dX3_will_22 : decode cX3_will 22 = .ok (.invokevirtual 319, 3) := dk_182 1 63 (dk_at dksX3_will_1 0 rfl rfl)
theorem dX3_will_25 : decode cX3_will 25 = .ok (.ifCond .eq 24, 3) := dk_153 0 24 (dk_at dksX3_will_1 3 rfl rfl)
theorem dX3_will_28 : decode cX3_will 28 = .ok (.aload_n 0, 1) := dk_42 (dk_at dksX3_will_1 6 rfl rfl)
theorem dX3_will_29 : decode cX3_will 29 = .ok (.getfield 7, 3) := dk_180 0 7 (dk_at dksX3_will_1 7 rfl rfl)
theorem dX3_will_32 : decode cX3_will 32 = .ok (.sipush 362, 3) := dk_17 1 106 (dk_at dksX3_will_1 10 rfl rfl)
theorem dX3_will_35 : decode cX3_will 35 = .ok (.iload_n 3, 1) := dk_29 (dk_at dksX3_will_1 13 rfl rfl)
theorem dX3_will_36 : decode cX3_will 36 = .ok (.iadd, 1) := dk_96 (dk_at dksX3_will_1 14 rfl rfl)
theorem dX3_will_37 : decode cX3_will 37 = .ok (.iaload, 1) := dk_46 (dk_at dksX3_will_1 15 rfl rfl)
theorem dX3_will_38 : decode cX3_will 38 = .ok (.bipush 20, 2) := dk_16 20 (dk_at dksX3_will_1 16 rfl rfl)
theorem dX3_will_40 : decode cX3_will 40 = .ok (.if_icmp .ne 7, 3) := dk_160 0 7 (dk_at dksX3_will_1 18 rfl rfl)
theorem dX3_will_43 : decode cX3_will 43 = .ok (.iconst 1, 1) := dk_4 (dk_at dksX3_will_1 21 rfl rfl)
theorem dX3_will_44 : decode cX3_will 44 = .ok (.goto 4, 3) := dk_167 0 4 (dk_at dksX3_will_2 0 rfl rfl)
theorem dX3_will_47 : decode cX3_will 47 = .ok (.iconst 0, 1) := dk_3 (dk_at dksX3_will_2 3 rfl rfl)
theorem dX3_will_48 : decode cX3_will 48 = .ok (.ireturn, 1) := dk_172 (dk_at dksX3_will_2 4 rfl rfl)
theorem dX3_will_49 : decode cX3_will 49 = .ok (.iinc 3 1, 3) := dk_132 3 1 (dk_at dksX3_will_2 5 rfl rfl)
theorem dX3_will_52 : decode cX3_will 52 = .ok (.goto (-44), 3) := dk_167 255 212 (dk_at dksX3_will_2 8 rfl rfl)
theorem dX3_will_55 : decode cX3_will 55 = .ok (.iconst 1, 1) := dk_4 (dk_at dksX3_will_2 11 rfl rfl)
theorem dX3_will_56 : decode cX3_will 56 = .ok (.ireturn, 1) := dk_172 (dk_at dksX3_will_2 12 rfl rfl)
abbrev cX3_lays : ByteArray := prog_14_method_57_code
def yX3_lays : MethodName := ⟨RX3, "lays", "(II)V"⟩
def dkwX3_lays_6 : List UInt8 := [42, 27, 16, 8, 182, 1, 57, 79, 177]
abbrev dktX3_lays_6 : List UInt8 := dkwX3_lays_6 ++ []
def dkwX3_lays_5 : List UInt8 := [180, 0, 37, 16, 9, 42, 180, 0, 7, 3, 46, 16, 8, 108, 16, 7, 112, 79, 42, 180, 0, 37, 16, 10]
abbrev dktX3_lays_5 : List UInt8 := dkwX3_lays_5 ++ dktX3_lays_6
def dkwX3_lays_4 : List UInt8 := [42, 27, 4, 182, 1, 57, 79, 42, 180, 0, 37, 16, 8, 42, 180, 0, 7, 3, 46, 16, 8, 112, 79, 42]
abbrev dktX3_lays_4 : List UInt8 := dkwX3_lays_4 ++ dktX3_lays_5
def dkwX3_lays_3 : List UInt8 := [182, 1, 57, 42, 28, 4, 182, 1, 54, 160, 0, 7, 4, 167, 0, 4, 3, 79, 42, 180, 0, 37, 16, 7]
abbrev dktX3_lays_3 : List UInt8 := dkwX3_lays_3 ++ dktX3_lays_4
def dkwX3_lays_2 : List UInt8 := [79, 42, 180, 0, 37, 8, 42, 27, 3, 182, 1, 57, 79, 42, 180, 0, 37, 16, 6, 42, 27, 5]
abbrev dktX3_lays_2 : List UInt8 := dkwX3_lays_2 ++ dktX3_lays_3
def dkwX3_lays_1 : List UInt8 := [42, 180, 0, 37, 6, 42, 27, 7, 182, 1, 57, 79, 42, 180, 0, 37, 7, 42, 27, 16, 7, 182, 1, 57]
abbrev dktX3_lays_1 : List UInt8 := dkwX3_lays_1 ++ dktX3_lays_2
def dkwX3_lays_0 : List UInt8 := [42, 180, 0, 37, 4, 42, 28, 3, 182, 1, 54, 79, 42, 180, 0, 37, 5, 42, 27, 6, 182, 1, 57, 79]
abbrev dktX3_lays_0 : List UInt8 := dkwX3_lays_0 ++ dktX3_lays_1
theorem dksX3_lays_0 : cX3_lays.data.toList.drop 0 = dktX3_lays_0 := by decide +kernel
theorem dksX3_lays_1 : cX3_lays.data.toList.drop 24 = dktX3_lays_1 := dk_seg dksX3_lays_0 24 rfl rfl
theorem dksX3_lays_2 : cX3_lays.data.toList.drop 48 = dktX3_lays_2 := dk_seg dksX3_lays_1 24 rfl rfl
theorem dksX3_lays_3 : cX3_lays.data.toList.drop 70 = dktX3_lays_3 := dk_seg dksX3_lays_2 22 rfl rfl
theorem dksX3_lays_4 : cX3_lays.data.toList.drop 94 = dktX3_lays_4 := dk_seg dksX3_lays_3 24 rfl rfl
theorem dksX3_lays_5 : cX3_lays.data.toList.drop 118 = dktX3_lays_5 := dk_seg dksX3_lays_4 24 rfl rfl
theorem dksX3_lays_6 : cX3_lays.data.toList.drop 142 = dktX3_lays_6 := dk_seg dksX3_lays_5 24 rfl rfl
theorem dX3_lays_0 : decode cX3_lays 0 = .ok (.aload_n 0, 1) := dk_42 (dk_at dksX3_lays_0 0 rfl rfl)
theorem dX3_lays_1 : decode cX3_lays 1 = .ok (.getfield 37, 3) := dk_180 0 37 (dk_at dksX3_lays_0 1 rfl rfl)
theorem dX3_lays_4 : decode cX3_lays 4 = .ok (.iconst 1, 1) := dk_4 (dk_at dksX3_lays_0 4 rfl rfl)
theorem dX3_lays_5 : decode cX3_lays 5 = .ok (.aload_n 0, 1) := dk_42 (dk_at dksX3_lays_0 5 rfl rfl)
theorem dX3_lays_6 : decode cX3_lays 6 = .ok (.iload_n 2, 1) := dk_28 (dk_at dksX3_lays_0 6 rfl rfl)
theorem dX3_lays_7 : decode cX3_lays 7 = .ok (.iconst 0, 1) := dk_3 (dk_at dksX3_lays_0 7 rfl rfl)
theorem dX3_lays_8 : decode cX3_lays 8 = .ok (.invokevirtual 310, 3) := dk_182 1 54 (dk_at dksX3_lays_0 8 rfl rfl)
theorem dX3_lays_11 : decode cX3_lays 11 = .ok (.iastore, 1) := dk_79 (dk_at dksX3_lays_0 11 rfl rfl)
theorem dX3_lays_12 : decode cX3_lays 12 = .ok (.aload_n 0, 1) := dk_42 (dk_at dksX3_lays_0 12 rfl rfl)
theorem dX3_lays_13 : decode cX3_lays 13 = .ok (.getfield 37, 3) := dk_180 0 37 (dk_at dksX3_lays_0 13 rfl rfl)
theorem dX3_lays_16 : decode cX3_lays 16 = .ok (.iconst 2, 1) := dk_5 (dk_at dksX3_lays_0 16 rfl rfl)
theorem dX3_lays_17 : decode cX3_lays 17 = .ok (.aload_n 0, 1) := dk_42 (dk_at dksX3_lays_0 17 rfl rfl)
theorem dX3_lays_18 : decode cX3_lays 18 = .ok (.iload_n 1, 1) := dk_27 (dk_at dksX3_lays_0 18 rfl rfl)
theorem dX3_lays_19 : decode cX3_lays 19 = .ok (.iconst 3, 1) := dk_6 (dk_at dksX3_lays_0 19 rfl rfl)
theorem dX3_lays_20 : decode cX3_lays 20 = .ok (.invokevirtual 313, 3) := dk_182 1 57 (dk_at dksX3_lays_0 20 rfl rfl)
theorem dX3_lays_23 : decode cX3_lays 23 = .ok (.iastore, 1) := dk_79 (dk_at dksX3_lays_0 23 rfl rfl)
theorem dX3_lays_24 : decode cX3_lays 24 = .ok (.aload_n 0, 1) := dk_42 (dk_at dksX3_lays_1 0 rfl rfl)
theorem dX3_lays_25 : decode cX3_lays 25 = .ok (.getfield 37, 3) := dk_180 0 37 (dk_at dksX3_lays_1 1 rfl rfl)
theorem dX3_lays_28 : decode cX3_lays 28 = .ok (.iconst 3, 1) := dk_6 (dk_at dksX3_lays_1 4 rfl rfl)
theorem dX3_lays_29 : decode cX3_lays 29 = .ok (.aload_n 0, 1) := dk_42 (dk_at dksX3_lays_1 5 rfl rfl)
theorem dX3_lays_30 : decode cX3_lays 30 = .ok (.iload_n 1, 1) := dk_27 (dk_at dksX3_lays_1 6 rfl rfl)
theorem dX3_lays_31 : decode cX3_lays 31 = .ok (.iconst 4, 1) := dk_7 (dk_at dksX3_lays_1 7 rfl rfl)
theorem dX3_lays_32 : decode cX3_lays 32 = .ok (.invokevirtual 313, 3) := dk_182 1 57 (dk_at dksX3_lays_1 8 rfl rfl)
theorem dX3_lays_35 : decode cX3_lays 35 = .ok (.iastore, 1) := dk_79 (dk_at dksX3_lays_1 11 rfl rfl)
theorem dX3_lays_36 : decode cX3_lays 36 = .ok (.aload_n 0, 1) := dk_42 (dk_at dksX3_lays_1 12 rfl rfl)
theorem dX3_lays_37 : decode cX3_lays 37 = .ok (.getfield 37, 3) := dk_180 0 37 (dk_at dksX3_lays_1 13 rfl rfl)
theorem dX3_lays_40 : decode cX3_lays 40 = .ok (.iconst 4, 1) := dk_7 (dk_at dksX3_lays_1 16 rfl rfl)
theorem dX3_lays_41 : decode cX3_lays 41 = .ok (.aload_n 0, 1) := dk_42 (dk_at dksX3_lays_1 17 rfl rfl)
theorem dX3_lays_42 : decode cX3_lays 42 = .ok (.iload_n 1, 1) := dk_27 (dk_at dksX3_lays_1 18 rfl rfl)
theorem dX3_lays_43 : decode cX3_lays 43 = .ok (.bipush 7, 2) := dk_16 7 (dk_at dksX3_lays_1 19 rfl rfl)
theorem dX3_lays_45 : decode cX3_lays 45 = .ok (.invokevirtual 313, 3) := dk_182 1 57 (dk_at dksX3_lays_1 21 rfl rfl)
theorem dX3_lays_48 : decode cX3_lays 48 = .ok (.iastore, 1) := dk_79 (dk_at dksX3_lays_2 0 rfl rfl)
theorem dX3_lays_49 : decode cX3_lays 49 = .ok (.aload_n 0, 1) := dk_42 (dk_at dksX3_lays_2 1 rfl rfl)
theorem dX3_lays_50 : decode cX3_lays 50 = .ok (.getfield 37, 3) := dk_180 0 37 (dk_at dksX3_lays_2 2 rfl rfl)
theorem dX3_lays_53 : decode cX3_lays 53 = .ok (.iconst 5, 1) := dk_8 (dk_at dksX3_lays_2 5 rfl rfl)
theorem dX3_lays_54 : decode cX3_lays 54 = .ok (.aload_n 0, 1) := dk_42 (dk_at dksX3_lays_2 6 rfl rfl)
theorem dX3_lays_55 : decode cX3_lays 55 = .ok (.iload_n 1, 1) := dk_27 (dk_at dksX3_lays_2 7 rfl rfl)
theorem dX3_lays_56 : decode cX3_lays 56 = .ok (.iconst 0, 1) := dk_3 (dk_at dksX3_lays_2 8 rfl rfl)
theorem dX3_lays_57 : decode cX3_lays 57 = .ok (.invokevirtual 313, 3) := dk_182 1 57 (dk_at dksX3_lays_2 9 rfl rfl)
theorem dX3_lays_60 : decode cX3_lays 60 = .ok (.iastore, 1) := dk_79 (dk_at dksX3_lays_2 12 rfl rfl)
theorem dX3_lays_61 : decode cX3_lays 61 = .ok (.aload_n 0, 1) := dk_42 (dk_at dksX3_lays_2 13 rfl rfl)
theorem dX3_lays_62 : decode cX3_lays 62 = .ok (.getfield 37, 3) := dk_180 0 37 (dk_at dksX3_lays_2 14 rfl rfl)
theorem dX3_lays_65 : decode cX3_lays 65 = .ok (.bipush 6, 2) := dk_16 6 (dk_at dksX3_lays_2 17 rfl rfl)
theorem dX3_lays_67 : decode cX3_lays 67 = .ok (.aload_n 0, 1) := dk_42 (dk_at dksX3_lays_2 19 rfl rfl)
theorem dX3_lays_68 : decode cX3_lays 68 = .ok (.iload_n 1, 1) := dk_27 (dk_at dksX3_lays_2 20 rfl rfl)
theorem dX3_lays_69 : decode cX3_lays 69 = .ok (.iconst 2, 1) := dk_5 (dk_at dksX3_lays_2 21 rfl rfl)
theorem dX3_lays_70 : decode cX3_lays 70 = .ok (.invokevirtual 313, 3) := dk_182 1 57 (dk_at dksX3_lays_3 0 rfl rfl)
theorem dX3_lays_73 : decode cX3_lays 73 = .ok (.aload_n 0, 1) := dk_42 (dk_at dksX3_lays_3 3 rfl rfl)
theorem dX3_lays_74 : decode cX3_lays 74 = .ok (.iload_n 2, 1) := dk_28 (dk_at dksX3_lays_3 4 rfl rfl)
theorem dX3_lays_75 : decode cX3_lays 75 = .ok (.iconst 1, 1) := dk_4 (dk_at dksX3_lays_3 5 rfl rfl)
theorem dX3_lays_76 : decode cX3_lays 76 = .ok (.invokevirtual 310, 3) := dk_182 1 54 (dk_at dksX3_lays_3 6 rfl rfl)
theorem dX3_lays_79 : decode cX3_lays 79 = .ok (.if_icmp .ne 7, 3) := dk_160 0 7 (dk_at dksX3_lays_3 9 rfl rfl)
theorem dX3_lays_82 : decode cX3_lays 82 = .ok (.iconst 1, 1) := dk_4 (dk_at dksX3_lays_3 12 rfl rfl)
theorem dX3_lays_83 : decode cX3_lays 83 = .ok (.goto 4, 3) := dk_167 0 4 (dk_at dksX3_lays_3 13 rfl rfl)
theorem dX3_lays_86 : decode cX3_lays 86 = .ok (.iconst 0, 1) := dk_3 (dk_at dksX3_lays_3 16 rfl rfl)
theorem dX3_lays_87 : decode cX3_lays 87 = .ok (.iastore, 1) := dk_79 (dk_at dksX3_lays_3 17 rfl rfl)
theorem dX3_lays_88 : decode cX3_lays 88 = .ok (.aload_n 0, 1) := dk_42 (dk_at dksX3_lays_3 18 rfl rfl)
theorem dX3_lays_89 : decode cX3_lays 89 = .ok (.getfield 37, 3) := dk_180 0 37 (dk_at dksX3_lays_3 19 rfl rfl)
theorem dX3_lays_92 : decode cX3_lays 92 = .ok (.bipush 7, 2) := dk_16 7 (dk_at dksX3_lays_3 22 rfl rfl)
theorem dX3_lays_94 : decode cX3_lays 94 = .ok (.aload_n 0, 1) := dk_42 (dk_at dksX3_lays_4 0 rfl rfl)
theorem dX3_lays_95 : decode cX3_lays 95 = .ok (.iload_n 1, 1) := dk_27 (dk_at dksX3_lays_4 1 rfl rfl)
theorem dX3_lays_96 : decode cX3_lays 96 = .ok (.iconst 1, 1) := dk_4 (dk_at dksX3_lays_4 2 rfl rfl)
theorem dX3_lays_97 : decode cX3_lays 97 = .ok (.invokevirtual 313, 3) := dk_182 1 57 (dk_at dksX3_lays_4 3 rfl rfl)
theorem dX3_lays_100 : decode cX3_lays 100 = .ok (.iastore, 1) := dk_79 (dk_at dksX3_lays_4 6 rfl rfl)
theorem dX3_lays_101 : decode cX3_lays 101 = .ok (.aload_n 0, 1) := dk_42 (dk_at dksX3_lays_4 7 rfl rfl)
theorem dX3_lays_102 : decode cX3_lays 102 = .ok (.getfield 37, 3) := dk_180 0 37 (dk_at dksX3_lays_4 8 rfl rfl)
theorem dX3_lays_105 : decode cX3_lays 105 = .ok (.bipush 8, 2) := dk_16 8 (dk_at dksX3_lays_4 11 rfl rfl)
theorem dX3_lays_107 : decode cX3_lays 107 = .ok (.aload_n 0, 1) := dk_42 (dk_at dksX3_lays_4 13 rfl rfl)
theorem dX3_lays_108 : decode cX3_lays 108 = .ok (.getfield 7, 3) := dk_180 0 7 (dk_at dksX3_lays_4 14 rfl rfl)
theorem dX3_lays_111 : decode cX3_lays 111 = .ok (.iconst 0, 1) := dk_3 (dk_at dksX3_lays_4 17 rfl rfl)
theorem dX3_lays_112 : decode cX3_lays 112 = .ok (.iaload, 1) := dk_46 (dk_at dksX3_lays_4 18 rfl rfl)
theorem dX3_lays_113 : decode cX3_lays 113 = .ok (.bipush 8, 2) := dk_16 8 (dk_at dksX3_lays_4 19 rfl rfl)
theorem dX3_lays_115 : decode cX3_lays 115 = .ok (.irem, 1) := dk_112 (dk_at dksX3_lays_4 21 rfl rfl)
theorem dX3_lays_116 : decode cX3_lays 116 = .ok (.iastore, 1) := dk_79 (dk_at dksX3_lays_4 22 rfl rfl)
theorem dX3_lays_117 : decode cX3_lays 117 = .ok (.aload_n 0, 1) := dk_42 (dk_at dksX3_lays_4 23 rfl rfl)
theorem dX3_lays_118 : decode cX3_lays 118 = .ok (.getfield 37, 3) := dk_180 0 37 (dk_at dksX3_lays_5 0 rfl rfl)
theorem dX3_lays_121 : decode cX3_lays 121 = .ok (.bipush 9, 2) := dk_16 9 (dk_at dksX3_lays_5 3 rfl rfl)
theorem dX3_lays_123 : decode cX3_lays 123 = .ok (.aload_n 0, 1) := dk_42 (dk_at dksX3_lays_5 5 rfl rfl)
theorem dX3_lays_124 : decode cX3_lays 124 = .ok (.getfield 7, 3) := dk_180 0 7 (dk_at dksX3_lays_5 6 rfl rfl)
theorem dX3_lays_127 : decode cX3_lays 127 = .ok (.iconst 0, 1) := dk_3 (dk_at dksX3_lays_5 9 rfl rfl)
theorem dX3_lays_128 : decode cX3_lays 128 = .ok (.iaload, 1) := dk_46 (dk_at dksX3_lays_5 10 rfl rfl)
theorem dX3_lays_129 : decode cX3_lays 129 = .ok (.bipush 8, 2) := dk_16 8 (dk_at dksX3_lays_5 11 rfl rfl)
theorem dX3_lays_131 : decode cX3_lays 131 = .ok (.idiv, 1) := dk_108 (dk_at dksX3_lays_5 13 rfl rfl)
theorem dX3_lays_132 : decode cX3_lays 132 = .ok (.bipush 7, 2) := dk_16 7 (dk_at dksX3_lays_5 14 rfl rfl)
theorem dX3_lays_134 : decode cX3_lays 134 = .ok (.irem, 1) := dk_112 (dk_at dksX3_lays_5 16 rfl rfl)
theorem dX3_lays_135 : decode cX3_lays 135 = .ok (.iastore, 1) := dk_79 (dk_at dksX3_lays_5 17 rfl rfl)
theorem dX3_lays_136 : decode cX3_lays 136 = .ok (.aload_n 0, 1) := dk_42 (dk_at dksX3_lays_5 18 rfl rfl)
theorem dX3_lays_137 : decode cX3_lays 137 = .ok (.getfield 37, 3) := dk_180 0 37 (dk_at dksX3_lays_5 19 rfl rfl)
theorem dX3_lays_140 : decode cX3_lays 140 = .ok (.bipush 10, 2) := dk_16 10 (dk_at dksX3_lays_5 22 rfl rfl)
theorem dX3_lays_142 : decode cX3_lays 142 = .ok (.aload_n 0, 1) := dk_42 (dk_at dksX3_lays_6 0 rfl rfl)
theorem dX3_lays_143 : decode cX3_lays 143 = .ok (.iload_n 1, 1) := dk_27 (dk_at dksX3_lays_6 1 rfl rfl)
theorem dX3_lays_144 : decode cX3_lays 144 = .ok (.bipush 8, 2) := dk_16 8 (dk_at dksX3_lays_6 2 rfl rfl)
theorem dX3_lays_146 : decode cX3_lays 146 = .ok (.invokevirtual 313, 3) := dk_182 1 57 (dk_at dksX3_lays_6 4 rfl rfl)
theorem dX3_lays_149 : decode cX3_lays 149 = .ok (.iastore, 1) := dk_79 (dk_at dksX3_lays_6 7 rfl rfl)
theorem dX3_lays_150 : decode cX3_lays 150 = .ok (.return_, 1) := dk_177 (dk_at dksX3_lays_6 8 rfl rfl)
abbrev cX3_ofMan : ByteArray := prog_14_method_11_code
def yX3_ofMan : MethodName := ⟨RX3, "ofMan", "(II)I"⟩
def dkwX3_ofMan_0 : List UInt8 := [42, 180, 0, 7, 17, 0, 130, 5, 27, 104, 96, 28, 96, 46, 172]
abbrev dktX3_ofMan_0 : List UInt8 := dkwX3_ofMan_0 ++ []
theorem dksX3_ofMan_0 : cX3_ofMan.data.toList.drop 0 = dktX3_ofMan_0 := by decide +kernel
theorem dX3_ofMan_0 : decode cX3_ofMan 0 = .ok (.aload_n 0, 1) := dk_42 (dk_at dksX3_ofMan_0 0 rfl rfl)
theorem dX3_ofMan_1 : decode cX3_ofMan 1 = .ok (.getfield 7, 3) := dk_180 0 7 (dk_at dksX3_ofMan_0 1 rfl rfl)
theorem dX3_ofMan_4 : decode cX3_ofMan 4 = .ok (.sipush 130, 3) := dk_17 0 130 (dk_at dksX3_ofMan_0 4 rfl rfl)
theorem dX3_ofMan_7 : decode cX3_ofMan 7 = .ok (.iconst 2, 1) := dk_5 (dk_at dksX3_ofMan_0 7 rfl rfl)
theorem dX3_ofMan_8 : decode cX3_ofMan 8 = .ok (.iload_n 1, 1) := dk_27 (dk_at dksX3_ofMan_0 8 rfl rfl)
theorem dX3_ofMan_9 : decode cX3_ofMan 9 = .ok (.imul, 1) := dk_104 (dk_at dksX3_ofMan_0 9 rfl rfl)
theorem dX3_ofMan_10 : decode cX3_ofMan 10 = .ok (.iadd, 1) := dk_96 (dk_at dksX3_ofMan_0 10 rfl rfl)
theorem dX3_ofMan_11 : decode cX3_ofMan 11 = .ok (.iload_n 2, 1) := dk_28 (dk_at dksX3_ofMan_0 11 rfl rfl)
theorem dX3_ofMan_12 : decode cX3_ofMan 12 = .ok (.iadd, 1) := dk_96 (dk_at dksX3_ofMan_0 12 rfl rfl)
theorem dX3_ofMan_13 : decode cX3_ofMan 13 = .ok (.iaload, 1) := dk_46 (dk_at dksX3_ofMan_0 13 rfl rfl)
theorem dX3_ofMan_14 : decode cX3_ofMan 14 = .ok (.ireturn, 1) := dk_172 (dk_at dksX3_ofMan_0 14 rfl rfl)
abbrev cX3_holds : ByteArray := prog_14_method_56_code
def yX3_holds : MethodName := ⟨RX3, "holds", "(II)Z"⟩
def dkwX3_holds_3 : List UInt8 := [4, 167, 0, 4, 3, 172]
abbrev dktX3_holds_3 : List UInt8 := dkwX3_holds_3 ++ []
def dkwX3_holds_2 : List UInt8 := [96, 46, 42, 180, 0, 7, 17, 1, 74, 16, 16, 27, 104, 96, 28, 96, 46, 182, 1, 51, 4, 160, 0, 7]
abbrev dktX3_holds_2 : List UInt8 := dkwX3_holds_2 ++ dktX3_holds_3
def dkwX3_holds_1 : List UInt8 := [27, 104, 96, 28, 96, 46, 159, 0, 42, 42, 27, 42, 180, 0, 7, 17, 1, 42, 16, 16, 27, 104, 96, 28]
abbrev dktX3_holds_1 : List UInt8 := dkwX3_holds_1 ++ dktX3_holds_2
def dkwX3_holds_0 : List UInt8 := [42, 180, 0, 7, 17, 1, 74, 16, 16, 27, 104, 96, 28, 96, 46, 42, 180, 0, 7, 17, 1, 42, 16, 16]
abbrev dktX3_holds_0 : List UInt8 := dkwX3_holds_0 ++ dktX3_holds_1
theorem dksX3_holds_0 : cX3_holds.data.toList.drop 0 = dktX3_holds_0 := by decide +kernel
theorem dksX3_holds_1 : cX3_holds.data.toList.drop 24 = dktX3_holds_1 := dk_seg dksX3_holds_0 24 rfl rfl
theorem dksX3_holds_2 : cX3_holds.data.toList.drop 48 = dktX3_holds_2 := dk_seg dksX3_holds_1 24 rfl rfl
theorem dksX3_holds_3 : cX3_holds.data.toList.drop 72 = dktX3_holds_3 := dk_seg dksX3_holds_2 24 rfl rfl
theorem dX3_holds_0 : decode cX3_holds 0 = .ok (.aload_n 0, 1) := dk_42 (dk_at dksX3_holds_0 0 rfl rfl)
theorem dX3_holds_1 : decode cX3_holds 1 = .ok (.getfield 7, 3) := dk_180 0 7 (dk_at dksX3_holds_0 1 rfl rfl)
theorem dX3_holds_4 : decode cX3_holds 4 = .ok (.sipush 330, 3) := dk_17 1 74 (dk_at dksX3_holds_0 4 rfl rfl)
theorem dX3_holds_7 : decode cX3_holds 7 = .ok (.bipush 16, 2) := dk_16 16 (dk_at dksX3_holds_0 7 rfl rfl)
theorem dX3_holds_9 : decode cX3_holds 9 = .ok (.iload_n 1, 1) := dk_27 (dk_at dksX3_holds_0 9 rfl rfl)
theorem dX3_holds_10 : decode cX3_holds 10 = .ok (.imul, 1) := dk_104 (dk_at dksX3_holds_0 10 rfl rfl)
theorem dX3_holds_11 : decode cX3_holds 11 = .ok (.iadd, 1) := dk_96 (dk_at dksX3_holds_0 11 rfl rfl)
theorem dX3_holds_12 : decode cX3_holds 12 = .ok (.iload_n 2, 1) := dk_28 (dk_at dksX3_holds_0 12 rfl rfl)
theorem dX3_holds_13 : decode cX3_holds 13 = .ok (.iadd, 1) := dk_96 (dk_at dksX3_holds_0 13 rfl rfl)
theorem dX3_holds_14 : decode cX3_holds 14 = .ok (.iaload, 1) := dk_46 (dk_at dksX3_holds_0 14 rfl rfl)
theorem dX3_holds_15 : decode cX3_holds 15 = .ok (.aload_n 0, 1) := dk_42 (dk_at dksX3_holds_0 15 rfl rfl)
theorem dX3_holds_16 : decode cX3_holds 16 = .ok (.getfield 7, 3) := dk_180 0 7 (dk_at dksX3_holds_0 16 rfl rfl)
theorem dX3_holds_19 : decode cX3_holds 19 = .ok (.sipush 298, 3) := dk_17 1 42 (dk_at dksX3_holds_0 19 rfl rfl)
theorem dX3_holds_22 : decode cX3_holds 22 = .ok (.bipush 16, 2) := dk_16 16 (dk_at dksX3_holds_0 22 rfl rfl)
theorem dX3_holds_24 : decode cX3_holds 24 = .ok (.iload_n 1, 1) := dk_27 (dk_at dksX3_holds_1 0 rfl rfl)
theorem dX3_holds_25 : decode cX3_holds 25 = .ok (.imul, 1) := dk_104 (dk_at dksX3_holds_1 1 rfl rfl)
theorem dX3_holds_26 : decode cX3_holds 26 = .ok (.iadd, 1) := dk_96 (dk_at dksX3_holds_1 2 rfl rfl)
theorem dX3_holds_27 : decode cX3_holds 27 = .ok (.iload_n 2, 1) := dk_28 (dk_at dksX3_holds_1 3 rfl rfl)
theorem dX3_holds_28 : decode cX3_holds 28 = .ok (.iadd, 1) := dk_96 (dk_at dksX3_holds_1 4 rfl rfl)
theorem dX3_holds_29 : decode cX3_holds 29 = .ok (.iaload, 1) := dk_46 (dk_at dksX3_holds_1 5 rfl rfl)
theorem dX3_holds_30 : decode cX3_holds 30 = .ok (.if_icmp .eq 42, 3) := dk_159 0 42 (dk_at dksX3_holds_1 6 rfl rfl)
theorem dX3_holds_33 : decode cX3_holds 33 = .ok (.aload_n 0, 1) := dk_42 (dk_at dksX3_holds_1 9 rfl rfl)
theorem dX3_holds_34 : decode cX3_holds 34 = .ok (.iload_n 1, 1) := dk_27 (dk_at dksX3_holds_1 10 rfl rfl)
theorem dX3_holds_35 : decode cX3_holds 35 = .ok (.aload_n 0, 1) := dk_42 (dk_at dksX3_holds_1 11 rfl rfl)
theorem dX3_holds_36 : decode cX3_holds 36 = .ok (.getfield 7, 3) := dk_180 0 7 (dk_at dksX3_holds_1 12 rfl rfl)
theorem dX3_holds_39 : decode cX3_holds 39 = .ok (.sipush 298, 3) := dk_17 1 42 (dk_at dksX3_holds_1 15 rfl rfl)
theorem dX3_holds_42 : decode cX3_holds 42 = .ok (.bipush 16, 2) := dk_16 16 (dk_at dksX3_holds_1 18 rfl rfl)
theorem dX3_holds_44 : decode cX3_holds 44 = .ok (.iload_n 1, 1) := dk_27 (dk_at dksX3_holds_1 20 rfl rfl)
theorem dX3_holds_45 : decode cX3_holds 45 = .ok (.imul, 1) := dk_104 (dk_at dksX3_holds_1 21 rfl rfl)
theorem dX3_holds_46 : decode cX3_holds 46 = .ok (.iadd, 1) := dk_96 (dk_at dksX3_holds_1 22 rfl rfl)
theorem dX3_holds_47 : decode cX3_holds 47 = .ok (.iload_n 2, 1) := dk_28 (dk_at dksX3_holds_1 23 rfl rfl)
theorem dX3_holds_48 : decode cX3_holds 48 = .ok (.iadd, 1) := dk_96 (dk_at dksX3_holds_2 0 rfl rfl)
theorem dX3_holds_49 : decode cX3_holds 49 = .ok (.iaload, 1) := dk_46 (dk_at dksX3_holds_2 1 rfl rfl)
theorem dX3_holds_50 : decode cX3_holds 50 = .ok (.aload_n 0, 1) := dk_42 (dk_at dksX3_holds_2 2 rfl rfl)
theorem dX3_holds_51 : decode cX3_holds 51 = .ok (.getfield 7, 3) := dk_180 0 7 (dk_at dksX3_holds_2 3 rfl rfl)
theorem dX3_holds_54 : decode cX3_holds 54 = .ok (.sipush 330, 3) := dk_17 1 74 (dk_at dksX3_holds_2 6 rfl rfl)
theorem dX3_holds_57 : decode cX3_holds 57 = .ok (.bipush 16, 2) := dk_16 16 (dk_at dksX3_holds_2 9 rfl rfl)
theorem dX3_holds_59 : decode cX3_holds 59 = .ok (.iload_n 1, 1) := dk_27 (dk_at dksX3_holds_2 11 rfl rfl)
theorem dX3_holds_60 : decode cX3_holds 60 = .ok (.imul, 1) := dk_104 (dk_at dksX3_holds_2 12 rfl rfl)
theorem dX3_holds_61 : decode cX3_holds 61 = .ok (.iadd, 1) := dk_96 (dk_at dksX3_holds_2 13 rfl rfl)
theorem dX3_holds_62 : decode cX3_holds 62 = .ok (.iload_n 2, 1) := dk_28 (dk_at dksX3_holds_2 14 rfl rfl)
theorem dX3_holds_63 : decode cX3_holds 63 = .ok (.iadd, 1) := dk_96 (dk_at dksX3_holds_2 15 rfl rfl)
theorem dX3_holds_64 : decode cX3_holds 64 = .ok (.iaload, 1) := dk_46 (dk_at dksX3_holds_2 16 rfl rfl)
theorem dX3_holds_65 : decode cX3_holds 65 = .ok (.invokevirtual 307, 3) := dk_182 1 51 (dk_at dksX3_holds_2 17 rfl rfl)
theorem dX3_holds_68 : decode cX3_holds 68 = .ok (.iconst 1, 1) := dk_4 (dk_at dksX3_holds_2 20 rfl rfl)
theorem dX3_holds_69 : decode cX3_holds 69 = .ok (.if_icmp .ne 7, 3) := dk_160 0 7 (dk_at dksX3_holds_2 21 rfl rfl)
theorem dX3_holds_72 : decode cX3_holds 72 = .ok (.iconst 1, 1) := dk_4 (dk_at dksX3_holds_3 0 rfl rfl)
theorem dX3_holds_73 : decode cX3_holds 73 = .ok (.goto 4, 3) := dk_167 0 4 (dk_at dksX3_holds_3 1 rfl rfl)
theorem dX3_holds_76 : decode cX3_holds 76 = .ok (.iconst 0, 1) := dk_3 (dk_at dksX3_holds_3 4 rfl rfl)
theorem dX3_holds_77 : decode cX3_holds 77 = .ok (.ireturn, 1) := dk_172 (dk_at dksX3_holds_3 5 rfl rfl)
abbrev cX3_comesTo : ByteArray := prog_14_method_55_code
def yX3_comesTo : MethodName := ⟨RX3, "comesTo", "(III)I"⟩
def dkwX3_comesTo_8 : List UInt8 := [46, 172]
abbrev dktX3_comesTo_8 : List UInt8 := dkwX3_comesTo_8 ++ []
def dkwX3_comesTo_7 : List UInt8 := [100, 46, 42, 180, 0, 34, 21, 4, 46, 184, 1, 47, 79, 132, 5, 1, 167, 255, 79, 42, 180, 0, 34, 3]
abbrev dktX3_comesTo_7 : List UInt8 := dkwX3_comesTo_7 ++ dktX3_comesTo_8
def dkwX3_comesTo_6 : List UInt8 := [79, 167, 0, 36, 132, 4, 255, 42, 180, 0, 34, 21, 4, 4, 100, 21, 6, 42, 180, 0, 34, 21, 4, 4]
abbrev dktX3_comesTo_6 : List UInt8 := dkwX3_comesTo_6 ++ dktX3_comesTo_7
def dkwX3_comesTo_5 : List UInt8 := [16, 30, 160, 0, 26, 42, 180, 0, 34, 21, 4, 4, 100, 4, 42, 180, 0, 34, 21, 4, 4, 100, 46, 100]
abbrev dktX3_comesTo_5 : List UInt8 := dkwX3_comesTo_5 ++ dktX3_comesTo_6
def dkwX3_comesTo_4 : List UInt8 := [16, 26, 160, 0, 20, 42, 180, 0, 34, 21, 4, 4, 100, 92, 46, 21, 7, 108, 79, 167, 0, 66, 21, 6]
abbrev dktX3_comesTo_4 : List UInt8 := dkwX3_comesTo_4 ++ dktX3_comesTo_5
def dkwX3_comesTo_3 : List UInt8 := [154, 0, 8, 21, 7, 167, 0, 10, 42, 180, 0, 37, 21, 6, 46, 79, 132, 4, 1, 167, 0, 90, 21, 6]
abbrev dktX3_comesTo_3 : List UInt8 := dkwX3_comesTo_3 ++ dktX3_comesTo_4
def dkwX3_comesTo_2 : List UInt8 := [21, 5, 104, 96, 4, 96, 46, 54, 7, 21, 6, 16, 23, 162, 0, 33, 42, 180, 0, 34, 21, 4, 21, 6]
abbrev dktX3_comesTo_2 : List UInt8 := dkwX3_comesTo_2 ++ dktX3_comesTo_3
def dkwX3_comesTo_1 : List UInt8 := [96, 5, 21, 5, 104, 96, 46, 54, 6, 42, 180, 0, 7, 17, 1, 138, 17, 3, 52, 27, 104, 96, 5]
abbrev dktX3_comesTo_1 : List UInt8 := dkwX3_comesTo_1 ++ dktX3_comesTo_2
def dkwX3_comesTo_0 : List UInt8 := [3, 54, 4, 28, 54, 5, 21, 5, 29, 162, 0, 177, 42, 180, 0, 7, 17, 1, 138, 17, 3, 52, 27, 104]
abbrev dktX3_comesTo_0 : List UInt8 := dkwX3_comesTo_0 ++ dktX3_comesTo_1
theorem dksX3_comesTo_0 : cX3_comesTo.data.toList.drop 0 = dktX3_comesTo_0 := by decide +kernel
theorem dksX3_comesTo_1 : cX3_comesTo.data.toList.drop 24 = dktX3_comesTo_1 := dk_seg dksX3_comesTo_0 24 rfl rfl
theorem dksX3_comesTo_2 : cX3_comesTo.data.toList.drop 47 = dktX3_comesTo_2 := dk_seg dksX3_comesTo_1 23 rfl rfl
theorem dksX3_comesTo_3 : cX3_comesTo.data.toList.drop 71 = dktX3_comesTo_3 := dk_seg dksX3_comesTo_2 24 rfl rfl
theorem dksX3_comesTo_4 : cX3_comesTo.data.toList.drop 95 = dktX3_comesTo_4 := dk_seg dksX3_comesTo_3 24 rfl rfl
theorem dksX3_comesTo_5 : cX3_comesTo.data.toList.drop 119 = dktX3_comesTo_5 := dk_seg dksX3_comesTo_4 24 rfl rfl
theorem dksX3_comesTo_6 : cX3_comesTo.data.toList.drop 143 = dktX3_comesTo_6 := dk_seg dksX3_comesTo_5 24 rfl rfl
theorem dksX3_comesTo_7 : cX3_comesTo.data.toList.drop 167 = dktX3_comesTo_7 := dk_seg dksX3_comesTo_6 24 rfl rfl
theorem dksX3_comesTo_8 : cX3_comesTo.data.toList.drop 191 = dktX3_comesTo_8 := dk_seg dksX3_comesTo_7 24 rfl rfl
theorem dX3_comesTo_0 : decode cX3_comesTo 0 = .ok (.iconst 0, 1) := dk_3 (dk_at dksX3_comesTo_0 0 rfl rfl)
theorem dX3_comesTo_1 : decode cX3_comesTo 1 = .ok (.istore 4, 2) := dk_54 4 (dk_at dksX3_comesTo_0 1 rfl rfl)
theorem dX3_comesTo_3 : decode cX3_comesTo 3 = .ok (.iload_n 2, 1) := dk_28 (dk_at dksX3_comesTo_0 3 rfl rfl)
theorem dX3_comesTo_4 : decode cX3_comesTo 4 = .ok (.istore 5, 2) := dk_54 5 (dk_at dksX3_comesTo_0 4 rfl rfl)
theorem dX3_comesTo_6 : decode cX3_comesTo 6 = .ok (.iload 5, 2) := dk_21 5 (dk_at dksX3_comesTo_0 6 rfl rfl)
theorem dX3_comesTo_8 : decode cX3_comesTo 8 = .ok (.iload_n 3, 1) := dk_29 (dk_at dksX3_comesTo_0 8 rfl rfl)
theorem dX3_comesTo_9 : decode cX3_comesTo 9 = .ok (.if_icmp .ge 177, 3) := dk_162 0 177 (dk_at dksX3_comesTo_0 9 rfl rfl)
theorem dX3_comesTo_12 : decode cX3_comesTo 12 = .ok (.aload_n 0, 1) := dk_42 (dk_at dksX3_comesTo_0 12 rfl rfl)
theorem dX3_comesTo_13 : decode cX3_comesTo 13 = .ok (.getfield 7, 3) := dk_180 0 7 (dk_at dksX3_comesTo_0 13 rfl rfl)
theorem dX3_comesTo_16 : decode cX3_comesTo 16 = .ok (.sipush 394, 3) := dk_17 1 138 (dk_at dksX3_comesTo_0 16 rfl rfl)
theorem dX3_comesTo_19 : decode cX3_comesTo 19 = .ok (.sipush 820, 3) := dk_17 3 52 (dk_at dksX3_comesTo_0 19 rfl rfl)
theorem dX3_comesTo_22 : decode cX3_comesTo 22 = .ok (.iload_n 1, 1) := dk_27 (dk_at dksX3_comesTo_0 22 rfl rfl)
theorem dX3_comesTo_23 : decode cX3_comesTo 23 = .ok (.imul, 1) := dk_104 (dk_at dksX3_comesTo_0 23 rfl rfl)
theorem dX3_comesTo_24 : decode cX3_comesTo 24 = .ok (.iadd, 1) := dk_96 (dk_at dksX3_comesTo_1 0 rfl rfl)
theorem dX3_comesTo_25 : decode cX3_comesTo 25 = .ok (.iconst 2, 1) := dk_5 (dk_at dksX3_comesTo_1 1 rfl rfl)
theorem dX3_comesTo_26 : decode cX3_comesTo 26 = .ok (.iload 5, 2) := dk_21 5 (dk_at dksX3_comesTo_1 2 rfl rfl)
theorem dX3_comesTo_28 : decode cX3_comesTo 28 = .ok (.imul, 1) := dk_104 (dk_at dksX3_comesTo_1 4 rfl rfl)
theorem dX3_comesTo_29 : decode cX3_comesTo 29 = .ok (.iadd, 1) := dk_96 (dk_at dksX3_comesTo_1 5 rfl rfl)
theorem dX3_comesTo_30 : decode cX3_comesTo 30 = .ok (.iaload, 1) := dk_46 (dk_at dksX3_comesTo_1 6 rfl rfl)
theorem dX3_comesTo_31 : decode cX3_comesTo 31 = .ok (.istore 6, 2) := dk_54 6 (dk_at dksX3_comesTo_1 7 rfl rfl)
theorem dX3_comesTo_33 : decode cX3_comesTo 33 = .ok (.aload_n 0, 1) := dk_42 (dk_at dksX3_comesTo_1 9 rfl rfl)
theorem dX3_comesTo_34 : decode cX3_comesTo 34 = .ok (.getfield 7, 3) := dk_180 0 7 (dk_at dksX3_comesTo_1 10 rfl rfl)
theorem dX3_comesTo_37 : decode cX3_comesTo 37 = .ok (.sipush 394, 3) := dk_17 1 138 (dk_at dksX3_comesTo_1 13 rfl rfl)
theorem dX3_comesTo_40 : decode cX3_comesTo 40 = .ok (.sipush 820, 3) := dk_17 3 52 (dk_at dksX3_comesTo_1 16 rfl rfl)
theorem dX3_comesTo_43 : decode cX3_comesTo 43 = .ok (.iload_n 1, 1) := dk_27 (dk_at dksX3_comesTo_1 19 rfl rfl)
theorem dX3_comesTo_44 : decode cX3_comesTo 44 = .ok (.imul, 1) := dk_104 (dk_at dksX3_comesTo_1 20 rfl rfl)
theorem dX3_comesTo_45 : decode cX3_comesTo 45 = .ok (.iadd, 1) := dk_96 (dk_at dksX3_comesTo_1 21 rfl rfl)
theorem dX3_comesTo_46 : decode cX3_comesTo 46 = .ok (.iconst 2, 1) := dk_5 (dk_at dksX3_comesTo_1 22 rfl rfl)
theorem dX3_comesTo_47 : decode cX3_comesTo 47 = .ok (.iload 5, 2) := dk_21 5 (dk_at dksX3_comesTo_2 0 rfl rfl)
theorem dX3_comesTo_49 : decode cX3_comesTo 49 = .ok (.imul, 1) := dk_104 (dk_at dksX3_comesTo_2 2 rfl rfl)
theorem dX3_comesTo_50 : decode cX3_comesTo 50 = .ok (.iadd, 1) := dk_96 (dk_at dksX3_comesTo_2 3 rfl rfl)
theorem dX3_comesTo_51 : decode cX3_comesTo 51 = .ok (.iconst 1, 1) := dk_4 (dk_at dksX3_comesTo_2 4 rfl rfl)
theorem dX3_comesTo_52 : decode cX3_comesTo 52 = .ok (.iadd, 1) := dk_96 (dk_at dksX3_comesTo_2 5 rfl rfl)
theorem dX3_comesTo_53 : decode cX3_comesTo 53 = .ok (.iaload, 1) := dk_46 (dk_at dksX3_comesTo_2 6 rfl rfl)
theorem dX3_comesTo_54 : decode cX3_comesTo 54 = .ok (.istore 7, 2) := dk_54 7 (dk_at dksX3_comesTo_2 7 rfl rfl)
theorem dX3_comesTo_56 : decode cX3_comesTo 56 = .ok (.iload 6, 2) := dk_21 6 (dk_at dksX3_comesTo_2 9 rfl rfl)
theorem dX3_comesTo_58 : decode cX3_comesTo 58 = .ok (.bipush 23, 2) := dk_16 23 (dk_at dksX3_comesTo_2 11 rfl rfl)
theorem dX3_comesTo_60 : decode cX3_comesTo 60 = .ok (.if_icmp .ge 33, 3) := dk_162 0 33 (dk_at dksX3_comesTo_2 13 rfl rfl)
theorem dX3_comesTo_63 : decode cX3_comesTo 63 = .ok (.aload_n 0, 1) := dk_42 (dk_at dksX3_comesTo_2 16 rfl rfl)
theorem dX3_comesTo_64 : decode cX3_comesTo 64 = .ok (.getfield 34, 3) := dk_180 0 34 (dk_at dksX3_comesTo_2 17 rfl rfl)
theorem dX3_comesTo_67 : decode cX3_comesTo 67 = .ok (.iload 4, 2) := dk_21 4 (dk_at dksX3_comesTo_2 20 rfl rfl)
theorem dX3_comesTo_69 : decode cX3_comesTo 69 = .ok (.iload 6, 2) := dk_21 6 (dk_at dksX3_comesTo_2 22 rfl rfl)
theorem dX3_comesTo_71 : decode cX3_comesTo 71 = .ok (.ifCond .ne 8, 3) := dk_154 0 8 (dk_at dksX3_comesTo_3 0 rfl rfl)
theorem dX3_comesTo_74 : decode cX3_comesTo 74 = .ok (.iload 7, 2) := dk_21 7 (dk_at dksX3_comesTo_3 3 rfl rfl)
theorem dX3_comesTo_76 : decode cX3_comesTo 76 = .ok (.goto 10, 3) := dk_167 0 10 (dk_at dksX3_comesTo_3 5 rfl rfl)
theorem dX3_comesTo_79 : decode cX3_comesTo 79 = .ok (.aload_n 0, 1) := dk_42 (dk_at dksX3_comesTo_3 8 rfl rfl)
theorem dX3_comesTo_80 : decode cX3_comesTo 80 = .ok (.getfield 37, 3) := dk_180 0 37 (dk_at dksX3_comesTo_3 9 rfl rfl)
theorem dX3_comesTo_83 : decode cX3_comesTo 83 = .ok (.iload 6, 2) := dk_21 6 (dk_at dksX3_comesTo_3 12 rfl rfl)
theorem dX3_comesTo_85 : decode cX3_comesTo 85 = .ok (.iaload, 1) := dk_46 (dk_at dksX3_comesTo_3 14 rfl rfl)
theorem dX3_comesTo_86 : decode cX3_comesTo 86 = .ok (.iastore, 1) := dk_79 (dk_at dksX3_comesTo_3 15 rfl rfl)
theorem dX3_comesTo_87 : decode cX3_comesTo 87 = .ok (.iinc 4 1, 3) := dk_132 4 1 (dk_at dksX3_comesTo_3 16 rfl rfl)
theorem dX3_comesTo_90 : decode cX3_comesTo 90 = .ok (.goto 90, 3) := dk_167 0 90 (dk_at dksX3_comesTo_3 19 rfl rfl)
theorem dX3_comesTo_93 : decode cX3_comesTo 93 = .ok (.iload 6, 2) := dk_21 6 (dk_at dksX3_comesTo_3 22 rfl rfl)
theorem dX3_comesTo_95 : decode cX3_comesTo 95 = .ok (.bipush 26, 2) := dk_16 26 (dk_at dksX3_comesTo_4 0 rfl rfl)
theorem dX3_comesTo_97 : decode cX3_comesTo 97 = .ok (.if_icmp .ne 20, 3) := dk_160 0 20 (dk_at dksX3_comesTo_4 2 rfl rfl)
theorem dX3_comesTo_100 : decode cX3_comesTo 100 = .ok (.aload_n 0, 1) := dk_42 (dk_at dksX3_comesTo_4 5 rfl rfl)
theorem dX3_comesTo_101 : decode cX3_comesTo 101 = .ok (.getfield 34, 3) := dk_180 0 34 (dk_at dksX3_comesTo_4 6 rfl rfl)
theorem dX3_comesTo_104 : decode cX3_comesTo 104 = .ok (.iload 4, 2) := dk_21 4 (dk_at dksX3_comesTo_4 9 rfl rfl)
theorem dX3_comesTo_106 : decode cX3_comesTo 106 = .ok (.iconst 1, 1) := dk_4 (dk_at dksX3_comesTo_4 11 rfl rfl)
theorem dX3_comesTo_107 : decode cX3_comesTo 107 = .ok (.isub, 1) := dk_100 (dk_at dksX3_comesTo_4 12 rfl rfl)
theorem dX3_comesTo_108 : decode cX3_comesTo 108 = .ok (.dup2, 1) := dk_92 (dk_at dksX3_comesTo_4 13 rfl rfl)
theorem dX3_comesTo_109 : decode cX3_comesTo 109 = .ok (.iaload, 1) := dk_46 (dk_at dksX3_comesTo_4 14 rfl rfl)
theorem dX3_comesTo_110 : decode cX3_comesTo 110 = .ok (.iload 7, 2) := dk_21 7 (dk_at dksX3_comesTo_4 15 rfl rfl)
theorem dX3_comesTo_112 : decode cX3_comesTo 112 = .ok (.idiv, 1) := dk_108 (dk_at dksX3_comesTo_4 17 rfl rfl)
theorem dX3_comesTo_113 : decode cX3_comesTo 113 = .ok (.iastore, 1) := dk_79 (dk_at dksX3_comesTo_4 18 rfl rfl)
theorem dX3_comesTo_114 : decode cX3_comesTo 114 = .ok (.goto 66, 3) := dk_167 0 66 (dk_at dksX3_comesTo_4 19 rfl rfl)
theorem dX3_comesTo_117 : decode cX3_comesTo 117 = .ok (.iload 6, 2) := dk_21 6 (dk_at dksX3_comesTo_4 22 rfl rfl)
theorem dX3_comesTo_119 : decode cX3_comesTo 119 = .ok (.bipush 30, 2) := dk_16 30 (dk_at dksX3_comesTo_5 0 rfl rfl)
theorem dX3_comesTo_121 : decode cX3_comesTo 121 = .ok (.if_icmp .ne 26, 3) := dk_160 0 26 (dk_at dksX3_comesTo_5 2 rfl rfl)
theorem dX3_comesTo_124 : decode cX3_comesTo 124 = .ok (.aload_n 0, 1) := dk_42 (dk_at dksX3_comesTo_5 5 rfl rfl)
theorem dX3_comesTo_125 : decode cX3_comesTo 125 = .ok (.getfield 34, 3) := dk_180 0 34 (dk_at dksX3_comesTo_5 6 rfl rfl)
theorem dX3_comesTo_128 : decode cX3_comesTo 128 = .ok (.iload 4, 2) := dk_21 4 (dk_at dksX3_comesTo_5 9 rfl rfl)
theorem dX3_comesTo_130 : decode cX3_comesTo 130 = .ok (.iconst 1, 1) := dk_4 (dk_at dksX3_comesTo_5 11 rfl rfl)
theorem dX3_comesTo_131 : decode cX3_comesTo 131 = .ok (.isub, 1) := dk_100 (dk_at dksX3_comesTo_5 12 rfl rfl)
theorem dX3_comesTo_132 : decode cX3_comesTo 132 = .ok (.iconst 1, 1) := dk_4 (dk_at dksX3_comesTo_5 13 rfl rfl)
theorem dX3_comesTo_133 : decode cX3_comesTo 133 = .ok (.aload_n 0, 1) := dk_42 (dk_at dksX3_comesTo_5 14 rfl rfl)
theorem dX3_comesTo_134 : decode cX3_comesTo 134 = .ok (.getfield 34, 3) := dk_180 0 34 (dk_at dksX3_comesTo_5 15 rfl rfl)
theorem dX3_comesTo_137 : decode cX3_comesTo 137 = .ok (.iload 4, 2) := dk_21 4 (dk_at dksX3_comesTo_5 18 rfl rfl)
theorem dX3_comesTo_139 : decode cX3_comesTo 139 = .ok (.iconst 1, 1) := dk_4 (dk_at dksX3_comesTo_5 20 rfl rfl)
theorem dX3_comesTo_140 : decode cX3_comesTo 140 = .ok (.isub, 1) := dk_100 (dk_at dksX3_comesTo_5 21 rfl rfl)
theorem dX3_comesTo_141 : decode cX3_comesTo 141 = .ok (.iaload, 1) := dk_46 (dk_at dksX3_comesTo_5 22 rfl rfl)
theorem dX3_comesTo_142 : decode cX3_comesTo 142 = .ok (.isub, 1) := dk_100 (dk_at dksX3_comesTo_5 23 rfl rfl)
theorem dX3_comesTo_143 : decode cX3_comesTo 143 = .ok (.iastore, 1) := dk_79 (dk_at dksX3_comesTo_6 0 rfl rfl)
theorem dX3_comesTo_144 : decode cX3_comesTo 144 = .ok (.goto 36, 3) := dk_167 0 36 (dk_at dksX3_comesTo_6 1 rfl rfl)
theorem dX3_comesTo_147 : decode cX3_comesTo 147 = .ok (.iinc 4 (-1), 3) := dk_132 4 255 (dk_at dksX3_comesTo_6 4 rfl rfl)
theorem dX3_comesTo_150 : decode cX3_comesTo 150 = .ok (.aload_n 0, 1) := dk_42 (dk_at dksX3_comesTo_6 7 rfl rfl)
theorem dX3_comesTo_151 : decode cX3_comesTo 151 = .ok (.getfield 34, 3) := dk_180 0 34 (dk_at dksX3_comesTo_6 8 rfl rfl)
theorem dX3_comesTo_154 : decode cX3_comesTo 154 = .ok (.iload 4, 2) := dk_21 4 (dk_at dksX3_comesTo_6 11 rfl rfl)
theorem dX3_comesTo_156 : decode cX3_comesTo 156 = .ok (.iconst 1, 1) := dk_4 (dk_at dksX3_comesTo_6 13 rfl rfl)
theorem dX3_comesTo_157 : decode cX3_comesTo 157 = .ok (.isub, 1) := dk_100 (dk_at dksX3_comesTo_6 14 rfl rfl)
theorem dX3_comesTo_158 : decode cX3_comesTo 158 = .ok (.iload 6, 2) := dk_21 6 (dk_at dksX3_comesTo_6 15 rfl rfl)
theorem dX3_comesTo_160 : decode cX3_comesTo 160 = .ok (.aload_n 0, 1) := dk_42 (dk_at dksX3_comesTo_6 17 rfl rfl)
theorem dX3_comesTo_161 : decode cX3_comesTo 161 = .ok (.getfield 34, 3) := dk_180 0 34 (dk_at dksX3_comesTo_6 18 rfl rfl)
theorem dX3_comesTo_164 : decode cX3_comesTo 164 = .ok (.iload 4, 2) := dk_21 4 (dk_at dksX3_comesTo_6 21 rfl rfl)
theorem dX3_comesTo_166 : decode cX3_comesTo 166 = .ok (.iconst 1, 1) := dk_4 (dk_at dksX3_comesTo_6 23 rfl rfl)
theorem dX3_comesTo_167 : decode cX3_comesTo 167 = .ok (.isub, 1) := dk_100 (dk_at dksX3_comesTo_7 0 rfl rfl)
theorem dX3_comesTo_168 : decode cX3_comesTo 168 = .ok (.iaload, 1) := dk_46 (dk_at dksX3_comesTo_7 1 rfl rfl)
theorem dX3_comesTo_169 : decode cX3_comesTo 169 = .ok (.aload_n 0, 1) := dk_42 (dk_at dksX3_comesTo_7 2 rfl rfl)
theorem dX3_comesTo_170 : decode cX3_comesTo 170 = .ok (.getfield 34, 3) := dk_180 0 34 (dk_at dksX3_comesTo_7 3 rfl rfl)
theorem dX3_comesTo_173 : decode cX3_comesTo 173 = .ok (.iload 4, 2) := dk_21 4 (dk_at dksX3_comesTo_7 6 rfl rfl)
theorem dX3_comesTo_175 : decode cX3_comesTo 175 = .ok (.iaload, 1) := dk_46 (dk_at dksX3_comesTo_7 8 rfl rfl)
theorem dX3_comesTo_176 : decode cX3_comesTo 176 = .ok (.invokestatic 303, 3) := dk_184 1 47 (dk_at dksX3_comesTo_7 9 rfl rfl)
theorem dX3_comesTo_179 : decode cX3_comesTo 179 = .ok (.iastore, 1) := dk_79 (dk_at dksX3_comesTo_7 12 rfl rfl)
theorem dX3_comesTo_180 : decode cX3_comesTo 180 = .ok (.iinc 5 1, 3) := dk_132 5 1 (dk_at dksX3_comesTo_7 13 rfl rfl)
theorem dX3_comesTo_183 : decode cX3_comesTo 183 = .ok (.goto (-177), 3) := dk_167 255 79 (dk_at dksX3_comesTo_7 16 rfl rfl)
theorem dX3_comesTo_186 : decode cX3_comesTo 186 = .ok (.aload_n 0, 1) := dk_42 (dk_at dksX3_comesTo_7 19 rfl rfl)
theorem dX3_comesTo_187 : decode cX3_comesTo 187 = .ok (.getfield 34, 3) := dk_180 0 34 (dk_at dksX3_comesTo_7 20 rfl rfl)
theorem dX3_comesTo_190 : decode cX3_comesTo 190 = .ok (.iconst 0, 1) := dk_3 (dk_at dksX3_comesTo_7 23 rfl rfl)
theorem dX3_comesTo_191 : decode cX3_comesTo 191 = .ok (.iaload, 1) := dk_46 (dk_at dksX3_comesTo_8 0 rfl rfl)
theorem dX3_comesTo_192 : decode cX3_comesTo 192 = .ok (.ireturn, 1) := dk_172 (dk_at dksX3_comesTo_8 1 rfl rfl)
abbrev cX3_both : ByteArray := prog_14_method_54_code
def yX3_both : MethodName := ⟨RX3, "both", "(III)I"⟩
def dkwX3_both_4 : List UInt8 := [172, 27, 28, 128, 172]
abbrev dktX3_both_4 : List UInt8 := dkwX3_both_4 ++ []
def dkwX3_both_3 : List UInt8 := [28, 160, 0, 7, 4, 167, 0, 4, 3, 172, 27, 28, 164, 0, 7, 4, 167, 0, 4, 3, 172, 27, 28, 126]
abbrev dktX3_both_3 : List UInt8 := dkwX3_both_3 ++ dktX3_both_4
def dkwX3_both_2 : List UInt8 := [27, 28, 96, 172, 27, 28, 100, 172, 27, 28, 104, 172, 27, 28, 162, 0, 7, 4, 167, 0, 4, 3, 172, 27]
abbrev dktX3_both_2 : List UInt8 := dkwX3_both_2 ++ dktX3_both_3
def dkwX3_both_1 : List UInt8 := [170, 0, 0, 0, 0, 0, 100, 0, 0, 0, 23, 0, 0, 0, 31, 0, 0, 0, 51, 0, 0, 0, 55, 0, 0, 0, 59, 0, 0, 0, 100, 0, 0, 0, 63, 0, 0, 0, 74, 0, 0, 0, 85, 0, 0, 0, 100, 0, 0, 0, 96]
abbrev dktX3_both_1 : List UInt8 := dkwX3_both_1 ++ dktX3_both_2
def dkwX3_both_0 : List UInt8 := [26]
abbrev dktX3_both_0 : List UInt8 := dkwX3_both_0 ++ dktX3_both_1
theorem dksX3_both_0 : cX3_both.data.toList.drop 0 = dktX3_both_0 := by decide +kernel
theorem dksX3_both_1 : cX3_both.data.toList.drop 1 = dktX3_both_1 := dk_seg dksX3_both_0 1 rfl rfl
theorem dksX3_both_2 : cX3_both.data.toList.drop 52 = dktX3_both_2 := dk_seg dksX3_both_1 51 rfl rfl
theorem dksX3_both_3 : cX3_both.data.toList.drop 76 = dktX3_both_3 := dk_seg dksX3_both_2 24 rfl rfl
theorem dksX3_both_4 : cX3_both.data.toList.drop 100 = dktX3_both_4 := dk_seg dksX3_both_3 24 rfl rfl
theorem dX3_both_0 : decode cX3_both 0 = .ok (.iload_n 0, 1) := dk_26 (dk_at dksX3_both_0 0 rfl rfl)
theorem dX3_both_1 : decode cX3_both 1 = .ok (.tableswitch 100 23 31 #[51, 55, 59, 100, 63, 74, 85, 100, 96], 51) := by decide +kernel
theorem dX3_both_52 : decode cX3_both 52 = .ok (.iload_n 1, 1) := dk_27 (dk_at dksX3_both_2 0 rfl rfl)
theorem dX3_both_53 : decode cX3_both 53 = .ok (.iload_n 2, 1) := dk_28 (dk_at dksX3_both_2 1 rfl rfl)
theorem dX3_both_54 : decode cX3_both 54 = .ok (.iadd, 1) := dk_96 (dk_at dksX3_both_2 2 rfl rfl)
theorem dX3_both_55 : decode cX3_both 55 = .ok (.ireturn, 1) := dk_172 (dk_at dksX3_both_2 3 rfl rfl)
theorem dX3_both_56 : decode cX3_both 56 = .ok (.iload_n 1, 1) := dk_27 (dk_at dksX3_both_2 4 rfl rfl)
theorem dX3_both_57 : decode cX3_both 57 = .ok (.iload_n 2, 1) := dk_28 (dk_at dksX3_both_2 5 rfl rfl)
theorem dX3_both_58 : decode cX3_both 58 = .ok (.isub, 1) := dk_100 (dk_at dksX3_both_2 6 rfl rfl)
theorem dX3_both_59 : decode cX3_both 59 = .ok (.ireturn, 1) := dk_172 (dk_at dksX3_both_2 7 rfl rfl)
theorem dX3_both_60 : decode cX3_both 60 = .ok (.iload_n 1, 1) := dk_27 (dk_at dksX3_both_2 8 rfl rfl)
theorem dX3_both_61 : decode cX3_both 61 = .ok (.iload_n 2, 1) := dk_28 (dk_at dksX3_both_2 9 rfl rfl)
theorem dX3_both_62 : decode cX3_both 62 = .ok (.imul, 1) := dk_104 (dk_at dksX3_both_2 10 rfl rfl)
theorem dX3_both_63 : decode cX3_both 63 = .ok (.ireturn, 1) := dk_172 (dk_at dksX3_both_2 11 rfl rfl)
theorem dX3_both_64 : decode cX3_both 64 = .ok (.iload_n 1, 1) := dk_27 (dk_at dksX3_both_2 12 rfl rfl)
theorem dX3_both_65 : decode cX3_both 65 = .ok (.iload_n 2, 1) := dk_28 (dk_at dksX3_both_2 13 rfl rfl)
theorem dX3_both_66 : decode cX3_both 66 = .ok (.if_icmp .ge 7, 3) := dk_162 0 7 (dk_at dksX3_both_2 14 rfl rfl)
theorem dX3_both_69 : decode cX3_both 69 = .ok (.iconst 1, 1) := dk_4 (dk_at dksX3_both_2 17 rfl rfl)
theorem dX3_both_70 : decode cX3_both 70 = .ok (.goto 4, 3) := dk_167 0 4 (dk_at dksX3_both_2 18 rfl rfl)
theorem dX3_both_73 : decode cX3_both 73 = .ok (.iconst 0, 1) := dk_3 (dk_at dksX3_both_2 21 rfl rfl)
theorem dX3_both_74 : decode cX3_both 74 = .ok (.ireturn, 1) := dk_172 (dk_at dksX3_both_2 22 rfl rfl)
theorem dX3_both_75 : decode cX3_both 75 = .ok (.iload_n 1, 1) := dk_27 (dk_at dksX3_both_2 23 rfl rfl)
theorem dX3_both_76 : decode cX3_both 76 = .ok (.iload_n 2, 1) := dk_28 (dk_at dksX3_both_3 0 rfl rfl)
theorem dX3_both_77 : decode cX3_both 77 = .ok (.if_icmp .ne 7, 3) := dk_160 0 7 (dk_at dksX3_both_3 1 rfl rfl)
theorem dX3_both_80 : decode cX3_both 80 = .ok (.iconst 1, 1) := dk_4 (dk_at dksX3_both_3 4 rfl rfl)
theorem dX3_both_81 : decode cX3_both 81 = .ok (.goto 4, 3) := dk_167 0 4 (dk_at dksX3_both_3 5 rfl rfl)
theorem dX3_both_84 : decode cX3_both 84 = .ok (.iconst 0, 1) := dk_3 (dk_at dksX3_both_3 8 rfl rfl)
theorem dX3_both_85 : decode cX3_both 85 = .ok (.ireturn, 1) := dk_172 (dk_at dksX3_both_3 9 rfl rfl)
theorem dX3_both_86 : decode cX3_both 86 = .ok (.iload_n 1, 1) := dk_27 (dk_at dksX3_both_3 10 rfl rfl)
theorem dX3_both_87 : decode cX3_both 87 = .ok (.iload_n 2, 1) := dk_28 (dk_at dksX3_both_3 11 rfl rfl)
theorem dX3_both_88 : decode cX3_both 88 = .ok (.if_icmp .le 7, 3) := dk_164 0 7 (dk_at dksX3_both_3 12 rfl rfl)
theorem dX3_both_91 : decode cX3_both 91 = .ok (.iconst 1, 1) := dk_4 (dk_at dksX3_both_3 15 rfl rfl)
theorem dX3_both_92 : decode cX3_both 92 = .ok (.goto 4, 3) := dk_167 0 4 (dk_at dksX3_both_3 16 rfl rfl)
theorem dX3_both_95 : decode cX3_both 95 = .ok (.iconst 0, 1) := dk_3 (dk_at dksX3_both_3 19 rfl rfl)
theorem dX3_both_96 : decode cX3_both 96 = .ok (.ireturn, 1) := dk_172 (dk_at dksX3_both_3 20 rfl rfl)
theorem dX3_both_97 : decode cX3_both 97 = .ok (.iload_n 1, 1) := dk_27 (dk_at dksX3_both_3 21 rfl rfl)
theorem dX3_both_98 : decode cX3_both 98 = .ok (.iload_n 2, 1) := dk_28 (dk_at dksX3_both_3 22 rfl rfl)
theorem dX3_both_99 : decode cX3_both 99 = .ok (.iand, 1) := dk_126 (dk_at dksX3_both_3 23 rfl rfl)
theorem dX3_both_100 : decode cX3_both 100 = .ok (.ireturn, 1) := dk_172 (dk_at dksX3_both_4 0 rfl rfl)
theorem dX3_both_101 : decode cX3_both 101 = .ok (.iload_n 1, 1) := dk_27 (dk_at dksX3_both_4 1 rfl rfl)
theorem dX3_both_102 : decode cX3_both 102 = .ok (.iload_n 2, 1) := dk_28 (dk_at dksX3_both_4 2 rfl rfl)
theorem dX3_both_103 : decode cX3_both 103 = .ok (.ior, 1) := dk_128 (dk_at dksX3_both_4 3 rfl rfl)
theorem dX3_both_104 : decode cX3_both 104 = .ok (.ireturn, 1) := dk_172 (dk_at dksX3_both_4 4 rfl rfl)
abbrev cX3_wears : ByteArray := prog_14_method_76_code
def yX3_wears : MethodName := ⟨RX3, "wears", "(II)V"⟩
def dkwX3_wears_3 : List UInt8 := [42, 27, 16, 8, 42, 27, 16, 8, 182, 1, 57, 4, 96, 182, 0, 89, 177]
abbrev dktX3_wears_3 : List UInt8 := dkwX3_wears_3 ++ []
def dkwX3_wears_2 : List UInt8 := [16, 99, 184, 1, 74, 182, 0, 89, 42, 27, 16, 7, 42, 27, 16, 7, 182, 1, 57, 4, 96, 182, 0, 89]
abbrev dktX3_wears_2 : List UInt8 := dkwX3_wears_2 ++ dktX3_wears_3
def dkwX3_wears_1 : List UInt8 := [182, 1, 57, 29, 100, 184, 0, 74, 182, 0, 89, 42, 27, 7, 42, 27, 7, 182, 1, 57, 21, 4, 96, 3]
abbrev dktX3_wears_1 : List UInt8 := dkwX3_wears_1 ++ dktX3_wears_2
def dkwX3_wears_0 : List UInt8 := [42, 27, 28, 182, 1, 93, 62, 42, 27, 28, 182, 1, 96, 54, 4, 42, 27, 6, 3, 42, 27, 6]
abbrev dktX3_wears_0 : List UInt8 := dkwX3_wears_0 ++ dktX3_wears_1
theorem dksX3_wears_0 : cX3_wears.data.toList.drop 0 = dktX3_wears_0 := by decide +kernel
theorem dksX3_wears_1 : cX3_wears.data.toList.drop 22 = dktX3_wears_1 := dk_seg dksX3_wears_0 22 rfl rfl
theorem dksX3_wears_2 : cX3_wears.data.toList.drop 46 = dktX3_wears_2 := dk_seg dksX3_wears_1 24 rfl rfl
theorem dksX3_wears_3 : cX3_wears.data.toList.drop 70 = dktX3_wears_3 := dk_seg dksX3_wears_2 24 rfl rfl
theorem dX3_wears_0 : decode cX3_wears 0 = .ok (.aload_n 0, 1) := dk_42 (dk_at dksX3_wears_0 0 rfl rfl)
theorem dX3_wears_1 : decode cX3_wears 1 = .ok (.iload_n 1, 1) := dk_27 (dk_at dksX3_wears_0 1 rfl rfl)
theorem dX3_wears_2 : decode cX3_wears 2 = .ok (.iload_n 2, 1) := dk_28 (dk_at dksX3_wears_0 2 rfl rfl)
theorem dX3_wears_3 : decode cX3_wears 3 = .ok (.invokevirtual 349, 3) := dk_182 1 93 (dk_at dksX3_wears_0 3 rfl rfl)
theorem dX3_wears_6 : decode cX3_wears 6 = .ok (.istore_n 3, 1) := dk_62 (dk_at dksX3_wears_0 6 rfl rfl)
theorem dX3_wears_7 : decode cX3_wears 7 = .ok (.aload_n 0, 1) := dk_42 (dk_at dksX3_wears_0 7 rfl rfl)
theorem dX3_wears_8 : decode cX3_wears 8 = .ok (.iload_n 1, 1) := dk_27 (dk_at dksX3_wears_0 8 rfl rfl)
theorem dX3_wears_9 : decode cX3_wears 9 = .ok (.iload_n 2, 1) := dk_28 (dk_at dksX3_wears_0 9 rfl rfl)
theorem dX3_wears_10 : decode cX3_wears 10 = .ok (.invokevirtual 352, 3) := dk_182 1 96 (dk_at dksX3_wears_0 10 rfl rfl)
theorem dX3_wears_13 : decode cX3_wears 13 = .ok (.istore 4, 2) := dk_54 4 (dk_at dksX3_wears_0 13 rfl rfl)
theorem dX3_wears_15 : decode cX3_wears 15 = .ok (.aload_n 0, 1) := dk_42 (dk_at dksX3_wears_0 15 rfl rfl)
theorem dX3_wears_16 : decode cX3_wears 16 = .ok (.iload_n 1, 1) := dk_27 (dk_at dksX3_wears_0 16 rfl rfl)
theorem dX3_wears_17 : decode cX3_wears 17 = .ok (.iconst 3, 1) := dk_6 (dk_at dksX3_wears_0 17 rfl rfl)
theorem dX3_wears_18 : decode cX3_wears 18 = .ok (.iconst 0, 1) := dk_3 (dk_at dksX3_wears_0 18 rfl rfl)
theorem dX3_wears_19 : decode cX3_wears 19 = .ok (.aload_n 0, 1) := dk_42 (dk_at dksX3_wears_0 19 rfl rfl)
theorem dX3_wears_20 : decode cX3_wears 20 = .ok (.iload_n 1, 1) := dk_27 (dk_at dksX3_wears_0 20 rfl rfl)
theorem dX3_wears_21 : decode cX3_wears 21 = .ok (.iconst 3, 1) := dk_6 (dk_at dksX3_wears_0 21 rfl rfl)
theorem dX3_wears_22 : decode cX3_wears 22 = .ok (.invokevirtual 313, 3) := dk_182 1 57 (dk_at dksX3_wears_1 0 rfl rfl)
theorem dX3_wears_25 : decode cX3_wears 25 = .ok (.iload_n 3, 1) := dk_29 (dk_at dksX3_wears_1 3 rfl rfl)
theorem dX3_wears_26 : decode cX3_wears 26 = .ok (.isub, 1) := dk_100 (dk_at dksX3_wears_1 4 rfl rfl)
theorem dX3_wears_27 : decode cX3_wears 27 = .ok (.invokestatic 74, 3) := dk_184 0 74 (dk_at dksX3_wears_1 5 rfl rfl)
theorem dX3_wears_30 : decode cX3_wears 30 = .ok (.invokevirtual 89, 3) := dk_182 0 89 (dk_at dksX3_wears_1 8 rfl rfl)
theorem dX3_wears_33 : decode cX3_wears 33 = .ok (.aload_n 0, 1) := dk_42 (dk_at dksX3_wears_1 11 rfl rfl)
theorem dX3_wears_34 : decode cX3_wears 34 = .ok (.iload_n 1, 1) := dk_27 (dk_at dksX3_wears_1 12 rfl rfl)
theorem dX3_wears_35 : decode cX3_wears 35 = .ok (.iconst 4, 1) := dk_7 (dk_at dksX3_wears_1 13 rfl rfl)
theorem dX3_wears_36 : decode cX3_wears 36 = .ok (.aload_n 0, 1) := dk_42 (dk_at dksX3_wears_1 14 rfl rfl)
theorem dX3_wears_37 : decode cX3_wears 37 = .ok (.iload_n 1, 1) := dk_27 (dk_at dksX3_wears_1 15 rfl rfl)
theorem dX3_wears_38 : decode cX3_wears 38 = .ok (.iconst 4, 1) := dk_7 (dk_at dksX3_wears_1 16 rfl rfl)
theorem dX3_wears_39 : decode cX3_wears 39 = .ok (.invokevirtual 313, 3) := dk_182 1 57 (dk_at dksX3_wears_1 17 rfl rfl)
theorem dX3_wears_42 : decode cX3_wears 42 = .ok (.iload 4, 2) := dk_21 4 (dk_at dksX3_wears_1 20 rfl rfl)
theorem dX3_wears_44 : decode cX3_wears 44 = .ok (.iadd, 1) := dk_96 (dk_at dksX3_wears_1 22 rfl rfl)
theorem dX3_wears_45 : decode cX3_wears 45 = .ok (.iconst 0, 1) := dk_3 (dk_at dksX3_wears_1 23 rfl rfl)
theorem dX3_wears_46 : decode cX3_wears 46 = .ok (.bipush 99, 2) := dk_16 99 (dk_at dksX3_wears_2 0 rfl rfl)
theorem dX3_wears_48 : decode cX3_wears 48 = .ok (.invokestatic 330, 3) := dk_184 1 74 (dk_at dksX3_wears_2 2 rfl rfl)
theorem dX3_wears_51 : decode cX3_wears 51 = .ok (.invokevirtual 89, 3) := dk_182 0 89 (dk_at dksX3_wears_2 5 rfl rfl)
theorem dX3_wears_54 : decode cX3_wears 54 = .ok (.aload_n 0, 1) := dk_42 (dk_at dksX3_wears_2 8 rfl rfl)
theorem dX3_wears_55 : decode cX3_wears 55 = .ok (.iload_n 1, 1) := dk_27 (dk_at dksX3_wears_2 9 rfl rfl)
theorem dX3_wears_56 : decode cX3_wears 56 = .ok (.bipush 7, 2) := dk_16 7 (dk_at dksX3_wears_2 10 rfl rfl)
theorem dX3_wears_58 : decode cX3_wears 58 = .ok (.aload_n 0, 1) := dk_42 (dk_at dksX3_wears_2 12 rfl rfl)
theorem dX3_wears_59 : decode cX3_wears 59 = .ok (.iload_n 1, 1) := dk_27 (dk_at dksX3_wears_2 13 rfl rfl)
theorem dX3_wears_60 : decode cX3_wears 60 = .ok (.bipush 7, 2) := dk_16 7 (dk_at dksX3_wears_2 14 rfl rfl)
theorem dX3_wears_62 : decode cX3_wears 62 = .ok (.invokevirtual 313, 3) := dk_182 1 57 (dk_at dksX3_wears_2 16 rfl rfl)
theorem dX3_wears_65 : decode cX3_wears 65 = .ok (.iconst 1, 1) := dk_4 (dk_at dksX3_wears_2 19 rfl rfl)
theorem dX3_wears_66 : decode cX3_wears 66 = .ok (.iadd, 1) := dk_96 (dk_at dksX3_wears_2 20 rfl rfl)
theorem dX3_wears_67 : decode cX3_wears 67 = .ok (.invokevirtual 89, 3) := dk_182 0 89 (dk_at dksX3_wears_2 21 rfl rfl)
theorem dX3_wears_70 : decode cX3_wears 70 = .ok (.aload_n 0, 1) := dk_42 (dk_at dksX3_wears_3 0 rfl rfl)
theorem dX3_wears_71 : decode cX3_wears 71 = .ok (.iload_n 1, 1) := dk_27 (dk_at dksX3_wears_3 1 rfl rfl)
theorem dX3_wears_72 : decode cX3_wears 72 = .ok (.bipush 8, 2) := dk_16 8 (dk_at dksX3_wears_3 2 rfl rfl)
theorem dX3_wears_74 : decode cX3_wears 74 = .ok (.aload_n 0, 1) := dk_42 (dk_at dksX3_wears_3 4 rfl rfl)
theorem dX3_wears_75 : decode cX3_wears 75 = .ok (.iload_n 1, 1) := dk_27 (dk_at dksX3_wears_3 5 rfl rfl)
theorem dX3_wears_76 : decode cX3_wears 76 = .ok (.bipush 8, 2) := dk_16 8 (dk_at dksX3_wears_3 6 rfl rfl)
theorem dX3_wears_78 : decode cX3_wears 78 = .ok (.invokevirtual 313, 3) := dk_182 1 57 (dk_at dksX3_wears_3 8 rfl rfl)
theorem dX3_wears_81 : decode cX3_wears 81 = .ok (.iconst 1, 1) := dk_4 (dk_at dksX3_wears_3 11 rfl rfl)
theorem dX3_wears_82 : decode cX3_wears 82 = .ok (.iadd, 1) := dk_96 (dk_at dksX3_wears_3 12 rfl rfl)
theorem dX3_wears_83 : decode cX3_wears 83 = .ok (.invokevirtual 89, 3) := dk_182 0 89 (dk_at dksX3_wears_3 13 rfl rfl)
theorem dX3_wears_86 : decode cX3_wears 86 = .ok (.return_, 1) := dk_177 (dk_at dksX3_wears_3 16 rfl rfl)
abbrev cX3_wearOf : ByteArray := prog_14_method_63_code
def yX3_wearOf : MethodName := ⟨RX3, "wearOf", "(II)I"⟩
def dkwX3_wearOf_0 : List UInt8 := [42, 27, 28, 182, 1, 60, 42, 16, 22, 4, 3, 16, 20, 182, 1, 77, 172]
abbrev dktX3_wearOf_0 : List UInt8 := dkwX3_wearOf_0 ++ []
theorem dksX3_wearOf_0 : cX3_wearOf.data.toList.drop 0 = dktX3_wearOf_0 := by decide +kernel
theorem dX3_wearOf_0 : decode cX3_wearOf 0 = .ok (.aload_n 0, 1) := dk_42 (dk_at dksX3_wearOf_0 0 rfl rfl)
theorem dX3_wearOf_1 : decode cX3_wearOf 1 = .ok (.iload_n 1, 1) := dk_27 (dk_at dksX3_wearOf_0 1 rfl rfl)
theorem dX3_wearOf_2 : decode cX3_wearOf 2 = .ok (.iload_n 2, 1) := dk_28 (dk_at dksX3_wearOf_0 2 rfl rfl)
theorem dX3_wearOf_3 : decode cX3_wearOf 3 = .ok (.invokevirtual 316, 3) := dk_182 1 60 (dk_at dksX3_wearOf_0 3 rfl rfl)
theorem dX3_wearOf_6 : decode cX3_wearOf 6 = .ok (.aload_n 0, 1) := dk_42 (dk_at dksX3_wearOf_0 6 rfl rfl)
theorem dX3_wearOf_7 : decode cX3_wearOf 7 = .ok (.bipush 22, 2) := dk_16 22 (dk_at dksX3_wearOf_0 7 rfl rfl)
theorem dX3_wearOf_9 : decode cX3_wearOf 9 = .ok (.iconst 1, 1) := dk_4 (dk_at dksX3_wearOf_0 9 rfl rfl)
theorem dX3_wearOf_10 : decode cX3_wearOf 10 = .ok (.iconst 0, 1) := dk_3 (dk_at dksX3_wearOf_0 10 rfl rfl)
theorem dX3_wearOf_11 : decode cX3_wearOf 11 = .ok (.bipush 20, 2) := dk_16 20 (dk_at dksX3_wearOf_0 11 rfl rfl)
theorem dX3_wearOf_13 : decode cX3_wearOf 13 = .ok (.invokevirtual 333, 3) := dk_182 1 77 (dk_at dksX3_wearOf_0 13 rfl rfl)
theorem dX3_wearOf_16 : decode cX3_wearOf 16 = .ok (.ireturn, 1) := dk_172 (dk_at dksX3_wearOf_0 16 rfl rfl)
abbrev cX3_edgesSay : ByteArray := prog_14_method_62_code
def yX3_edgesSay : MethodName := ⟨RX3, "edgesSay", "(IIII)I"⟩
def dkwX3_edgesSay_3 : List UInt8 := [184, 1, 74, 172, 132, 5, 1, 167, 255, 182, 28, 172]
abbrev dktX3_edgesSay_3 : List UInt8 := dkwX3_edgesSay_3 ++ []
def dkwX3_edgesSay_2 : List UInt8 := [17, 1, 26, 21, 5, 96, 46, 42, 180, 0, 7, 17, 1, 58, 21, 5, 96, 46, 182, 1, 51, 29, 21, 4]
abbrev dktX3_edgesSay_2 : List UInt8 := dkwX3_edgesSay_2 ++ dktX3_edgesSay_3
def dkwX3_edgesSay_1 : List UInt8 := [96, 46, 27, 160, 0, 47, 42, 4, 21, 5, 182, 1, 63, 153, 0, 37, 42, 4, 42, 180, 0, 7]
abbrev dktX3_edgesSay_1 : List UInt8 := dkwX3_edgesSay_1 ++ dktX3_edgesSay_2
def dkwX3_edgesSay_0 : List UInt8 := [3, 54, 5, 21, 5, 42, 180, 0, 7, 16, 101, 46, 162, 0, 68, 42, 180, 0, 7, 17, 1, 122, 21, 5]
abbrev dktX3_edgesSay_0 : List UInt8 := dkwX3_edgesSay_0 ++ dktX3_edgesSay_1
theorem dksX3_edgesSay_0 : cX3_edgesSay.data.toList.drop 0 = dktX3_edgesSay_0 := by decide +kernel
theorem dksX3_edgesSay_1 : cX3_edgesSay.data.toList.drop 24 = dktX3_edgesSay_1 := dk_seg dksX3_edgesSay_0 24 rfl rfl
theorem dksX3_edgesSay_2 : cX3_edgesSay.data.toList.drop 46 = dktX3_edgesSay_2 := dk_seg dksX3_edgesSay_1 22 rfl rfl
theorem dksX3_edgesSay_3 : cX3_edgesSay.data.toList.drop 70 = dktX3_edgesSay_3 := dk_seg dksX3_edgesSay_2 24 rfl rfl
theorem dX3_edgesSay_0 : decode cX3_edgesSay 0 = .ok (.iconst 0, 1) := dk_3 (dk_at dksX3_edgesSay_0 0 rfl rfl)
theorem dX3_edgesSay_1 : decode cX3_edgesSay 1 = .ok (.istore 5, 2) := dk_54 5 (dk_at dksX3_edgesSay_0 1 rfl rfl)
theorem dX3_edgesSay_3 : decode cX3_edgesSay 3 = .ok (.iload 5, 2) := dk_21 5 (dk_at dksX3_edgesSay_0 3 rfl rfl)
theorem dX3_edgesSay_5 : decode cX3_edgesSay 5 = .ok (.aload_n 0, 1) := dk_42 (dk_at dksX3_edgesSay_0 5 rfl rfl)
theorem dX3_edgesSay_6 : decode cX3_edgesSay 6 = .ok (.getfield 7, 3) := dk_180 0 7 (dk_at dksX3_edgesSay_0 6 rfl rfl)
theorem dX3_edgesSay_9 : decode cX3_edgesSay 9 = .ok (.bipush 101, 2) := dk_16 101 (dk_at dksX3_edgesSay_0 9 rfl rfl)
theorem dX3_edgesSay_11 : decode cX3_edgesSay 11 = .ok (.iaload, 1) := dk_46 (dk_at dksX3_edgesSay_0 11 rfl rfl)
theorem dX3_edgesSay_12 : decode cX3_edgesSay 12 = .ok (.if_icmp .ge 68, 3) := dk_162 0 68 (dk_at dksX3_edgesSay_0 12 rfl rfl)
theorem dX3_edgesSay_15 : decode cX3_edgesSay 15 = .ok (.aload_n 0, 1) := dk_42 (dk_at dksX3_edgesSay_0 15 rfl rfl)
theorem dX3_edgesSay_16 : decode cX3_edgesSay 16 = .ok (.getfield 7, 3) := dk_180 0 7 (dk_at dksX3_edgesSay_0 16 rfl rfl)
theorem dX3_edgesSay_19 : decode cX3_edgesSay 19 = .ok (.sipush 378, 3) := dk_17 1 122 (dk_at dksX3_edgesSay_0 19 rfl rfl)
theorem dX3_edgesSay_22 : decode cX3_edgesSay 22 = .ok (.iload 5, 2) := dk_21 5 (dk_at dksX3_edgesSay_0 22 rfl rfl)
theorem dX3_edgesSay_24 : decode cX3_edgesSay 24 = .ok (.iadd, 1) := dk_96 (dk_at dksX3_edgesSay_1 0 rfl rfl)
theorem dX3_edgesSay_25 : decode cX3_edgesSay 25 = .ok (.iaload, 1) := dk_46 (dk_at dksX3_edgesSay_1 1 rfl rfl)
theorem dX3_edgesSay_26 : decode cX3_edgesSay 26 = .ok (.iload_n 1, 1) := dk_27 (dk_at dksX3_edgesSay_1 2 rfl rfl)
theorem dX3_edgesSay_27 : decode cX3_edgesSay 27 = .ok (.if_icmp .ne 47, 3) := dk_160 0 47 (dk_at dksX3_edgesSay_1 3 rfl rfl)
theorem dX3_edgesSay_30 : decode cX3_edgesSay 30 = .ok (.aload_n 0, 1) := dk_42 (dk_at dksX3_edgesSay_1 6 rfl rfl)
theorem dX3_edgesSay_31 : decode cX3_edgesSay 31 = .ok (.iconst 1, 1) := dk_4 (dk_at dksX3_edgesSay_1 7 rfl rfl)
theorem dX3_edgesSay_32 : decode cX3_edgesSay 32 = .ok (.iload 5, 2) := dk_21 5 (dk_at dksX3_edgesSay_1 8 rfl rfl)
theorem dX3_edgesSay_34 : decode cX3_edgesSay 34 = .ok (.invokevirtual 319, 3) := dk_182 1 63 (dk_at dksX3_edgesSay_1 10 rfl rfl)
theorem dX3_edgesSay_37 : decode cX3_edgesSay 37 = .ok (.ifCond .eq 37, 3) := dk_153 0 37 (dk_at dksX3_edgesSay_1 13 rfl rfl)
theorem dX3_edgesSay_40 : decode cX3_edgesSay 40 = .ok (.aload_n 0, 1) := dk_42 (dk_at dksX3_edgesSay_1 16 rfl rfl)
theorem dX3_edgesSay_41 : decode cX3_edgesSay 41 = .ok (.iconst 1, 1) := dk_4 (dk_at dksX3_edgesSay_1 17 rfl rfl)
theorem dX3_edgesSay_42 : decode cX3_edgesSay 42 = .ok (.aload_n 0, 1) := dk_42 (dk_at dksX3_edgesSay_1 18 rfl rfl)
theorem dX3_edgesSay_43 : decode cX3_edgesSay 43 = .ok (.getfield 7, 3) := dk_180 0 7 (dk_at dksX3_edgesSay_1 19 rfl rfl)
theorem dX3_edgesSay_46 : decode cX3_edgesSay 46 = .ok (.sipush 282, 3) := dk_17 1 26 (dk_at dksX3_edgesSay_2 0 rfl rfl)
theorem dX3_edgesSay_49 : decode cX3_edgesSay 49 = .ok (.iload 5, 2) := dk_21 5 (dk_at dksX3_edgesSay_2 3 rfl rfl)
theorem dX3_edgesSay_51 : decode cX3_edgesSay 51 = .ok (.iadd, 1) := dk_96 (dk_at dksX3_edgesSay_2 5 rfl rfl)
theorem dX3_edgesSay_52 : decode cX3_edgesSay 52 = .ok (.iaload, 1) := dk_46 (dk_at dksX3_edgesSay_2 6 rfl rfl)
theorem dX3_edgesSay_53 : decode cX3_edgesSay 53 = .ok (.aload_n 0, 1) := dk_42 (dk_at dksX3_edgesSay_2 7 rfl rfl)
theorem dX3_edgesSay_54 : decode cX3_edgesSay 54 = .ok (.getfield 7, 3) := dk_180 0 7 (dk_at dksX3_edgesSay_2 8 rfl rfl)
theorem dX3_edgesSay_57 : decode cX3_edgesSay 57 = .ok (.sipush 314, 3) := dk_17 1 58 (dk_at dksX3_edgesSay_2 11 rfl rfl)
theorem dX3_edgesSay_60 : decode cX3_edgesSay 60 = .ok (.iload 5, 2) := dk_21 5 (dk_at dksX3_edgesSay_2 14 rfl rfl)
theorem dX3_edgesSay_62 : decode cX3_edgesSay 62 = .ok (.iadd, 1) := dk_96 (dk_at dksX3_edgesSay_2 16 rfl rfl)
theorem dX3_edgesSay_63 : decode cX3_edgesSay 63 = .ok (.iaload, 1) := dk_46 (dk_at dksX3_edgesSay_2 17 rfl rfl)
theorem dX3_edgesSay_64 : decode cX3_edgesSay 64 = .ok (.invokevirtual 307, 3) := dk_182 1 51 (dk_at dksX3_edgesSay_2 18 rfl rfl)
theorem dX3_edgesSay_67 : decode cX3_edgesSay 67 = .ok (.iload_n 3, 1) := dk_29 (dk_at dksX3_edgesSay_2 21 rfl rfl)
theorem dX3_edgesSay_68 : decode cX3_edgesSay 68 = .ok (.iload 4, 2) := dk_21 4 (dk_at dksX3_edgesSay_2 22 rfl rfl)
theorem dX3_edgesSay_70 : decode cX3_edgesSay 70 = .ok (.invokestatic 330, 3) := dk_184 1 74 (dk_at dksX3_edgesSay_3 0 rfl rfl)
theorem dX3_edgesSay_73 : decode cX3_edgesSay 73 = .ok (.ireturn, 1) := dk_172 (dk_at dksX3_edgesSay_3 3 rfl rfl)
theorem dX3_edgesSay_74 : decode cX3_edgesSay 74 = .ok (.iinc 5 1, 3) := dk_132 5 1 (dk_at dksX3_edgesSay_3 4 rfl rfl)
theorem dX3_edgesSay_77 : decode cX3_edgesSay 77 = .ok (.goto (-74), 3) := dk_167 255 182 (dk_at dksX3_edgesSay_3 7 rfl rfl)
theorem dX3_edgesSay_80 : decode cX3_edgesSay 80 = .ok (.iload_n 2, 1) := dk_28 (dk_at dksX3_edgesSay_3 10 rfl rfl)
theorem dX3_edgesSay_81 : decode cX3_edgesSay 81 = .ok (.ireturn, 1) := dk_172 (dk_at dksX3_edgesSay_3 11 rfl rfl)
abbrev cX3_held : ByteArray := prog_14_method_5_code
def yX3_held : MethodName := ⟨RX3, "held", "(III)I"⟩
def dkwX3_held_0 : List UInt8 := [27, 28, 26, 184, 0, 70, 184, 0, 74, 172]
abbrev dktX3_held_0 : List UInt8 := dkwX3_held_0 ++ []
theorem dksX3_held_0 : cX3_held.data.toList.drop 0 = dktX3_held_0 := by decide +kernel
theorem dX3_held_0 : decode cX3_held 0 = .ok (.iload_n 1, 1) := dk_27 (dk_at dksX3_held_0 0 rfl rfl)
theorem dX3_held_1 : decode cX3_held 1 = .ok (.iload_n 2, 1) := dk_28 (dk_at dksX3_held_0 1 rfl rfl)
theorem dX3_held_2 : decode cX3_held 2 = .ok (.iload_n 0, 1) := dk_26 (dk_at dksX3_held_0 2 rfl rfl)
theorem dX3_held_3 : decode cX3_held 3 = .ok (.invokestatic 70, 3) := dk_184 0 70 (dk_at dksX3_held_0 3 rfl rfl)
theorem dX3_held_6 : decode cX3_held 6 = .ok (.invokestatic 74, 3) := dk_184 0 74 (dk_at dksX3_held_0 6 rfl rfl)
theorem dX3_held_9 : decode cX3_held 9 = .ok (.ireturn, 1) := dk_172 (dk_at dksX3_held_0 9 rfl rfl)
abbrev cX3_moodOf : ByteArray := prog_14_method_64_code
def yX3_moodOf : MethodName := ⟨RX3, "moodOf", "(II)I"⟩
def dkwX3_moodOf_0 : List UInt8 := [42, 27, 28, 182, 1, 60, 42, 16, 23, 3, 16, 236, 16, 20, 182, 1, 77, 172]
abbrev dktX3_moodOf_0 : List UInt8 := dkwX3_moodOf_0 ++ []
theorem dksX3_moodOf_0 : cX3_moodOf.data.toList.drop 0 = dktX3_moodOf_0 := by decide +kernel
theorem dX3_moodOf_0 : decode cX3_moodOf 0 = .ok (.aload_n 0, 1) := dk_42 (dk_at dksX3_moodOf_0 0 rfl rfl)
theorem dX3_moodOf_1 : decode cX3_moodOf 1 = .ok (.iload_n 1, 1) := dk_27 (dk_at dksX3_moodOf_0 1 rfl rfl)
theorem dX3_moodOf_2 : decode cX3_moodOf 2 = .ok (.iload_n 2, 1) := dk_28 (dk_at dksX3_moodOf_0 2 rfl rfl)
theorem dX3_moodOf_3 : decode cX3_moodOf 3 = .ok (.invokevirtual 316, 3) := dk_182 1 60 (dk_at dksX3_moodOf_0 3 rfl rfl)
theorem dX3_moodOf_6 : decode cX3_moodOf 6 = .ok (.aload_n 0, 1) := dk_42 (dk_at dksX3_moodOf_0 6 rfl rfl)
theorem dX3_moodOf_7 : decode cX3_moodOf 7 = .ok (.bipush 23, 2) := dk_16 23 (dk_at dksX3_moodOf_0 7 rfl rfl)
theorem dX3_moodOf_9 : decode cX3_moodOf 9 = .ok (.iconst 0, 1) := dk_3 (dk_at dksX3_moodOf_0 9 rfl rfl)
theorem dX3_moodOf_10 : decode cX3_moodOf 10 = .ok (.bipush (-20), 2) := dk_16 236 (dk_at dksX3_moodOf_0 10 rfl rfl)
theorem dX3_moodOf_12 : decode cX3_moodOf 12 = .ok (.bipush 20, 2) := dk_16 20 (dk_at dksX3_moodOf_0 12 rfl rfl)
theorem dX3_moodOf_14 : decode cX3_moodOf 14 = .ok (.invokevirtual 333, 3) := dk_182 1 77 (dk_at dksX3_moodOf_0 14 rfl rfl)
theorem dX3_moodOf_17 : decode cX3_moodOf 17 = .ok (.ireturn, 1) := dk_172 (dk_at dksX3_moodOf_0 17 rfl rfl)
abbrev cX3_notes : ByteArray := prog_14_method_75_code
def yX3_notes : MethodName := ⟨RX3, "notes", "(III)V"⟩
def dkwX3_notes_3 : List UInt8 := [180, 0, 7, 5, 92, 46, 4, 96, 79, 177]
abbrev dktX3_notes_3 : List UInt8 := dkwX3_notes_3 ++ []
def dkwX3_notes_2 : List UInt8 := [27, 79, 42, 180, 0, 7, 21, 4, 5, 96, 28, 79, 42, 180, 0, 7, 21, 4, 6, 96, 29, 79, 42]
abbrev dktX3_notes_2 : List UInt8 := dkwX3_notes_2 ++ dktX3_notes_3
def dkwX3_notes_1 : List UInt8 := [96, 54, 4, 42, 180, 0, 7, 21, 4, 42, 180, 0, 7, 3, 46, 79, 42, 180, 0, 7, 21, 4, 4, 96]
abbrev dktX3_notes_1 : List UInt8 := dkwX3_notes_1 ++ dktX3_notes_2
def dkwX3_notes_0 : List UInt8 := [42, 180, 0, 7, 5, 46, 17, 0, 200, 160, 0, 4, 177, 17, 7, 242, 7, 42, 180, 0, 7, 5, 46, 104]
abbrev dktX3_notes_0 : List UInt8 := dkwX3_notes_0 ++ dktX3_notes_1
theorem dksX3_notes_0 : cX3_notes.data.toList.drop 0 = dktX3_notes_0 := by decide +kernel
theorem dksX3_notes_1 : cX3_notes.data.toList.drop 24 = dktX3_notes_1 := dk_seg dksX3_notes_0 24 rfl rfl
theorem dksX3_notes_2 : cX3_notes.data.toList.drop 48 = dktX3_notes_2 := dk_seg dksX3_notes_1 24 rfl rfl
theorem dksX3_notes_3 : cX3_notes.data.toList.drop 71 = dktX3_notes_3 := dk_seg dksX3_notes_2 23 rfl rfl
theorem dX3_notes_0 : decode cX3_notes 0 = .ok (.aload_n 0, 1) := dk_42 (dk_at dksX3_notes_0 0 rfl rfl)
theorem dX3_notes_1 : decode cX3_notes 1 = .ok (.getfield 7, 3) := dk_180 0 7 (dk_at dksX3_notes_0 1 rfl rfl)
theorem dX3_notes_4 : decode cX3_notes 4 = .ok (.iconst 2, 1) := dk_5 (dk_at dksX3_notes_0 4 rfl rfl)
theorem dX3_notes_5 : decode cX3_notes 5 = .ok (.iaload, 1) := dk_46 (dk_at dksX3_notes_0 5 rfl rfl)
theorem dX3_notes_6 : decode cX3_notes 6 = .ok (.sipush 200, 3) := dk_17 0 200 (dk_at dksX3_notes_0 6 rfl rfl)
theorem dX3_notes_9 : decode cX3_notes 9 = .ok (.if_icmp .ne 4, 3) := dk_160 0 4 (dk_at dksX3_notes_0 9 rfl rfl)
theorem dX3_notes_12 : decode cX3_notes 12 = .ok (.return_, 1) := dk_177 (dk_at dksX3_notes_0 12 rfl rfl)
theorem dX3_notes_13 : decode cX3_notes 13 = .ok (.sipush 2034, 3) := dk_17 7 242 (dk_at dksX3_notes_0 13 rfl rfl)
theorem dX3_notes_16 : decode cX3_notes 16 = .ok (.iconst 4, 1) := dk_7 (dk_at dksX3_notes_0 16 rfl rfl)
theorem dX3_notes_17 : decode cX3_notes 17 = .ok (.aload_n 0, 1) := dk_42 (dk_at dksX3_notes_0 17 rfl rfl)
theorem dX3_notes_18 : decode cX3_notes 18 = .ok (.getfield 7, 3) := dk_180 0 7 (dk_at dksX3_notes_0 18 rfl rfl)
theorem dX3_notes_21 : decode cX3_notes 21 = .ok (.iconst 2, 1) := dk_5 (dk_at dksX3_notes_0 21 rfl rfl)
theorem dX3_notes_22 : decode cX3_notes 22 = .ok (.iaload, 1) := dk_46 (dk_at dksX3_notes_0 22 rfl rfl)
theorem dX3_notes_23 : decode cX3_notes 23 = .ok (.imul, 1) := dk_104 (dk_at dksX3_notes_0 23 rfl rfl)
theorem dX3_notes_24 : decode cX3_notes 24 = .ok (.iadd, 1) := dk_96 (dk_at dksX3_notes_1 0 rfl rfl)
theorem dX3_notes_25 : decode cX3_notes 25 = .ok (.istore 4, 2) := dk_54 4 (dk_at dksX3_notes_1 1 rfl rfl)
theorem dX3_notes_27 : decode cX3_notes 27 = .ok (.aload_n 0, 1) := dk_42 (dk_at dksX3_notes_1 3 rfl rfl)
theorem dX3_notes_28 : decode cX3_notes 28 = .ok (.getfield 7, 3) := dk_180 0 7 (dk_at dksX3_notes_1 4 rfl rfl)
theorem dX3_notes_31 : decode cX3_notes 31 = .ok (.iload 4, 2) := dk_21 4 (dk_at dksX3_notes_1 7 rfl rfl)
theorem dX3_notes_33 : decode cX3_notes 33 = .ok (.aload_n 0, 1) := dk_42 (dk_at dksX3_notes_1 9 rfl rfl)
theorem dX3_notes_34 : decode cX3_notes 34 = .ok (.getfield 7, 3) := dk_180 0 7 (dk_at dksX3_notes_1 10 rfl rfl)
theorem dX3_notes_37 : decode cX3_notes 37 = .ok (.iconst 0, 1) := dk_3 (dk_at dksX3_notes_1 13 rfl rfl)
theorem dX3_notes_38 : decode cX3_notes 38 = .ok (.iaload, 1) := dk_46 (dk_at dksX3_notes_1 14 rfl rfl)
theorem dX3_notes_39 : decode cX3_notes 39 = .ok (.iastore, 1) := dk_79 (dk_at dksX3_notes_1 15 rfl rfl)
theorem dX3_notes_40 : decode cX3_notes 40 = .ok (.aload_n 0, 1) := dk_42 (dk_at dksX3_notes_1 16 rfl rfl)
theorem dX3_notes_41 : decode cX3_notes 41 = .ok (.getfield 7, 3) := dk_180 0 7 (dk_at dksX3_notes_1 17 rfl rfl)
theorem dX3_notes_44 : decode cX3_notes 44 = .ok (.iload 4, 2) := dk_21 4 (dk_at dksX3_notes_1 20 rfl rfl)
theorem dX3_notes_46 : decode cX3_notes 46 = .ok (.iconst 1, 1) := dk_4 (dk_at dksX3_notes_1 22 rfl rfl)
theorem dX3_notes_47 : decode cX3_notes 47 = .ok (.iadd, 1) := dk_96 (dk_at dksX3_notes_1 23 rfl rfl)
theorem dX3_notes_48 : decode cX3_notes 48 = .ok (.iload_n 1, 1) := dk_27 (dk_at dksX3_notes_2 0 rfl rfl)
theorem dX3_notes_49 : decode cX3_notes 49 = .ok (.iastore, 1) := dk_79 (dk_at dksX3_notes_2 1 rfl rfl)
theorem dX3_notes_50 : decode cX3_notes 50 = .ok (.aload_n 0, 1) := dk_42 (dk_at dksX3_notes_2 2 rfl rfl)
theorem dX3_notes_51 : decode cX3_notes 51 = .ok (.getfield 7, 3) := dk_180 0 7 (dk_at dksX3_notes_2 3 rfl rfl)
theorem dX3_notes_54 : decode cX3_notes 54 = .ok (.iload 4, 2) := dk_21 4 (dk_at dksX3_notes_2 6 rfl rfl)
theorem dX3_notes_56 : decode cX3_notes 56 = .ok (.iconst 2, 1) := dk_5 (dk_at dksX3_notes_2 8 rfl rfl)
theorem dX3_notes_57 : decode cX3_notes 57 = .ok (.iadd, 1) := dk_96 (dk_at dksX3_notes_2 9 rfl rfl)
theorem dX3_notes_58 : decode cX3_notes 58 = .ok (.iload_n 2, 1) := dk_28 (dk_at dksX3_notes_2 10 rfl rfl)
theorem dX3_notes_59 : decode cX3_notes 59 = .ok (.iastore, 1) := dk_79 (dk_at dksX3_notes_2 11 rfl rfl)
theorem dX3_notes_60 : decode cX3_notes 60 = .ok (.aload_n 0, 1) := dk_42 (dk_at dksX3_notes_2 12 rfl rfl)
theorem dX3_notes_61 : decode cX3_notes 61 = .ok (.getfield 7, 3) := dk_180 0 7 (dk_at dksX3_notes_2 13 rfl rfl)
theorem dX3_notes_64 : decode cX3_notes 64 = .ok (.iload 4, 2) := dk_21 4 (dk_at dksX3_notes_2 16 rfl rfl)
theorem dX3_notes_66 : decode cX3_notes 66 = .ok (.iconst 3, 1) := dk_6 (dk_at dksX3_notes_2 18 rfl rfl)
theorem dX3_notes_67 : decode cX3_notes 67 = .ok (.iadd, 1) := dk_96 (dk_at dksX3_notes_2 19 rfl rfl)
theorem dX3_notes_68 : decode cX3_notes 68 = .ok (.iload_n 3, 1) := dk_29 (dk_at dksX3_notes_2 20 rfl rfl)
theorem dX3_notes_69 : decode cX3_notes 69 = .ok (.iastore, 1) := dk_79 (dk_at dksX3_notes_2 21 rfl rfl)
theorem dX3_notes_70 : decode cX3_notes 70 = .ok (.aload_n 0, 1) := dk_42 (dk_at dksX3_notes_2 22 rfl rfl)
theorem dX3_notes_71 : decode cX3_notes 71 = .ok (.getfield 7, 3) := dk_180 0 7 (dk_at dksX3_notes_3 0 rfl rfl)
theorem dX3_notes_74 : decode cX3_notes 74 = .ok (.iconst 2, 1) := dk_5 (dk_at dksX3_notes_3 3 rfl rfl)
theorem dX3_notes_75 : decode cX3_notes 75 = .ok (.dup2, 1) := dk_92 (dk_at dksX3_notes_3 4 rfl rfl)
theorem dX3_notes_76 : decode cX3_notes 76 = .ok (.iaload, 1) := dk_46 (dk_at dksX3_notes_3 5 rfl rfl)
theorem dX3_notes_77 : decode cX3_notes 77 = .ok (.iconst 1, 1) := dk_4 (dk_at dksX3_notes_3 6 rfl rfl)
theorem dX3_notes_78 : decode cX3_notes 78 = .ok (.iadd, 1) := dk_96 (dk_at dksX3_notes_3 7 rfl rfl)
theorem dX3_notes_79 : decode cX3_notes 79 = .ok (.iastore, 1) := dk_79 (dk_at dksX3_notes_3 8 rfl rfl)
theorem dX3_notes_80 : decode cX3_notes 80 = .ok (.return_, 1) := dk_177 (dk_at dksX3_notes_3 9 rfl rfl)
abbrev cX3_draw : ByteArray := prog_14_method_15_code
def yX3_draw : MethodName := ⟨RX3, "draw", "(I)I"⟩
def dkwX3_draw_1 : List UInt8 := [16, 8, 124, 27, 112, 172]
abbrev dktX3_draw_1 : List UInt8 := dkwX3_draw_1 ++ []
def dkwX3_draw_0 : List UInt8 := [42, 180, 0, 7, 6, 18, 87, 42, 180, 0, 7, 6, 46, 104, 18, 88, 96, 79, 42, 180, 0, 7, 6, 46]
abbrev dktX3_draw_0 : List UInt8 := dkwX3_draw_0 ++ dktX3_draw_1
theorem dksX3_draw_0 : cX3_draw.data.toList.drop 0 = dktX3_draw_0 := by decide +kernel
theorem dksX3_draw_1 : cX3_draw.data.toList.drop 24 = dktX3_draw_1 := dk_seg dksX3_draw_0 24 rfl rfl
theorem dX3_draw_0 : decode cX3_draw 0 = .ok (.aload_n 0, 1) := dk_42 (dk_at dksX3_draw_0 0 rfl rfl)
theorem dX3_draw_1 : decode cX3_draw 1 = .ok (.getfield 7, 3) := dk_180 0 7 (dk_at dksX3_draw_0 1 rfl rfl)
theorem dX3_draw_4 : decode cX3_draw 4 = .ok (.iconst 3, 1) := dk_6 (dk_at dksX3_draw_0 4 rfl rfl)
theorem dX3_draw_5 : decode cX3_draw 5 = .ok (.ldc 87, 2) := dk_18 87 (dk_at dksX3_draw_0 5 rfl rfl)
theorem dX3_draw_7 : decode cX3_draw 7 = .ok (.aload_n 0, 1) := dk_42 (dk_at dksX3_draw_0 7 rfl rfl)
theorem dX3_draw_8 : decode cX3_draw 8 = .ok (.getfield 7, 3) := dk_180 0 7 (dk_at dksX3_draw_0 8 rfl rfl)
theorem dX3_draw_11 : decode cX3_draw 11 = .ok (.iconst 3, 1) := dk_6 (dk_at dksX3_draw_0 11 rfl rfl)
theorem dX3_draw_12 : decode cX3_draw 12 = .ok (.iaload, 1) := dk_46 (dk_at dksX3_draw_0 12 rfl rfl)
theorem dX3_draw_13 : decode cX3_draw 13 = .ok (.imul, 1) := dk_104 (dk_at dksX3_draw_0 13 rfl rfl)
theorem dX3_draw_14 : decode cX3_draw 14 = .ok (.ldc 88, 2) := dk_18 88 (dk_at dksX3_draw_0 14 rfl rfl)
theorem dX3_draw_16 : decode cX3_draw 16 = .ok (.iadd, 1) := dk_96 (dk_at dksX3_draw_0 16 rfl rfl)
theorem dX3_draw_17 : decode cX3_draw 17 = .ok (.iastore, 1) := dk_79 (dk_at dksX3_draw_0 17 rfl rfl)
theorem dX3_draw_18 : decode cX3_draw 18 = .ok (.aload_n 0, 1) := dk_42 (dk_at dksX3_draw_0 18 rfl rfl)
theorem dX3_draw_19 : decode cX3_draw 19 = .ok (.getfield 7, 3) := dk_180 0 7 (dk_at dksX3_draw_0 19 rfl rfl)
theorem dX3_draw_22 : decode cX3_draw 22 = .ok (.iconst 3, 1) := dk_6 (dk_at dksX3_draw_0 22 rfl rfl)
theorem dX3_draw_23 : decode cX3_draw 23 = .ok (.iaload, 1) := dk_46 (dk_at dksX3_draw_0 23 rfl rfl)
theorem dX3_draw_24 : decode cX3_draw 24 = .ok (.bipush 8, 2) := dk_16 8 (dk_at dksX3_draw_1 0 rfl rfl)
theorem dX3_draw_26 : decode cX3_draw 26 = .ok (.iushr, 1) := dk_124 (dk_at dksX3_draw_1 2 rfl rfl)
theorem dX3_draw_27 : decode cX3_draw 27 = .ok (.iload_n 1, 1) := dk_27 (dk_at dksX3_draw_1 3 rfl rfl)
theorem dX3_draw_28 : decode cX3_draw 28 = .ok (.irem, 1) := dk_112 (dk_at dksX3_draw_1 4 rfl rfl)
theorem dX3_draw_29 : decode cX3_draw 29 = .ok (.ireturn, 1) := dk_172 (dk_at dksX3_draw_1 5 rfl rfl)
abbrev cX3_runs : ByteArray := prog_14_method_82_code
def yX3_runs : MethodName := ⟨RX3, "runs", "(II)I"⟩
def dkwX3_runs_5 : List UInt8 := [42, 180, 1, 111, 172, 29, 172, 42, 180, 1, 124, 172, 42, 180, 1, 121, 172]
abbrev dktX3_runs_5 : List UInt8 := dkwX3_runs_5 ++ []
def dkwX3_runs_4 : List UInt8 := [170, 0, 0, 0, 0, 38, 0, 0, 0, 0, 0, 0, 0, 2, 0, 0, 0, 26, 0, 0, 0, 31, 0, 0, 0, 33]
abbrev dktX3_runs_4 : List UInt8 := dkwX3_runs_4 ++ dktX3_runs_5
def dkwX3_runs_3 : List UInt8 := [28]
abbrev dktX3_runs_3 : List UInt8 := dkwX3_runs_3 ++ dktX3_runs_4
def dkwX3_runs_2 : List UInt8 := [21, 4, 27, 162, 0, 17, 29, 42, 3, 182, 1, 130, 96, 62, 132, 4, 1, 167, 255, 239, 42, 182, 1, 137]
abbrev dktX3_runs_2 : List UInt8 := dkwX3_runs_2 ++ dktX3_runs_3
def dkwX3_runs_1 : List UInt8 := [182, 1, 134, 42, 2, 181, 1, 121, 42, 2, 181, 1, 124, 42, 3, 181, 1, 111, 3, 62, 3, 54, 4]
abbrev dktX3_runs_1 : List UInt8 := dkwX3_runs_1 ++ dktX3_runs_2
def dkwX3_runs_0 : List UInt8 := [27, 4, 16, 99, 184, 0, 77, 153, 0, 12, 28, 3, 6, 184, 0, 77, 154, 0, 5, 2, 172, 42]
abbrev dktX3_runs_0 : List UInt8 := dkwX3_runs_0 ++ dktX3_runs_1
theorem dksX3_runs_0 : cX3_runs.data.toList.drop 0 = dktX3_runs_0 := by decide +kernel
theorem dksX3_runs_1 : cX3_runs.data.toList.drop 22 = dktX3_runs_1 := dk_seg dksX3_runs_0 22 rfl rfl
theorem dksX3_runs_2 : cX3_runs.data.toList.drop 45 = dktX3_runs_2 := dk_seg dksX3_runs_1 23 rfl rfl
theorem dksX3_runs_3 : cX3_runs.data.toList.drop 69 = dktX3_runs_3 := dk_seg dksX3_runs_2 24 rfl rfl
theorem dksX3_runs_4 : cX3_runs.data.toList.drop 70 = dktX3_runs_4 := dk_seg dksX3_runs_3 1 rfl rfl
theorem dksX3_runs_5 : cX3_runs.data.toList.drop 96 = dktX3_runs_5 := dk_seg dksX3_runs_4 26 rfl rfl
theorem dX3_runs_0 : decode cX3_runs 0 = .ok (.iload_n 1, 1) := dk_27 (dk_at dksX3_runs_0 0 rfl rfl)
theorem dX3_runs_1 : decode cX3_runs 1 = .ok (.iconst 1, 1) := dk_4 (dk_at dksX3_runs_0 1 rfl rfl)
theorem dX3_runs_2 : decode cX3_runs 2 = .ok (.bipush 99, 2) := dk_16 99 (dk_at dksX3_runs_0 2 rfl rfl)
theorem dX3_runs_4 : decode cX3_runs 4 = .ok (.invokestatic 77, 3) := dk_184 0 77 (dk_at dksX3_runs_0 4 rfl rfl)
theorem dX3_runs_7 : decode cX3_runs 7 = .ok (.ifCond .eq 12, 3) := dk_153 0 12 (dk_at dksX3_runs_0 7 rfl rfl)
theorem dX3_runs_10 : decode cX3_runs 10 = .ok (.iload_n 2, 1) := dk_28 (dk_at dksX3_runs_0 10 rfl rfl)
theorem dX3_runs_11 : decode cX3_runs 11 = .ok (.iconst 0, 1) := dk_3 (dk_at dksX3_runs_0 11 rfl rfl)
theorem dX3_runs_12 : decode cX3_runs 12 = .ok (.iconst 3, 1) := dk_6 (dk_at dksX3_runs_0 12 rfl rfl)
theorem dX3_runs_13 : decode cX3_runs 13 = .ok (.invokestatic 77, 3) := dk_184 0 77 (dk_at dksX3_runs_0 13 rfl rfl)
theorem dX3_runs_16 : decode cX3_runs 16 = .ok (.ifCond .ne 5, 3) := dk_154 0 5 (dk_at dksX3_runs_0 16 rfl rfl)
theorem dX3_runs_19 : decode cX3_runs 19 = .ok (.iconst (-1), 1) := dk_2 (dk_at dksX3_runs_0 19 rfl rfl)
theorem dX3_runs_20 : decode cX3_runs 20 = .ok (.ireturn, 1) := dk_172 (dk_at dksX3_runs_0 20 rfl rfl)
theorem dX3_runs_21 : decode cX3_runs 21 = .ok (.aload_n 0, 1) := dk_42 (dk_at dksX3_runs_0 21 rfl rfl)
theorem dX3_runs_22 : decode cX3_runs 22 = .ok (.invokevirtual 390, 3) := dk_182 1 134 (dk_at dksX3_runs_1 0 rfl rfl)
theorem dX3_runs_25 : decode cX3_runs 25 = .ok (.aload_n 0, 1) := dk_42 (dk_at dksX3_runs_1 3 rfl rfl)
theorem dX3_runs_26 : decode cX3_runs 26 = .ok (.iconst (-1), 1) := dk_2 (dk_at dksX3_runs_1 4 rfl rfl)
theorem dX3_runs_27 : decode cX3_runs 27 = .ok (.putfield 377, 3) := dk_181 1 121 (dk_at dksX3_runs_1 5 rfl rfl)
theorem dX3_runs_30 : decode cX3_runs 30 = .ok (.aload_n 0, 1) := dk_42 (dk_at dksX3_runs_1 8 rfl rfl)
theorem dX3_runs_31 : decode cX3_runs 31 = .ok (.iconst (-1), 1) := dk_2 (dk_at dksX3_runs_1 9 rfl rfl)
theorem dX3_runs_32 : decode cX3_runs 32 = .ok (.putfield 380, 3) := dk_181 1 124 (dk_at dksX3_runs_1 10 rfl rfl)
theorem dX3_runs_35 : decode cX3_runs 35 = .ok (.aload_n 0, 1) := dk_42 (dk_at dksX3_runs_1 13 rfl rfl)
theorem dX3_runs_36 : decode cX3_runs 36 = .ok (.iconst 0, 1) := dk_3 (dk_at dksX3_runs_1 14 rfl rfl)
theorem dX3_runs_37 : decode cX3_runs 37 = .ok (.putfield 367, 3) := dk_181 1 111 (dk_at dksX3_runs_1 15 rfl rfl)
theorem dX3_runs_40 : decode cX3_runs 40 = .ok (.iconst 0, 1) := dk_3 (dk_at dksX3_runs_1 18 rfl rfl)
theorem dX3_runs_41 : decode cX3_runs 41 = .ok (.istore_n 3, 1) := dk_62 (dk_at dksX3_runs_1 19 rfl rfl)
theorem dX3_runs_42 : decode cX3_runs 42 = .ok (.iconst 0, 1) := dk_3 (dk_at dksX3_runs_1 20 rfl rfl)
theorem dX3_runs_43 : decode cX3_runs 43 = .ok (.istore 4, 2) := dk_54 4 (dk_at dksX3_runs_1 21 rfl rfl)
theorem dX3_runs_45 : decode cX3_runs 45 = .ok (.iload 4, 2) := dk_21 4 (dk_at dksX3_runs_2 0 rfl rfl)
theorem dX3_runs_47 : decode cX3_runs 47 = .ok (.iload_n 1, 1) := dk_27 (dk_at dksX3_runs_2 2 rfl rfl)
theorem dX3_runs_48 : decode cX3_runs 48 = .ok (.if_icmp .ge 17, 3) := dk_162 0 17 (dk_at dksX3_runs_2 3 rfl rfl)
theorem dX3_runs_51 : decode cX3_runs 51 = .ok (.iload_n 3, 1) := dk_29 (dk_at dksX3_runs_2 6 rfl rfl)
theorem dX3_runs_52 : decode cX3_runs 52 = .ok (.aload_n 0, 1) := dk_42 (dk_at dksX3_runs_2 7 rfl rfl)
theorem dX3_runs_53 : decode cX3_runs 53 = .ok (.iconst 0, 1) := dk_3 (dk_at dksX3_runs_2 8 rfl rfl)
theorem dX3_runs_54 : decode cX3_runs 54 = .ok (.invokevirtual 386, 3) := dk_182 1 130 (dk_at dksX3_runs_2 9 rfl rfl)
theorem dX3_runs_57 : decode cX3_runs 57 = .ok (.iadd, 1) := dk_96 (dk_at dksX3_runs_2 12 rfl rfl)
theorem dX3_runs_58 : decode cX3_runs 58 = .ok (.istore_n 3, 1) := dk_62 (dk_at dksX3_runs_2 13 rfl rfl)
theorem dX3_runs_59 : decode cX3_runs 59 = .ok (.iinc 4 1, 3) := dk_132 4 1 (dk_at dksX3_runs_2 14 rfl rfl)
theorem dX3_runs_62 : decode cX3_runs 62 = .ok (.goto (-17), 3) := dk_167 255 239 (dk_at dksX3_runs_2 17 rfl rfl)
theorem dX3_runs_65 : decode cX3_runs 65 = .ok (.aload_n 0, 1) := dk_42 (dk_at dksX3_runs_2 20 rfl rfl)
theorem dX3_runs_66 : decode cX3_runs 66 = .ok (.invokevirtual 393, 3) := dk_182 1 137 (dk_at dksX3_runs_2 21 rfl rfl)
theorem dX3_runs_69 : decode cX3_runs 69 = .ok (.iload_n 2, 1) := dk_28 (dk_at dksX3_runs_3 0 rfl rfl)
theorem dX3_runs_70 : decode cX3_runs 70 = .ok (.tableswitch 38 0 2 #[26, 31, 33], 26) := by decide +kernel
theorem dX3_runs_96 : decode cX3_runs 96 = .ok (.aload_n 0, 1) := dk_42 (dk_at dksX3_runs_5 0 rfl rfl)
theorem dX3_runs_97 : decode cX3_runs 97 = .ok (.getfield 367, 3) := dk_180 1 111 (dk_at dksX3_runs_5 1 rfl rfl)
theorem dX3_runs_100 : decode cX3_runs 100 = .ok (.ireturn, 1) := dk_172 (dk_at dksX3_runs_5 4 rfl rfl)
theorem dX3_runs_101 : decode cX3_runs 101 = .ok (.iload_n 3, 1) := dk_29 (dk_at dksX3_runs_5 5 rfl rfl)
theorem dX3_runs_102 : decode cX3_runs 102 = .ok (.ireturn, 1) := dk_172 (dk_at dksX3_runs_5 6 rfl rfl)
theorem dX3_runs_103 : decode cX3_runs 103 = .ok (.aload_n 0, 1) := dk_42 (dk_at dksX3_runs_5 7 rfl rfl)
theorem dX3_runs_104 : decode cX3_runs 104 = .ok (.getfield 380, 3) := dk_180 1 124 (dk_at dksX3_runs_5 8 rfl rfl)
theorem dX3_runs_107 : decode cX3_runs 107 = .ok (.ireturn, 1) := dk_172 (dk_at dksX3_runs_5 11 rfl rfl)
theorem dX3_runs_108 : decode cX3_runs 108 = .ok (.aload_n 0, 1) := dk_42 (dk_at dksX3_runs_5 12 rfl rfl)
theorem dX3_runs_109 : decode cX3_runs 109 = .ok (.getfield 377, 3) := dk_180 1 121 (dk_at dksX3_runs_5 13 rfl rfl)
theorem dX3_runs_112 : decode cX3_runs 112 = .ok (.ireturn, 1) := dk_172 (dk_at dksX3_runs_5 16 rfl rfl)
abbrev cX3_laysAside : ByteArray := prog_14_method_80_code
def yX3_laysAside : MethodName := ⟨RX3, "laysAside", "()V"⟩
def dkwX3_laysAside_1 : List UInt8 := [167, 255, 235, 177]
abbrev dktX3_laysAside_1 : List UInt8 := dkwX3_laysAside_1 ++ []
def dkwX3_laysAside_0 : List UInt8 := [3, 60, 27, 16, 96, 162, 0, 21, 42, 180, 0, 19, 27, 42, 180, 0, 7, 27, 46, 79, 132, 1, 1]
abbrev dktX3_laysAside_0 : List UInt8 := dkwX3_laysAside_0 ++ dktX3_laysAside_1
theorem dksX3_laysAside_0 : cX3_laysAside.data.toList.drop 0 = dktX3_laysAside_0 := by decide +kernel
theorem dksX3_laysAside_1 : cX3_laysAside.data.toList.drop 23 = dktX3_laysAside_1 := dk_seg dksX3_laysAside_0 23 rfl rfl
theorem dX3_laysAside_0 : decode cX3_laysAside 0 = .ok (.iconst 0, 1) := dk_3 (dk_at dksX3_laysAside_0 0 rfl rfl)
theorem dX3_laysAside_1 : decode cX3_laysAside 1 = .ok (.istore_n 1, 1) := dk_60 (dk_at dksX3_laysAside_0 1 rfl rfl)
theorem dX3_laysAside_2 : decode cX3_laysAside 2 = .ok (.iload_n 1, 1) := dk_27 (dk_at dksX3_laysAside_0 2 rfl rfl)
theorem dX3_laysAside_3 : decode cX3_laysAside 3 = .ok (.bipush 96, 2) := dk_16 96 (dk_at dksX3_laysAside_0 3 rfl rfl)
theorem dX3_laysAside_5 : decode cX3_laysAside 5 = .ok (.if_icmp .ge 21, 3) := dk_162 0 21 (dk_at dksX3_laysAside_0 5 rfl rfl)
theorem dX3_laysAside_8 : decode cX3_laysAside 8 = .ok (.aload_n 0, 1) := dk_42 (dk_at dksX3_laysAside_0 8 rfl rfl)
theorem dX3_laysAside_9 : decode cX3_laysAside 9 = .ok (.getfield 19, 3) := dk_180 0 19 (dk_at dksX3_laysAside_0 9 rfl rfl)
theorem dX3_laysAside_12 : decode cX3_laysAside 12 = .ok (.iload_n 1, 1) := dk_27 (dk_at dksX3_laysAside_0 12 rfl rfl)
theorem dX3_laysAside_13 : decode cX3_laysAside 13 = .ok (.aload_n 0, 1) := dk_42 (dk_at dksX3_laysAside_0 13 rfl rfl)
theorem dX3_laysAside_14 : decode cX3_laysAside 14 = .ok (.getfield 7, 3) := dk_180 0 7 (dk_at dksX3_laysAside_0 14 rfl rfl)
theorem dX3_laysAside_17 : decode cX3_laysAside 17 = .ok (.iload_n 1, 1) := dk_27 (dk_at dksX3_laysAside_0 17 rfl rfl)
theorem dX3_laysAside_18 : decode cX3_laysAside 18 = .ok (.iaload, 1) := dk_46 (dk_at dksX3_laysAside_0 18 rfl rfl)
theorem dX3_laysAside_19 : decode cX3_laysAside 19 = .ok (.iastore, 1) := dk_79 (dk_at dksX3_laysAside_0 19 rfl rfl)
theorem dX3_laysAside_20 : decode cX3_laysAside 20 = .ok (.iinc 1 1, 3) := dk_132 1 1 (dk_at dksX3_laysAside_0 20 rfl rfl)
theorem dX3_laysAside_23 : decode cX3_laysAside 23 = .ok (.goto (-21), 3) := dk_167 255 235 (dk_at dksX3_laysAside_1 0 rfl rfl)
theorem dX3_laysAside_26 : decode cX3_laysAside 26 = .ok (.return_, 1) := dk_177 (dk_at dksX3_laysAside_1 3 rfl rfl)
abbrev cX3_putsBack : ByteArray := prog_14_method_81_code
def yX3_putsBack : MethodName := ⟨RX3, "putsBack", "()V"⟩
def dkwX3_putsBack_1 : List UInt8 := [167, 255, 235, 177]
abbrev dktX3_putsBack_1 : List UInt8 := dkwX3_putsBack_1 ++ []
def dkwX3_putsBack_0 : List UInt8 := [3, 60, 27, 16, 96, 162, 0, 21, 42, 180, 0, 7, 27, 42, 180, 0, 19, 27, 46, 79, 132, 1, 1]
abbrev dktX3_putsBack_0 : List UInt8 := dkwX3_putsBack_0 ++ dktX3_putsBack_1
theorem dksX3_putsBack_0 : cX3_putsBack.data.toList.drop 0 = dktX3_putsBack_0 := by decide +kernel
theorem dksX3_putsBack_1 : cX3_putsBack.data.toList.drop 23 = dktX3_putsBack_1 := dk_seg dksX3_putsBack_0 23 rfl rfl
theorem dX3_putsBack_0 : decode cX3_putsBack 0 = .ok (.iconst 0, 1) := dk_3 (dk_at dksX3_putsBack_0 0 rfl rfl)
theorem dX3_putsBack_1 : decode cX3_putsBack 1 = .ok (.istore_n 1, 1) := dk_60 (dk_at dksX3_putsBack_0 1 rfl rfl)
theorem dX3_putsBack_2 : decode cX3_putsBack 2 = .ok (.iload_n 1, 1) := dk_27 (dk_at dksX3_putsBack_0 2 rfl rfl)
theorem dX3_putsBack_3 : decode cX3_putsBack 3 = .ok (.bipush 96, 2) := dk_16 96 (dk_at dksX3_putsBack_0 3 rfl rfl)
theorem dX3_putsBack_5 : decode cX3_putsBack 5 = .ok (.if_icmp .ge 21, 3) := dk_162 0 21 (dk_at dksX3_putsBack_0 5 rfl rfl)
theorem dX3_putsBack_8 : decode cX3_putsBack 8 = .ok (.aload_n 0, 1) := dk_42 (dk_at dksX3_putsBack_0 8 rfl rfl)
theorem dX3_putsBack_9 : decode cX3_putsBack 9 = .ok (.getfield 7, 3) := dk_180 0 7 (dk_at dksX3_putsBack_0 9 rfl rfl)
theorem dX3_putsBack_12 : decode cX3_putsBack 12 = .ok (.iload_n 1, 1) := dk_27 (dk_at dksX3_putsBack_0 12 rfl rfl)
theorem dX3_putsBack_13 : decode cX3_putsBack 13 = .ok (.aload_n 0, 1) := dk_42 (dk_at dksX3_putsBack_0 13 rfl rfl)
theorem dX3_putsBack_14 : decode cX3_putsBack 14 = .ok (.getfield 19, 3) := dk_180 0 19 (dk_at dksX3_putsBack_0 14 rfl rfl)
theorem dX3_putsBack_17 : decode cX3_putsBack 17 = .ok (.iload_n 1, 1) := dk_27 (dk_at dksX3_putsBack_0 17 rfl rfl)
theorem dX3_putsBack_18 : decode cX3_putsBack 18 = .ok (.iaload, 1) := dk_46 (dk_at dksX3_putsBack_0 18 rfl rfl)
theorem dX3_putsBack_19 : decode cX3_putsBack 19 = .ok (.iastore, 1) := dk_79 (dk_at dksX3_putsBack_0 19 rfl rfl)
theorem dX3_putsBack_20 : decode cX3_putsBack 20 = .ok (.iinc 1 1, 3) := dk_132 1 1 (dk_at dksX3_putsBack_0 20 rfl rfl)
theorem dX3_putsBack_23 : decode cX3_putsBack 23 = .ok (.goto (-21), 3) := dk_167 255 235 (dk_at dksX3_putsBack_1 0 rfl rfl)
theorem dX3_putsBack_26 : decode cX3_putsBack 26 = .ok (.return_, 1) := dk_177 (dk_at dksX3_putsBack_1 3 rfl rfl)
abbrev cX3_ready : ByteArray := prog_14_method_83_code
def yX3_ready : MethodName := ⟨RX3, "ready", "()I"⟩
def dkwX3_ready_2 : List UInt8 := [132, 2, 1, 167, 255, 215, 42, 182, 1, 137, 27, 172]
abbrev dktX3_ready_2 : List UInt8 := dkwX3_ready_2 ++ []
def dkwX3_ready_1 : List UInt8 := [182, 1, 140, 160, 0, 13, 42, 180, 0, 7, 3, 46, 60, 167, 0, 9, 42, 3, 182, 1, 130, 87]
abbrev dktX3_ready_1 : List UInt8 := dkwX3_ready_1 ++ dktX3_ready_2
def dkwX3_ready_0 : List UInt8 := [42, 182, 1, 134, 2, 60, 3, 61, 28, 16, 99, 163, 0, 41, 27, 2, 160, 0, 36, 42, 182, 1, 87, 42]
abbrev dktX3_ready_0 : List UInt8 := dkwX3_ready_0 ++ dktX3_ready_1
theorem dksX3_ready_0 : cX3_ready.data.toList.drop 0 = dktX3_ready_0 := by decide +kernel
theorem dksX3_ready_1 : cX3_ready.data.toList.drop 24 = dktX3_ready_1 := dk_seg dksX3_ready_0 24 rfl rfl
theorem dksX3_ready_2 : cX3_ready.data.toList.drop 46 = dktX3_ready_2 := dk_seg dksX3_ready_1 22 rfl rfl
theorem dX3_ready_0 : decode cX3_ready 0 = .ok (.aload_n 0, 1) := dk_42 (dk_at dksX3_ready_0 0 rfl rfl)
theorem dX3_ready_1 : decode cX3_ready 1 = .ok (.invokevirtual 390, 3) := dk_182 1 134 (dk_at dksX3_ready_0 1 rfl rfl)
theorem dX3_ready_4 : decode cX3_ready 4 = .ok (.iconst (-1), 1) := dk_2 (dk_at dksX3_ready_0 4 rfl rfl)
theorem dX3_ready_5 : decode cX3_ready 5 = .ok (.istore_n 1, 1) := dk_60 (dk_at dksX3_ready_0 5 rfl rfl)
theorem dX3_ready_6 : decode cX3_ready 6 = .ok (.iconst 0, 1) := dk_3 (dk_at dksX3_ready_0 6 rfl rfl)
theorem dX3_ready_7 : decode cX3_ready 7 = .ok (.istore_n 2, 1) := dk_61 (dk_at dksX3_ready_0 7 rfl rfl)
theorem dX3_ready_8 : decode cX3_ready 8 = .ok (.iload_n 2, 1) := dk_28 (dk_at dksX3_ready_0 8 rfl rfl)
theorem dX3_ready_9 : decode cX3_ready 9 = .ok (.bipush 99, 2) := dk_16 99 (dk_at dksX3_ready_0 9 rfl rfl)
theorem dX3_ready_11 : decode cX3_ready 11 = .ok (.if_icmp .gt 41, 3) := dk_163 0 41 (dk_at dksX3_ready_0 11 rfl rfl)
theorem dX3_ready_14 : decode cX3_ready 14 = .ok (.iload_n 1, 1) := dk_27 (dk_at dksX3_ready_0 14 rfl rfl)
theorem dX3_ready_15 : decode cX3_ready 15 = .ok (.iconst (-1), 1) := dk_2 (dk_at dksX3_ready_0 15 rfl rfl)
theorem dX3_ready_16 : decode cX3_ready 16 = .ok (.if_icmp .ne 36, 3) := dk_160 0 36 (dk_at dksX3_ready_0 16 rfl rfl)
theorem dX3_ready_19 : decode cX3_ready 19 = .ok (.aload_n 0, 1) := dk_42 (dk_at dksX3_ready_0 19 rfl rfl)
theorem dX3_ready_20 : decode cX3_ready 20 = .ok (.invokevirtual 343, 3) := dk_182 1 87 (dk_at dksX3_ready_0 20 rfl rfl)
theorem dX3_ready_23 : decode cX3_ready 23 = .ok (.aload_n 0, 1) := dk_42 (dk_at dksX3_ready_0 23 rfl rfl)
theorem dX3_ready_24 : decode cX3_ready 24 = .ok (.invokevirtual 396, 3) := dk_182 1 140 (dk_at dksX3_ready_1 0 rfl rfl)
theorem dX3_ready_27 : decode cX3_ready 27 = .ok (.if_icmp .ne 13, 3) := dk_160 0 13 (dk_at dksX3_ready_1 3 rfl rfl)
theorem dX3_ready_30 : decode cX3_ready 30 = .ok (.aload_n 0, 1) := dk_42 (dk_at dksX3_ready_1 6 rfl rfl)
theorem dX3_ready_31 : decode cX3_ready 31 = .ok (.getfield 7, 3) := dk_180 0 7 (dk_at dksX3_ready_1 7 rfl rfl)
theorem dX3_ready_34 : decode cX3_ready 34 = .ok (.iconst 0, 1) := dk_3 (dk_at dksX3_ready_1 10 rfl rfl)
theorem dX3_ready_35 : decode cX3_ready 35 = .ok (.iaload, 1) := dk_46 (dk_at dksX3_ready_1 11 rfl rfl)
theorem dX3_ready_36 : decode cX3_ready 36 = .ok (.istore_n 1, 1) := dk_60 (dk_at dksX3_ready_1 12 rfl rfl)
theorem dX3_ready_37 : decode cX3_ready 37 = .ok (.goto 9, 3) := dk_167 0 9 (dk_at dksX3_ready_1 13 rfl rfl)
theorem dX3_ready_40 : decode cX3_ready 40 = .ok (.aload_n 0, 1) := dk_42 (dk_at dksX3_ready_1 16 rfl rfl)
theorem dX3_ready_41 : decode cX3_ready 41 = .ok (.iconst 0, 1) := dk_3 (dk_at dksX3_ready_1 17 rfl rfl)
theorem dX3_ready_42 : decode cX3_ready 42 = .ok (.invokevirtual 386, 3) := dk_182 1 130 (dk_at dksX3_ready_1 18 rfl rfl)
theorem dX3_ready_45 : decode cX3_ready 45 = .ok (.pop, 1) := dk_87 (dk_at dksX3_ready_1 21 rfl rfl)
theorem dX3_ready_46 : decode cX3_ready 46 = .ok (.iinc 2 1, 3) := dk_132 2 1 (dk_at dksX3_ready_2 0 rfl rfl)
theorem dX3_ready_49 : decode cX3_ready 49 = .ok (.goto (-41), 3) := dk_167 255 215 (dk_at dksX3_ready_2 3 rfl rfl)
theorem dX3_ready_52 : decode cX3_ready 52 = .ok (.aload_n 0, 1) := dk_42 (dk_at dksX3_ready_2 6 rfl rfl)
theorem dX3_ready_53 : decode cX3_ready 53 = .ok (.invokevirtual 393, 3) := dk_182 1 137 (dk_at dksX3_ready_2 7 rfl rfl)
theorem dX3_ready_56 : decode cX3_ready 56 = .ok (.iload_n 1, 1) := dk_27 (dk_at dksX3_ready_2 10 rfl rfl)
theorem dX3_ready_57 : decode cX3_ready 57 = .ok (.ireturn, 1) := dk_172 (dk_at dksX3_ready_2 11 rfl rfl)
abbrev cX3_allWorks : ByteArray := prog_14_method_68_code
def yX3_allWorks : MethodName := ⟨RX3, "allWorks", "()I"⟩
def dkwX3_allWorks_0 : List UInt8 := [4, 42, 180, 0, 7, 16, 98, 46, 120, 4, 100, 172]
abbrev dktX3_allWorks_0 : List UInt8 := dkwX3_allWorks_0 ++ []
theorem dksX3_allWorks_0 : cX3_allWorks.data.toList.drop 0 = dktX3_allWorks_0 := by decide +kernel
theorem dX3_allWorks_0 : decode cX3_allWorks 0 = .ok (.iconst 1, 1) := dk_4 (dk_at dksX3_allWorks_0 0 rfl rfl)
theorem dX3_allWorks_1 : decode cX3_allWorks 1 = .ok (.aload_n 0, 1) := dk_42 (dk_at dksX3_allWorks_0 1 rfl rfl)
theorem dX3_allWorks_2 : decode cX3_allWorks 2 = .ok (.getfield 7, 3) := dk_180 0 7 (dk_at dksX3_allWorks_0 2 rfl rfl)
theorem dX3_allWorks_5 : decode cX3_allWorks 5 = .ok (.bipush 98, 2) := dk_16 98 (dk_at dksX3_allWorks_0 5 rfl rfl)
theorem dX3_allWorks_7 : decode cX3_allWorks 7 = .ok (.iaload, 1) := dk_46 (dk_at dksX3_allWorks_0 7 rfl rfl)
theorem dX3_allWorks_8 : decode cX3_allWorks 8 = .ok (.ishl, 1) := dk_120 (dk_at dksX3_allWorks_0 8 rfl rfl)
theorem dX3_allWorks_9 : decode cX3_allWorks 9 = .ok (.iconst 1, 1) := dk_4 (dk_at dksX3_allWorks_0 9 rfl rfl)
theorem dX3_allWorks_10 : decode cX3_allWorks 10 = .ok (.isub, 1) := dk_100 (dk_at dksX3_allWorks_0 10 rfl rfl)
theorem dX3_allWorks_11 : decode cX3_allWorks 11 = .ok (.ireturn, 1) := dk_172 (dk_at dksX3_allWorks_0 11 rfl rfl)
abbrev cX3_idle : ByteArray := prog_14_method_84_code
def yX3_idle : MethodName := ⟨RX3, "idle", "(I)I"⟩
def dkwX3_idle_4 : List UInt8 := [28, 172]
abbrev dktX3_idle_4 : List UInt8 := dkwX3_idle_4 ++ []
def dkwX3_idle_3 : List UInt8 := [96, 46, 160, 0, 9, 4, 29, 120, 167, 0, 4, 3, 128, 61, 132, 3, 1, 167, 255, 207, 42, 182, 1, 137]
abbrev dktX3_idle_3 : List UInt8 := dkwX3_idle_3 ++ dktX3_idle_4
def dkwX3_idle_2 : List UInt8 := [162, 0, 44, 28, 42, 29, 16, 8, 182, 1, 57, 42, 180, 0, 19, 16, 16, 16, 10, 29, 104, 96, 16, 8]
abbrev dktX3_idle_2 : List UInt8 := dkwX3_idle_2 ++ dktX3_idle_3
def dkwX3_idle_1 : List UInt8 := [3, 182, 1, 130, 87, 132, 2, 1, 167, 255, 242, 3, 61, 3, 62, 29, 42, 180, 0, 7, 16, 96, 46]
abbrev dktX3_idle_1 : List UInt8 := dkwX3_idle_1 ++ dktX3_idle_2
def dkwX3_idle_0 : List UInt8 := [27, 4, 16, 99, 184, 0, 77, 154, 0, 5, 2, 172, 42, 182, 1, 134, 3, 61, 28, 27, 162, 0, 15, 42]
abbrev dktX3_idle_0 : List UInt8 := dkwX3_idle_0 ++ dktX3_idle_1
theorem dksX3_idle_0 : cX3_idle.data.toList.drop 0 = dktX3_idle_0 := by decide +kernel
theorem dksX3_idle_1 : cX3_idle.data.toList.drop 24 = dktX3_idle_1 := dk_seg dksX3_idle_0 24 rfl rfl
theorem dksX3_idle_2 : cX3_idle.data.toList.drop 47 = dktX3_idle_2 := dk_seg dksX3_idle_1 23 rfl rfl
theorem dksX3_idle_3 : cX3_idle.data.toList.drop 71 = dktX3_idle_3 := dk_seg dksX3_idle_2 24 rfl rfl
theorem dksX3_idle_4 : cX3_idle.data.toList.drop 95 = dktX3_idle_4 := dk_seg dksX3_idle_3 24 rfl rfl
theorem dX3_idle_0 : decode cX3_idle 0 = .ok (.iload_n 1, 1) := dk_27 (dk_at dksX3_idle_0 0 rfl rfl)
theorem dX3_idle_1 : decode cX3_idle 1 = .ok (.iconst 1, 1) := dk_4 (dk_at dksX3_idle_0 1 rfl rfl)
theorem dX3_idle_2 : decode cX3_idle 2 = .ok (.bipush 99, 2) := dk_16 99 (dk_at dksX3_idle_0 2 rfl rfl)
theorem dX3_idle_4 : decode cX3_idle 4 = .ok (.invokestatic 77, 3) := dk_184 0 77 (dk_at dksX3_idle_0 4 rfl rfl)
theorem dX3_idle_7 : decode cX3_idle 7 = .ok (.ifCond .ne 5, 3) := dk_154 0 5 (dk_at dksX3_idle_0 7 rfl rfl)
theorem dX3_idle_10 : decode cX3_idle 10 = .ok (.iconst (-1), 1) := dk_2 (dk_at dksX3_idle_0 10 rfl rfl)
theorem dX3_idle_11 : decode cX3_idle 11 = .ok (.ireturn, 1) := dk_172 (dk_at dksX3_idle_0 11 rfl rfl)
theorem dX3_idle_12 : decode cX3_idle 12 = .ok (.aload_n 0, 1) := dk_42 (dk_at dksX3_idle_0 12 rfl rfl)
theorem dX3_idle_13 : decode cX3_idle 13 = .ok (.invokevirtual 390, 3) := dk_182 1 134 (dk_at dksX3_idle_0 13 rfl rfl)
theorem dX3_idle_16 : decode cX3_idle 16 = .ok (.iconst 0, 1) := dk_3 (dk_at dksX3_idle_0 16 rfl rfl)
theorem dX3_idle_17 : decode cX3_idle 17 = .ok (.istore_n 2, 1) := dk_61 (dk_at dksX3_idle_0 17 rfl rfl)
theorem dX3_idle_18 : decode cX3_idle 18 = .ok (.iload_n 2, 1) := dk_28 (dk_at dksX3_idle_0 18 rfl rfl)
theorem dX3_idle_19 : decode cX3_idle 19 = .ok (.iload_n 1, 1) := dk_27 (dk_at dksX3_idle_0 19 rfl rfl)
theorem dX3_idle_20 : decode cX3_idle 20 = .ok (.if_icmp .ge 15, 3) := dk_162 0 15 (dk_at dksX3_idle_0 20 rfl rfl)
theorem dX3_idle_23 : decode cX3_idle 23 = .ok (.aload_n 0, 1) := dk_42 (dk_at dksX3_idle_0 23 rfl rfl)
theorem dX3_idle_24 : decode cX3_idle 24 = .ok (.iconst 0, 1) := dk_3 (dk_at dksX3_idle_1 0 rfl rfl)
theorem dX3_idle_25 : decode cX3_idle 25 = .ok (.invokevirtual 386, 3) := dk_182 1 130 (dk_at dksX3_idle_1 1 rfl rfl)
theorem dX3_idle_28 : decode cX3_idle 28 = .ok (.pop, 1) := dk_87 (dk_at dksX3_idle_1 4 rfl rfl)
theorem dX3_idle_29 : decode cX3_idle 29 = .ok (.iinc 2 1, 3) := dk_132 2 1 (dk_at dksX3_idle_1 5 rfl rfl)
theorem dX3_idle_32 : decode cX3_idle 32 = .ok (.goto (-14), 3) := dk_167 255 242 (dk_at dksX3_idle_1 8 rfl rfl)
theorem dX3_idle_35 : decode cX3_idle 35 = .ok (.iconst 0, 1) := dk_3 (dk_at dksX3_idle_1 11 rfl rfl)
theorem dX3_idle_36 : decode cX3_idle 36 = .ok (.istore_n 2, 1) := dk_61 (dk_at dksX3_idle_1 12 rfl rfl)
theorem dX3_idle_37 : decode cX3_idle 37 = .ok (.iconst 0, 1) := dk_3 (dk_at dksX3_idle_1 13 rfl rfl)
theorem dX3_idle_38 : decode cX3_idle 38 = .ok (.istore_n 3, 1) := dk_62 (dk_at dksX3_idle_1 14 rfl rfl)
theorem dX3_idle_39 : decode cX3_idle 39 = .ok (.iload_n 3, 1) := dk_29 (dk_at dksX3_idle_1 15 rfl rfl)
theorem dX3_idle_40 : decode cX3_idle 40 = .ok (.aload_n 0, 1) := dk_42 (dk_at dksX3_idle_1 16 rfl rfl)
theorem dX3_idle_41 : decode cX3_idle 41 = .ok (.getfield 7, 3) := dk_180 0 7 (dk_at dksX3_idle_1 17 rfl rfl)
theorem dX3_idle_44 : decode cX3_idle 44 = .ok (.bipush 96, 2) := dk_16 96 (dk_at dksX3_idle_1 20 rfl rfl)
theorem dX3_idle_46 : decode cX3_idle 46 = .ok (.iaload, 1) := dk_46 (dk_at dksX3_idle_1 22 rfl rfl)
theorem dX3_idle_47 : decode cX3_idle 47 = .ok (.if_icmp .ge 44, 3) := dk_162 0 44 (dk_at dksX3_idle_2 0 rfl rfl)
theorem dX3_idle_50 : decode cX3_idle 50 = .ok (.iload_n 2, 1) := dk_28 (dk_at dksX3_idle_2 3 rfl rfl)
theorem dX3_idle_51 : decode cX3_idle 51 = .ok (.aload_n 0, 1) := dk_42 (dk_at dksX3_idle_2 4 rfl rfl)
theorem dX3_idle_52 : decode cX3_idle 52 = .ok (.iload_n 3, 1) := dk_29 (dk_at dksX3_idle_2 5 rfl rfl)
theorem dX3_idle_53 : decode cX3_idle 53 = .ok (.bipush 8, 2) := dk_16 8 (dk_at dksX3_idle_2 6 rfl rfl)
theorem dX3_idle_55 : decode cX3_idle 55 = .ok (.invokevirtual 313, 3) := dk_182 1 57 (dk_at dksX3_idle_2 8 rfl rfl)
theorem dX3_idle_58 : decode cX3_idle 58 = .ok (.aload_n 0, 1) := dk_42 (dk_at dksX3_idle_2 11 rfl rfl)
theorem dX3_idle_59 : decode cX3_idle 59 = .ok (.getfield 19, 3) := dk_180 0 19 (dk_at dksX3_idle_2 12 rfl rfl)
theorem dX3_idle_62 : decode cX3_idle 62 = .ok (.bipush 16, 2) := dk_16 16 (dk_at dksX3_idle_2 15 rfl rfl)
theorem dX3_idle_64 : decode cX3_idle 64 = .ok (.bipush 10, 2) := dk_16 10 (dk_at dksX3_idle_2 17 rfl rfl)
theorem dX3_idle_66 : decode cX3_idle 66 = .ok (.iload_n 3, 1) := dk_29 (dk_at dksX3_idle_2 19 rfl rfl)
theorem dX3_idle_67 : decode cX3_idle 67 = .ok (.imul, 1) := dk_104 (dk_at dksX3_idle_2 20 rfl rfl)
theorem dX3_idle_68 : decode cX3_idle 68 = .ok (.iadd, 1) := dk_96 (dk_at dksX3_idle_2 21 rfl rfl)
theorem dX3_idle_69 : decode cX3_idle 69 = .ok (.bipush 8, 2) := dk_16 8 (dk_at dksX3_idle_2 22 rfl rfl)
theorem dX3_idle_71 : decode cX3_idle 71 = .ok (.iadd, 1) := dk_96 (dk_at dksX3_idle_3 0 rfl rfl)
theorem dX3_idle_72 : decode cX3_idle 72 = .ok (.iaload, 1) := dk_46 (dk_at dksX3_idle_3 1 rfl rfl)
theorem dX3_idle_73 : decode cX3_idle 73 = .ok (.if_icmp .ne 9, 3) := dk_160 0 9 (dk_at dksX3_idle_3 2 rfl rfl)
theorem dX3_idle_76 : decode cX3_idle 76 = .ok (.iconst 1, 1) := dk_4 (dk_at dksX3_idle_3 5 rfl rfl)
theorem dX3_idle_77 : decode cX3_idle 77 = .ok (.iload_n 3, 1) := dk_29 (dk_at dksX3_idle_3 6 rfl rfl)
theorem dX3_idle_78 : decode cX3_idle 78 = .ok (.ishl, 1) := dk_120 (dk_at dksX3_idle_3 7 rfl rfl)
theorem dX3_idle_79 : decode cX3_idle 79 = .ok (.goto 4, 3) := dk_167 0 4 (dk_at dksX3_idle_3 8 rfl rfl)
theorem dX3_idle_82 : decode cX3_idle 82 = .ok (.iconst 0, 1) := dk_3 (dk_at dksX3_idle_3 11 rfl rfl)
theorem dX3_idle_83 : decode cX3_idle 83 = .ok (.ior, 1) := dk_128 (dk_at dksX3_idle_3 12 rfl rfl)
theorem dX3_idle_84 : decode cX3_idle 84 = .ok (.istore_n 2, 1) := dk_61 (dk_at dksX3_idle_3 13 rfl rfl)
theorem dX3_idle_85 : decode cX3_idle 85 = .ok (.iinc 3 1, 3) := dk_132 3 1 (dk_at dksX3_idle_3 14 rfl rfl)
theorem dX3_idle_88 : decode cX3_idle 88 = .ok (.goto (-49), 3) := dk_167 255 207 (dk_at dksX3_idle_3 17 rfl rfl)
theorem dX3_idle_91 : decode cX3_idle 91 = .ok (.aload_n 0, 1) := dk_42 (dk_at dksX3_idle_3 20 rfl rfl)
theorem dX3_idle_92 : decode cX3_idle 92 = .ok (.invokevirtual 393, 3) := dk_182 1 137 (dk_at dksX3_idle_3 21 rfl rfl)
theorem dX3_idle_95 : decode cX3_idle 95 = .ok (.iload_n 2, 1) := dk_28 (dk_at dksX3_idle_4 0 rfl rfl)
theorem dX3_idle_96 : decode cX3_idle 96 = .ok (.ireturn, 1) := dk_172 (dk_at dksX3_idle_4 1 rfl rfl)
abbrev cX3_dull : ByteArray := prog_14_method_85_code
def yX3_dull : MethodName := ⟨RX3, "dull", "(II)I"⟩
def dkwX3_dull_3 : List UInt8 := [182, 1, 137, 21, 4, 153, 0, 7, 29, 167, 0, 4, 2, 172]
abbrev dktX3_dull_3 : List UInt8 := dkwX3_dull_3 ++ []
def dkwX3_dull_2 : List UInt8 := [132, 3, 1, 167, 255, 233, 42, 27, 6, 182, 1, 57, 154, 0, 7, 4, 167, 0, 4, 3, 54, 4, 42]
abbrev dktX3_dull_2 : List UInt8 := dkwX3_dull_2 ++ dktX3_dull_3
def dkwX3_dull_1 : List UInt8 := [3, 62, 29, 28, 162, 0, 24, 42, 27, 6, 182, 1, 57, 158, 0, 15, 42, 3, 182, 1, 130, 87]
abbrev dktX3_dull_1 : List UInt8 := dkwX3_dull_1 ++ dktX3_dull_2
def dkwX3_dull_0 : List UInt8 := [42, 27, 182, 0, 97, 153, 0, 13, 28, 3, 16, 99, 184, 0, 77, 154, 0, 5, 2, 172, 42, 182, 1, 134]
abbrev dktX3_dull_0 : List UInt8 := dkwX3_dull_0 ++ dktX3_dull_1
theorem dksX3_dull_0 : cX3_dull.data.toList.drop 0 = dktX3_dull_0 := by decide +kernel
theorem dksX3_dull_1 : cX3_dull.data.toList.drop 24 = dktX3_dull_1 := dk_seg dksX3_dull_0 24 rfl rfl
theorem dksX3_dull_2 : cX3_dull.data.toList.drop 46 = dktX3_dull_2 := dk_seg dksX3_dull_1 22 rfl rfl
theorem dksX3_dull_3 : cX3_dull.data.toList.drop 69 = dktX3_dull_3 := dk_seg dksX3_dull_2 23 rfl rfl
theorem dX3_dull_0 : decode cX3_dull 0 = .ok (.aload_n 0, 1) := dk_42 (dk_at dksX3_dull_0 0 rfl rfl)
theorem dX3_dull_1 : decode cX3_dull 1 = .ok (.iload_n 1, 1) := dk_27 (dk_at dksX3_dull_0 1 rfl rfl)
theorem dX3_dull_2 : decode cX3_dull 2 = .ok (.invokevirtual 97, 3) := dk_182 0 97 (dk_at dksX3_dull_0 2 rfl rfl)
theorem dX3_dull_5 : decode cX3_dull 5 = .ok (.ifCond .eq 13, 3) := dk_153 0 13 (dk_at dksX3_dull_0 5 rfl rfl)
theorem dX3_dull_8 : decode cX3_dull 8 = .ok (.iload_n 2, 1) := dk_28 (dk_at dksX3_dull_0 8 rfl rfl)
theorem dX3_dull_9 : decode cX3_dull 9 = .ok (.iconst 0, 1) := dk_3 (dk_at dksX3_dull_0 9 rfl rfl)
theorem dX3_dull_10 : decode cX3_dull 10 = .ok (.bipush 99, 2) := dk_16 99 (dk_at dksX3_dull_0 10 rfl rfl)
theorem dX3_dull_12 : decode cX3_dull 12 = .ok (.invokestatic 77, 3) := dk_184 0 77 (dk_at dksX3_dull_0 12 rfl rfl)
theorem dX3_dull_15 : decode cX3_dull 15 = .ok (.ifCond .ne 5, 3) := dk_154 0 5 (dk_at dksX3_dull_0 15 rfl rfl)
theorem dX3_dull_18 : decode cX3_dull 18 = .ok (.iconst (-1), 1) := dk_2 (dk_at dksX3_dull_0 18 rfl rfl)
theorem dX3_dull_19 : decode cX3_dull 19 = .ok (.ireturn, 1) := dk_172 (dk_at dksX3_dull_0 19 rfl rfl)
theorem dX3_dull_20 : decode cX3_dull 20 = .ok (.aload_n 0, 1) := dk_42 (dk_at dksX3_dull_0 20 rfl rfl)
theorem dX3_dull_21 : decode cX3_dull 21 = .ok (.invokevirtual 390, 3) := dk_182 1 134 (dk_at dksX3_dull_0 21 rfl rfl)
theorem dX3_dull_24 : decode cX3_dull 24 = .ok (.iconst 0, 1) := dk_3 (dk_at dksX3_dull_1 0 rfl rfl)
theorem dX3_dull_25 : decode cX3_dull 25 = .ok (.istore_n 3, 1) := dk_62 (dk_at dksX3_dull_1 1 rfl rfl)
theorem dX3_dull_26 : decode cX3_dull 26 = .ok (.iload_n 3, 1) := dk_29 (dk_at dksX3_dull_1 2 rfl rfl)
theorem dX3_dull_27 : decode cX3_dull 27 = .ok (.iload_n 2, 1) := dk_28 (dk_at dksX3_dull_1 3 rfl rfl)
theorem dX3_dull_28 : decode cX3_dull 28 = .ok (.if_icmp .ge 24, 3) := dk_162 0 24 (dk_at dksX3_dull_1 4 rfl rfl)
theorem dX3_dull_31 : decode cX3_dull 31 = .ok (.aload_n 0, 1) := dk_42 (dk_at dksX3_dull_1 7 rfl rfl)
theorem dX3_dull_32 : decode cX3_dull 32 = .ok (.iload_n 1, 1) := dk_27 (dk_at dksX3_dull_1 8 rfl rfl)
theorem dX3_dull_33 : decode cX3_dull 33 = .ok (.iconst 3, 1) := dk_6 (dk_at dksX3_dull_1 9 rfl rfl)
theorem dX3_dull_34 : decode cX3_dull 34 = .ok (.invokevirtual 313, 3) := dk_182 1 57 (dk_at dksX3_dull_1 10 rfl rfl)
theorem dX3_dull_37 : decode cX3_dull 37 = .ok (.ifCond .le 15, 3) := dk_158 0 15 (dk_at dksX3_dull_1 13 rfl rfl)
theorem dX3_dull_40 : decode cX3_dull 40 = .ok (.aload_n 0, 1) := dk_42 (dk_at dksX3_dull_1 16 rfl rfl)
theorem dX3_dull_41 : decode cX3_dull 41 = .ok (.iconst 0, 1) := dk_3 (dk_at dksX3_dull_1 17 rfl rfl)
theorem dX3_dull_42 : decode cX3_dull 42 = .ok (.invokevirtual 386, 3) := dk_182 1 130 (dk_at dksX3_dull_1 18 rfl rfl)
theorem dX3_dull_45 : decode cX3_dull 45 = .ok (.pop, 1) := dk_87 (dk_at dksX3_dull_1 21 rfl rfl)
theorem dX3_dull_46 : decode cX3_dull 46 = .ok (.iinc 3 1, 3) := dk_132 3 1 (dk_at dksX3_dull_2 0 rfl rfl)
theorem dX3_dull_49 : decode cX3_dull 49 = .ok (.goto (-23), 3) := dk_167 255 233 (dk_at dksX3_dull_2 3 rfl rfl)
theorem dX3_dull_52 : decode cX3_dull 52 = .ok (.aload_n 0, 1) := dk_42 (dk_at dksX3_dull_2 6 rfl rfl)
theorem dX3_dull_53 : decode cX3_dull 53 = .ok (.iload_n 1, 1) := dk_27 (dk_at dksX3_dull_2 7 rfl rfl)
theorem dX3_dull_54 : decode cX3_dull 54 = .ok (.iconst 3, 1) := dk_6 (dk_at dksX3_dull_2 8 rfl rfl)
theorem dX3_dull_55 : decode cX3_dull 55 = .ok (.invokevirtual 313, 3) := dk_182 1 57 (dk_at dksX3_dull_2 9 rfl rfl)
theorem dX3_dull_58 : decode cX3_dull 58 = .ok (.ifCond .ne 7, 3) := dk_154 0 7 (dk_at dksX3_dull_2 12 rfl rfl)
theorem dX3_dull_61 : decode cX3_dull 61 = .ok (.iconst 1, 1) := dk_4 (dk_at dksX3_dull_2 15 rfl rfl)
theorem dX3_dull_62 : decode cX3_dull 62 = .ok (.goto 4, 3) := dk_167 0 4 (dk_at dksX3_dull_2 16 rfl rfl)
theorem dX3_dull_65 : decode cX3_dull 65 = .ok (.iconst 0, 1) := dk_3 (dk_at dksX3_dull_2 19 rfl rfl)
theorem dX3_dull_66 : decode cX3_dull 66 = .ok (.istore 4, 2) := dk_54 4 (dk_at dksX3_dull_2 20 rfl rfl)
theorem dX3_dull_68 : decode cX3_dull 68 = .ok (.aload_n 0, 1) := dk_42 (dk_at dksX3_dull_2 22 rfl rfl)
theorem dX3_dull_69 : decode cX3_dull 69 = .ok (.invokevirtual 393, 3) := dk_182 1 137 (dk_at dksX3_dull_3 0 rfl rfl)
theorem dX3_dull_72 : decode cX3_dull 72 = .ok (.iload 4, 2) := dk_21 4 (dk_at dksX3_dull_3 3 rfl rfl)
theorem dX3_dull_74 : decode cX3_dull 74 = .ok (.ifCond .eq 7, 3) := dk_153 0 7 (dk_at dksX3_dull_3 5 rfl rfl)
theorem dX3_dull_77 : decode cX3_dull 77 = .ok (.iload_n 3, 1) := dk_29 (dk_at dksX3_dull_3 8 rfl rfl)
theorem dX3_dull_78 : decode cX3_dull 78 = .ok (.goto 4, 3) := dk_167 0 4 (dk_at dksX3_dull_3 9 rfl rfl)
theorem dX3_dull_81 : decode cX3_dull 81 = .ok (.iconst (-1), 1) := dk_2 (dk_at dksX3_dull_3 12 rfl rfl)
theorem dX3_dull_82 : decode cX3_dull 82 = .ok (.ireturn, 1) := dk_172 (dk_at dksX3_dull_3 13 rfl rfl)
abbrev cX3_lasts : ByteArray := prog_14_method_86_code
def yX3_lasts : MethodName := ⟨RX3, "lasts", "(II)I"⟩
def dkwX3_lasts_3 : List UInt8 := [21, 4, 153, 0, 7, 29, 167, 0, 4, 2, 172]
abbrev dktX3_lasts_3 : List UInt8 := dkwX3_lasts_3 ++ []
def dkwX3_lasts_2 : List UInt8 := [167, 255, 232, 42, 27, 6, 182, 1, 57, 154, 0, 7, 4, 167, 0, 4, 3, 54, 4, 42, 182, 1, 137]
abbrev dktX3_lasts_2 : List UInt8 := dkwX3_lasts_2 ++ dktX3_lasts_3
def dkwX3_lasts_1 : List UInt8 := [29, 16, 99, 162, 0, 24, 42, 27, 6, 182, 1, 57, 158, 0, 15, 42, 27, 28, 182, 1, 108, 132, 3, 1]
abbrev dktX3_lasts_1 : List UInt8 := dkwX3_lasts_1 ++ dktX3_lasts_2
def dkwX3_lasts_0 : List UInt8 := [42, 27, 182, 0, 97, 153, 0, 11, 42, 28, 182, 0, 101, 154, 0, 5, 2, 172, 42, 182, 1, 134, 3, 62]
abbrev dktX3_lasts_0 : List UInt8 := dkwX3_lasts_0 ++ dktX3_lasts_1
theorem dksX3_lasts_0 : cX3_lasts.data.toList.drop 0 = dktX3_lasts_0 := by decide +kernel
theorem dksX3_lasts_1 : cX3_lasts.data.toList.drop 24 = dktX3_lasts_1 := dk_seg dksX3_lasts_0 24 rfl rfl
theorem dksX3_lasts_2 : cX3_lasts.data.toList.drop 48 = dktX3_lasts_2 := dk_seg dksX3_lasts_1 24 rfl rfl
theorem dksX3_lasts_3 : cX3_lasts.data.toList.drop 71 = dktX3_lasts_3 := dk_seg dksX3_lasts_2 23 rfl rfl
theorem dX3_lasts_0 : decode cX3_lasts 0 = .ok (.aload_n 0, 1) := dk_42 (dk_at dksX3_lasts_0 0 rfl rfl)
theorem dX3_lasts_1 : decode cX3_lasts 1 = .ok (.iload_n 1, 1) := dk_27 (dk_at dksX3_lasts_0 1 rfl rfl)
theorem dX3_lasts_2 : decode cX3_lasts 2 = .ok (.invokevirtual 97, 3) := dk_182 0 97 (dk_at dksX3_lasts_0 2 rfl rfl)
theorem dX3_lasts_5 : decode cX3_lasts 5 = .ok (.ifCond .eq 11, 3) := dk_153 0 11 (dk_at dksX3_lasts_0 5 rfl rfl)
theorem dX3_lasts_8 : decode cX3_lasts 8 = .ok (.aload_n 0, 1) := dk_42 (dk_at dksX3_lasts_0 8 rfl rfl)
theorem dX3_lasts_9 : decode cX3_lasts 9 = .ok (.iload_n 2, 1) := dk_28 (dk_at dksX3_lasts_0 9 rfl rfl)
theorem dX3_lasts_10 : decode cX3_lasts 10 = .ok (.invokevirtual 101, 3) := dk_182 0 101 (dk_at dksX3_lasts_0 10 rfl rfl)
theorem dX3_lasts_13 : decode cX3_lasts 13 = .ok (.ifCond .ne 5, 3) := dk_154 0 5 (dk_at dksX3_lasts_0 13 rfl rfl)
theorem dX3_lasts_16 : decode cX3_lasts 16 = .ok (.iconst (-1), 1) := dk_2 (dk_at dksX3_lasts_0 16 rfl rfl)
theorem dX3_lasts_17 : decode cX3_lasts 17 = .ok (.ireturn, 1) := dk_172 (dk_at dksX3_lasts_0 17 rfl rfl)
theorem dX3_lasts_18 : decode cX3_lasts 18 = .ok (.aload_n 0, 1) := dk_42 (dk_at dksX3_lasts_0 18 rfl rfl)
theorem dX3_lasts_19 : decode cX3_lasts 19 = .ok (.invokevirtual 390, 3) := dk_182 1 134 (dk_at dksX3_lasts_0 19 rfl rfl)
theorem dX3_lasts_22 : decode cX3_lasts 22 = .ok (.iconst 0, 1) := dk_3 (dk_at dksX3_lasts_0 22 rfl rfl)
theorem dX3_lasts_23 : decode cX3_lasts 23 = .ok (.istore_n 3, 1) := dk_62 (dk_at dksX3_lasts_0 23 rfl rfl)
theorem dX3_lasts_24 : decode cX3_lasts 24 = .ok (.iload_n 3, 1) := dk_29 (dk_at dksX3_lasts_1 0 rfl rfl)
theorem dX3_lasts_25 : decode cX3_lasts 25 = .ok (.bipush 99, 2) := dk_16 99 (dk_at dksX3_lasts_1 1 rfl rfl)
theorem dX3_lasts_27 : decode cX3_lasts 27 = .ok (.if_icmp .ge 24, 3) := dk_162 0 24 (dk_at dksX3_lasts_1 3 rfl rfl)
theorem dX3_lasts_30 : decode cX3_lasts 30 = .ok (.aload_n 0, 1) := dk_42 (dk_at dksX3_lasts_1 6 rfl rfl)
theorem dX3_lasts_31 : decode cX3_lasts 31 = .ok (.iload_n 1, 1) := dk_27 (dk_at dksX3_lasts_1 7 rfl rfl)
theorem dX3_lasts_32 : decode cX3_lasts 32 = .ok (.iconst 3, 1) := dk_6 (dk_at dksX3_lasts_1 8 rfl rfl)
theorem dX3_lasts_33 : decode cX3_lasts 33 = .ok (.invokevirtual 313, 3) := dk_182 1 57 (dk_at dksX3_lasts_1 9 rfl rfl)
theorem dX3_lasts_36 : decode cX3_lasts 36 = .ok (.ifCond .le 15, 3) := dk_158 0 15 (dk_at dksX3_lasts_1 12 rfl rfl)
theorem dX3_lasts_39 : decode cX3_lasts 39 = .ok (.aload_n 0, 1) := dk_42 (dk_at dksX3_lasts_1 15 rfl rfl)
theorem dX3_lasts_40 : decode cX3_lasts 40 = .ok (.iload_n 1, 1) := dk_27 (dk_at dksX3_lasts_1 16 rfl rfl)
theorem dX3_lasts_41 : decode cX3_lasts 41 = .ok (.iload_n 2, 1) := dk_28 (dk_at dksX3_lasts_1 17 rfl rfl)
theorem dX3_lasts_42 : decode cX3_lasts 42 = .ok (.invokevirtual 364, 3) := dk_182 1 108 (dk_at dksX3_lasts_1 18 rfl rfl)
theorem dX3_lasts_45 : decode cX3_lasts 45 = .ok (.iinc 3 1, 3) := dk_132 3 1 (dk_at dksX3_lasts_1 21 rfl rfl)
theorem dX3_lasts_48 : decode cX3_lasts 48 = .ok (.goto (-24), 3) := dk_167 255 232 (dk_at dksX3_lasts_2 0 rfl rfl)
theorem dX3_lasts_51 : decode cX3_lasts 51 = .ok (.aload_n 0, 1) := dk_42 (dk_at dksX3_lasts_2 3 rfl rfl)
theorem dX3_lasts_52 : decode cX3_lasts 52 = .ok (.iload_n 1, 1) := dk_27 (dk_at dksX3_lasts_2 4 rfl rfl)
theorem dX3_lasts_53 : decode cX3_lasts 53 = .ok (.iconst 3, 1) := dk_6 (dk_at dksX3_lasts_2 5 rfl rfl)
theorem dX3_lasts_54 : decode cX3_lasts 54 = .ok (.invokevirtual 313, 3) := dk_182 1 57 (dk_at dksX3_lasts_2 6 rfl rfl)
theorem dX3_lasts_57 : decode cX3_lasts 57 = .ok (.ifCond .ne 7, 3) := dk_154 0 7 (dk_at dksX3_lasts_2 9 rfl rfl)
theorem dX3_lasts_60 : decode cX3_lasts 60 = .ok (.iconst 1, 1) := dk_4 (dk_at dksX3_lasts_2 12 rfl rfl)
theorem dX3_lasts_61 : decode cX3_lasts 61 = .ok (.goto 4, 3) := dk_167 0 4 (dk_at dksX3_lasts_2 13 rfl rfl)
theorem dX3_lasts_64 : decode cX3_lasts 64 = .ok (.iconst 0, 1) := dk_3 (dk_at dksX3_lasts_2 16 rfl rfl)
theorem dX3_lasts_65 : decode cX3_lasts 65 = .ok (.istore 4, 2) := dk_54 4 (dk_at dksX3_lasts_2 17 rfl rfl)
theorem dX3_lasts_67 : decode cX3_lasts 67 = .ok (.aload_n 0, 1) := dk_42 (dk_at dksX3_lasts_2 19 rfl rfl)
theorem dX3_lasts_68 : decode cX3_lasts 68 = .ok (.invokevirtual 393, 3) := dk_182 1 137 (dk_at dksX3_lasts_2 20 rfl rfl)
theorem dX3_lasts_71 : decode cX3_lasts 71 = .ok (.iload 4, 2) := dk_21 4 (dk_at dksX3_lasts_3 0 rfl rfl)
theorem dX3_lasts_73 : decode cX3_lasts 73 = .ok (.ifCond .eq 7, 3) := dk_153 0 7 (dk_at dksX3_lasts_3 2 rfl rfl)
theorem dX3_lasts_76 : decode cX3_lasts 76 = .ok (.iload_n 3, 1) := dk_29 (dk_at dksX3_lasts_3 5 rfl rfl)
theorem dX3_lasts_77 : decode cX3_lasts 77 = .ok (.goto 4, 3) := dk_167 0 4 (dk_at dksX3_lasts_3 6 rfl rfl)
theorem dX3_lasts_80 : decode cX3_lasts 80 = .ok (.iconst (-1), 1) := dk_2 (dk_at dksX3_lasts_3 9 rfl rfl)
theorem dX3_lasts_81 : decode cX3_lasts 81 = .ok (.ireturn, 1) := dk_172 (dk_at dksX3_lasts_3 10 rfl rfl)
abbrev cX3_few : ByteArray := prog_14_method_94_code
def yX3_few : MethodName := ⟨RX3, "few", "(I)I"⟩
def dkwX3_few_2 : List UInt8 := [172]
abbrev dktX3_few_2 : List UInt8 := dkwX3_few_2 ++ []
def dkwX3_few_1 : List UInt8 := [182, 1, 155, 61, 28, 2, 159, 0, 10, 27, 5, 112, 4, 160, 0, 7, 28, 167, 0, 7, 28, 184, 1, 146]
abbrev dktX3_few_1 : List UInt8 := dkwX3_few_1 ++ dktX3_few_2
def dkwX3_few_0 : List UInt8 := [27, 3, 6, 184, 0, 77, 154, 0, 5, 2, 172, 27, 5, 162, 0, 10, 42, 182, 1, 152, 167, 0, 7, 42]
abbrev dktX3_few_0 : List UInt8 := dkwX3_few_0 ++ dktX3_few_1
theorem dksX3_few_0 : cX3_few.data.toList.drop 0 = dktX3_few_0 := by decide +kernel
theorem dksX3_few_1 : cX3_few.data.toList.drop 24 = dktX3_few_1 := dk_seg dksX3_few_0 24 rfl rfl
theorem dksX3_few_2 : cX3_few.data.toList.drop 48 = dktX3_few_2 := dk_seg dksX3_few_1 24 rfl rfl
theorem dX3_few_0 : decode cX3_few 0 = .ok (.iload_n 1, 1) := dk_27 (dk_at dksX3_few_0 0 rfl rfl)
theorem dX3_few_1 : decode cX3_few 1 = .ok (.iconst 0, 1) := dk_3 (dk_at dksX3_few_0 1 rfl rfl)
theorem dX3_few_2 : decode cX3_few 2 = .ok (.iconst 3, 1) := dk_6 (dk_at dksX3_few_0 2 rfl rfl)
theorem dX3_few_3 : decode cX3_few 3 = .ok (.invokestatic 77, 3) := dk_184 0 77 (dk_at dksX3_few_0 3 rfl rfl)
theorem dX3_few_6 : decode cX3_few 6 = .ok (.ifCond .ne 5, 3) := dk_154 0 5 (dk_at dksX3_few_0 6 rfl rfl)
theorem dX3_few_9 : decode cX3_few 9 = .ok (.iconst (-1), 1) := dk_2 (dk_at dksX3_few_0 9 rfl rfl)
theorem dX3_few_10 : decode cX3_few 10 = .ok (.ireturn, 1) := dk_172 (dk_at dksX3_few_0 10 rfl rfl)
theorem dX3_few_11 : decode cX3_few 11 = .ok (.iload_n 1, 1) := dk_27 (dk_at dksX3_few_0 11 rfl rfl)
theorem dX3_few_12 : decode cX3_few 12 = .ok (.iconst 2, 1) := dk_5 (dk_at dksX3_few_0 12 rfl rfl)
theorem dX3_few_13 : decode cX3_few 13 = .ok (.if_icmp .ge 10, 3) := dk_162 0 10 (dk_at dksX3_few_0 13 rfl rfl)
theorem dX3_few_16 : decode cX3_few 16 = .ok (.aload_n 0, 1) := dk_42 (dk_at dksX3_few_0 16 rfl rfl)
theorem dX3_few_17 : decode cX3_few 17 = .ok (.invokevirtual 408, 3) := dk_182 1 152 (dk_at dksX3_few_0 17 rfl rfl)
theorem dX3_few_20 : decode cX3_few 20 = .ok (.goto 7, 3) := dk_167 0 7 (dk_at dksX3_few_0 20 rfl rfl)
theorem dX3_few_23 : decode cX3_few 23 = .ok (.aload_n 0, 1) := dk_42 (dk_at dksX3_few_0 23 rfl rfl)
theorem dX3_few_24 : decode cX3_few 24 = .ok (.invokevirtual 411, 3) := dk_182 1 155 (dk_at dksX3_few_1 0 rfl rfl)
theorem dX3_few_27 : decode cX3_few 27 = .ok (.istore_n 2, 1) := dk_61 (dk_at dksX3_few_1 3 rfl rfl)
theorem dX3_few_28 : decode cX3_few 28 = .ok (.iload_n 2, 1) := dk_28 (dk_at dksX3_few_1 4 rfl rfl)
theorem dX3_few_29 : decode cX3_few 29 = .ok (.iconst (-1), 1) := dk_2 (dk_at dksX3_few_1 5 rfl rfl)
theorem dX3_few_30 : decode cX3_few 30 = .ok (.if_icmp .eq 10, 3) := dk_159 0 10 (dk_at dksX3_few_1 6 rfl rfl)
theorem dX3_few_33 : decode cX3_few 33 = .ok (.iload_n 1, 1) := dk_27 (dk_at dksX3_few_1 9 rfl rfl)
theorem dX3_few_34 : decode cX3_few 34 = .ok (.iconst 2, 1) := dk_5 (dk_at dksX3_few_1 10 rfl rfl)
theorem dX3_few_35 : decode cX3_few 35 = .ok (.irem, 1) := dk_112 (dk_at dksX3_few_1 11 rfl rfl)
theorem dX3_few_36 : decode cX3_few 36 = .ok (.iconst 1, 1) := dk_4 (dk_at dksX3_few_1 12 rfl rfl)
theorem dX3_few_37 : decode cX3_few 37 = .ok (.if_icmp .ne 7, 3) := dk_160 0 7 (dk_at dksX3_few_1 13 rfl rfl)
theorem dX3_few_40 : decode cX3_few 40 = .ok (.iload_n 2, 1) := dk_28 (dk_at dksX3_few_1 16 rfl rfl)
theorem dX3_few_41 : decode cX3_few 41 = .ok (.goto 7, 3) := dk_167 0 7 (dk_at dksX3_few_1 17 rfl rfl)
theorem dX3_few_44 : decode cX3_few 44 = .ok (.iload_n 2, 1) := dk_28 (dk_at dksX3_few_1 20 rfl rfl)
theorem dX3_few_45 : decode cX3_few 45 = .ok (.invokestatic 402, 3) := dk_184 1 146 (dk_at dksX3_few_1 21 rfl rfl)
theorem dX3_few_48 : decode cX3_few 48 = .ok (.ireturn, 1) := dk_172 (dk_at dksX3_few_2 0 rfl rfl)
abbrev cX3_stopSet : ByteArray := prog_14_method_91_code
def yX3_stopSet : MethodName := ⟨RX3, "stopSet", "()I"⟩
def dkwX3_stopSet_3 : List UInt8 := [132, 2, 1, 167, 255, 186, 27, 172]
abbrev dktX3_stopSet_3 : List UInt8 := dkwX3_stopSet_3 ++ []
def dkwX3_stopSet_2 : List UInt8 := [184, 1, 146, 161, 0, 19, 29, 184, 1, 146, 27, 184, 1, 146, 160, 0, 10, 29, 27, 162, 0, 5, 29, 60]
abbrev dktX3_stopSet_2 : List UInt8 := dkwX3_stopSet_2 ++ dktX3_stopSet_3
def dkwX3_stopSet_1 : List UInt8 := [167, 0, 48, 42, 42, 28, 3, 182, 1, 81, 182, 1, 143, 62, 27, 2, 159, 0, 30, 29, 184, 1, 146, 27]
abbrev dktX3_stopSet_1 : List UInt8 := dkwX3_stopSet_1 ++ dktX3_stopSet_2
def dkwX3_stopSet_0 : List UInt8 := [2, 60, 3, 61, 28, 42, 180, 0, 7, 16, 98, 46, 162, 0, 65, 42, 28, 182, 1, 84, 153, 0, 6]
abbrev dktX3_stopSet_0 : List UInt8 := dkwX3_stopSet_0 ++ dktX3_stopSet_1
theorem dksX3_stopSet_0 : cX3_stopSet.data.toList.drop 0 = dktX3_stopSet_0 := by decide +kernel
theorem dksX3_stopSet_1 : cX3_stopSet.data.toList.drop 23 = dktX3_stopSet_1 := dk_seg dksX3_stopSet_0 23 rfl rfl
theorem dksX3_stopSet_2 : cX3_stopSet.data.toList.drop 47 = dktX3_stopSet_2 := dk_seg dksX3_stopSet_1 24 rfl rfl
theorem dksX3_stopSet_3 : cX3_stopSet.data.toList.drop 71 = dktX3_stopSet_3 := dk_seg dksX3_stopSet_2 24 rfl rfl
theorem dX3_stopSet_0 : decode cX3_stopSet 0 = .ok (.iconst (-1), 1) := dk_2 (dk_at dksX3_stopSet_0 0 rfl rfl)
theorem dX3_stopSet_1 : decode cX3_stopSet 1 = .ok (.istore_n 1, 1) := dk_60 (dk_at dksX3_stopSet_0 1 rfl rfl)
theorem dX3_stopSet_2 : decode cX3_stopSet 2 = .ok (.iconst 0, 1) := dk_3 (dk_at dksX3_stopSet_0 2 rfl rfl)
theorem dX3_stopSet_3 : decode cX3_stopSet 3 = .ok (.istore_n 2, 1) := dk_61 (dk_at dksX3_stopSet_0 3 rfl rfl)
theorem dX3_stopSet_4 : decode cX3_stopSet 4 = .ok (.iload_n 2, 1) := dk_28 (dk_at dksX3_stopSet_0 4 rfl rfl)
theorem dX3_stopSet_5 : decode cX3_stopSet 5 = .ok (.aload_n 0, 1) := dk_42 (dk_at dksX3_stopSet_0 5 rfl rfl)
theorem dX3_stopSet_6 : decode cX3_stopSet 6 = .ok (.getfield 7, 3) := dk_180 0 7 (dk_at dksX3_stopSet_0 6 rfl rfl)
theorem dX3_stopSet_9 : decode cX3_stopSet 9 = .ok (.bipush 98, 2) := dk_16 98 (dk_at dksX3_stopSet_0 9 rfl rfl)
theorem dX3_stopSet_11 : decode cX3_stopSet 11 = .ok (.iaload, 1) := dk_46 (dk_at dksX3_stopSet_0 11 rfl rfl)
theorem dX3_stopSet_12 : decode cX3_stopSet 12 = .ok (.if_icmp .ge 65, 3) := dk_162 0 65 (dk_at dksX3_stopSet_0 12 rfl rfl)
theorem dX3_stopSet_15 : decode cX3_stopSet 15 = .ok (.aload_n 0, 1) := dk_42 (dk_at dksX3_stopSet_0 15 rfl rfl)
theorem dX3_stopSet_16 : decode cX3_stopSet 16 = .ok (.iload_n 2, 1) := dk_28 (dk_at dksX3_stopSet_0 16 rfl rfl)
theorem dX3_stopSet_17 : decode cX3_stopSet 17 = .ok (.invokevirtual 340, 3) := dk_182 1 84 (dk_at dksX3_stopSet_0 17 rfl rfl)
theorem dX3_stopSet_20 : decode cX3_stopSet 20 = .ok (.ifCond .eq 6, 3) := dk_153 0 6 (dk_at dksX3_stopSet_0 20 rfl rfl)
theorem dX3_stopSet_23 : decode cX3_stopSet 23 = .ok (.goto 48, 3) := dk_167 0 48 (dk_at dksX3_stopSet_1 0 rfl rfl)
theorem dX3_stopSet_26 : decode cX3_stopSet 26 = .ok (.aload_n 0, 1) := dk_42 (dk_at dksX3_stopSet_1 3 rfl rfl)
theorem dX3_stopSet_27 : decode cX3_stopSet 27 = .ok (.aload_n 0, 1) := dk_42 (dk_at dksX3_stopSet_1 4 rfl rfl)
theorem dX3_stopSet_28 : decode cX3_stopSet 28 = .ok (.iload_n 2, 1) := dk_28 (dk_at dksX3_stopSet_1 5 rfl rfl)
theorem dX3_stopSet_29 : decode cX3_stopSet 29 = .ok (.iconst 0, 1) := dk_3 (dk_at dksX3_stopSet_1 6 rfl rfl)
theorem dX3_stopSet_30 : decode cX3_stopSet 30 = .ok (.invokevirtual 337, 3) := dk_182 1 81 (dk_at dksX3_stopSet_1 7 rfl rfl)
theorem dX3_stopSet_33 : decode cX3_stopSet 33 = .ok (.invokevirtual 399, 3) := dk_182 1 143 (dk_at dksX3_stopSet_1 10 rfl rfl)
theorem dX3_stopSet_36 : decode cX3_stopSet 36 = .ok (.istore_n 3, 1) := dk_62 (dk_at dksX3_stopSet_1 13 rfl rfl)
theorem dX3_stopSet_37 : decode cX3_stopSet 37 = .ok (.iload_n 1, 1) := dk_27 (dk_at dksX3_stopSet_1 14 rfl rfl)
theorem dX3_stopSet_38 : decode cX3_stopSet 38 = .ok (.iconst (-1), 1) := dk_2 (dk_at dksX3_stopSet_1 15 rfl rfl)
theorem dX3_stopSet_39 : decode cX3_stopSet 39 = .ok (.if_icmp .eq 30, 3) := dk_159 0 30 (dk_at dksX3_stopSet_1 16 rfl rfl)
theorem dX3_stopSet_42 : decode cX3_stopSet 42 = .ok (.iload_n 3, 1) := dk_29 (dk_at dksX3_stopSet_1 19 rfl rfl)
theorem dX3_stopSet_43 : decode cX3_stopSet 43 = .ok (.invokestatic 402, 3) := dk_184 1 146 (dk_at dksX3_stopSet_1 20 rfl rfl)
theorem dX3_stopSet_46 : decode cX3_stopSet 46 = .ok (.iload_n 1, 1) := dk_27 (dk_at dksX3_stopSet_1 23 rfl rfl)
theorem dX3_stopSet_47 : decode cX3_stopSet 47 = .ok (.invokestatic 402, 3) := dk_184 1 146 (dk_at dksX3_stopSet_2 0 rfl rfl)
theorem dX3_stopSet_50 : decode cX3_stopSet 50 = .ok (.if_icmp .lt 19, 3) := dk_161 0 19 (dk_at dksX3_stopSet_2 3 rfl rfl)
theorem dX3_stopSet_53 : decode cX3_stopSet 53 = .ok (.iload_n 3, 1) := dk_29 (dk_at dksX3_stopSet_2 6 rfl rfl)
theorem dX3_stopSet_54 : decode cX3_stopSet 54 = .ok (.invokestatic 402, 3) := dk_184 1 146 (dk_at dksX3_stopSet_2 7 rfl rfl)
theorem dX3_stopSet_57 : decode cX3_stopSet 57 = .ok (.iload_n 1, 1) := dk_27 (dk_at dksX3_stopSet_2 10 rfl rfl)
theorem dX3_stopSet_58 : decode cX3_stopSet 58 = .ok (.invokestatic 402, 3) := dk_184 1 146 (dk_at dksX3_stopSet_2 11 rfl rfl)
theorem dX3_stopSet_61 : decode cX3_stopSet 61 = .ok (.if_icmp .ne 10, 3) := dk_160 0 10 (dk_at dksX3_stopSet_2 14 rfl rfl)
theorem dX3_stopSet_64 : decode cX3_stopSet 64 = .ok (.iload_n 3, 1) := dk_29 (dk_at dksX3_stopSet_2 17 rfl rfl)
theorem dX3_stopSet_65 : decode cX3_stopSet 65 = .ok (.iload_n 1, 1) := dk_27 (dk_at dksX3_stopSet_2 18 rfl rfl)
theorem dX3_stopSet_66 : decode cX3_stopSet 66 = .ok (.if_icmp .ge 5, 3) := dk_162 0 5 (dk_at dksX3_stopSet_2 19 rfl rfl)
theorem dX3_stopSet_69 : decode cX3_stopSet 69 = .ok (.iload_n 3, 1) := dk_29 (dk_at dksX3_stopSet_2 22 rfl rfl)
theorem dX3_stopSet_70 : decode cX3_stopSet 70 = .ok (.istore_n 1, 1) := dk_60 (dk_at dksX3_stopSet_2 23 rfl rfl)
theorem dX3_stopSet_71 : decode cX3_stopSet 71 = .ok (.iinc 2 1, 3) := dk_132 2 1 (dk_at dksX3_stopSet_3 0 rfl rfl)
theorem dX3_stopSet_74 : decode cX3_stopSet 74 = .ok (.goto (-70), 3) := dk_167 255 186 (dk_at dksX3_stopSet_3 3 rfl rfl)
theorem dX3_stopSet_77 : decode cX3_stopSet 77 = .ok (.iload_n 1, 1) := dk_27 (dk_at dksX3_stopSet_3 6 rfl rfl)
theorem dX3_stopSet_78 : decode cX3_stopSet 78 = .ok (.ireturn, 1) := dk_172 (dk_at dksX3_stopSet_3 7 rfl rfl)
abbrev cX3_toolsFor : ByteArray := prog_14_method_89_code
def yX3_toolsFor : MethodName := ⟨RX3, "toolsFor", "(I)I"⟩
def dkwX3_toolsFor_2 : List UInt8 := [153, 0, 9, 28, 4, 29, 120, 128, 61, 132, 4, 1, 167, 255, 215, 132, 3, 1, 167, 255, 195, 28, 172]
abbrev dktX3_toolsFor_2 : List UInt8 := dkwX3_toolsFor_2 ++ []
def dkwX3_toolsFor_1 : List UInt8 := [16, 97, 46, 162, 0, 35, 42, 29, 3, 182, 1, 57, 27, 160, 0, 19, 42, 29, 21, 4, 182, 1, 105]
abbrev dktX3_toolsFor_1 : List UInt8 := dkwX3_toolsFor_1 ++ dktX3_toolsFor_2
def dkwX3_toolsFor_0 : List UInt8 := [3, 61, 3, 62, 29, 42, 180, 0, 7, 16, 96, 46, 162, 0, 56, 3, 54, 4, 21, 4, 42, 180, 0, 7]
abbrev dktX3_toolsFor_0 : List UInt8 := dkwX3_toolsFor_0 ++ dktX3_toolsFor_1
theorem dksX3_toolsFor_0 : cX3_toolsFor.data.toList.drop 0 = dktX3_toolsFor_0 := by decide +kernel
theorem dksX3_toolsFor_1 : cX3_toolsFor.data.toList.drop 24 = dktX3_toolsFor_1 := dk_seg dksX3_toolsFor_0 24 rfl rfl
theorem dksX3_toolsFor_2 : cX3_toolsFor.data.toList.drop 47 = dktX3_toolsFor_2 := dk_seg dksX3_toolsFor_1 23 rfl rfl
theorem dX3_toolsFor_0 : decode cX3_toolsFor 0 = .ok (.iconst 0, 1) := dk_3 (dk_at dksX3_toolsFor_0 0 rfl rfl)
theorem dX3_toolsFor_1 : decode cX3_toolsFor 1 = .ok (.istore_n 2, 1) := dk_61 (dk_at dksX3_toolsFor_0 1 rfl rfl)
theorem dX3_toolsFor_2 : decode cX3_toolsFor 2 = .ok (.iconst 0, 1) := dk_3 (dk_at dksX3_toolsFor_0 2 rfl rfl)
theorem dX3_toolsFor_3 : decode cX3_toolsFor 3 = .ok (.istore_n 3, 1) := dk_62 (dk_at dksX3_toolsFor_0 3 rfl rfl)
theorem dX3_toolsFor_4 : decode cX3_toolsFor 4 = .ok (.iload_n 3, 1) := dk_29 (dk_at dksX3_toolsFor_0 4 rfl rfl)
theorem dX3_toolsFor_5 : decode cX3_toolsFor 5 = .ok (.aload_n 0, 1) := dk_42 (dk_at dksX3_toolsFor_0 5 rfl rfl)
theorem dX3_toolsFor_6 : decode cX3_toolsFor 6 = .ok (.getfield 7, 3) := dk_180 0 7 (dk_at dksX3_toolsFor_0 6 rfl rfl)
theorem dX3_toolsFor_9 : decode cX3_toolsFor 9 = .ok (.bipush 96, 2) := dk_16 96 (dk_at dksX3_toolsFor_0 9 rfl rfl)
theorem dX3_toolsFor_11 : decode cX3_toolsFor 11 = .ok (.iaload, 1) := dk_46 (dk_at dksX3_toolsFor_0 11 rfl rfl)
theorem dX3_toolsFor_12 : decode cX3_toolsFor 12 = .ok (.if_icmp .ge 56, 3) := dk_162 0 56 (dk_at dksX3_toolsFor_0 12 rfl rfl)
theorem dX3_toolsFor_15 : decode cX3_toolsFor 15 = .ok (.iconst 0, 1) := dk_3 (dk_at dksX3_toolsFor_0 15 rfl rfl)
theorem dX3_toolsFor_16 : decode cX3_toolsFor 16 = .ok (.istore 4, 2) := dk_54 4 (dk_at dksX3_toolsFor_0 16 rfl rfl)
theorem dX3_toolsFor_18 : decode cX3_toolsFor 18 = .ok (.iload 4, 2) := dk_21 4 (dk_at dksX3_toolsFor_0 18 rfl rfl)
theorem dX3_toolsFor_20 : decode cX3_toolsFor 20 = .ok (.aload_n 0, 1) := dk_42 (dk_at dksX3_toolsFor_0 20 rfl rfl)
theorem dX3_toolsFor_21 : decode cX3_toolsFor 21 = .ok (.getfield 7, 3) := dk_180 0 7 (dk_at dksX3_toolsFor_0 21 rfl rfl)
theorem dX3_toolsFor_24 : decode cX3_toolsFor 24 = .ok (.bipush 97, 2) := dk_16 97 (dk_at dksX3_toolsFor_1 0 rfl rfl)
theorem dX3_toolsFor_26 : decode cX3_toolsFor 26 = .ok (.iaload, 1) := dk_46 (dk_at dksX3_toolsFor_1 2 rfl rfl)
theorem dX3_toolsFor_27 : decode cX3_toolsFor 27 = .ok (.if_icmp .ge 35, 3) := dk_162 0 35 (dk_at dksX3_toolsFor_1 3 rfl rfl)
theorem dX3_toolsFor_30 : decode cX3_toolsFor 30 = .ok (.aload_n 0, 1) := dk_42 (dk_at dksX3_toolsFor_1 6 rfl rfl)
theorem dX3_toolsFor_31 : decode cX3_toolsFor 31 = .ok (.iload_n 3, 1) := dk_29 (dk_at dksX3_toolsFor_1 7 rfl rfl)
theorem dX3_toolsFor_32 : decode cX3_toolsFor 32 = .ok (.iconst 0, 1) := dk_3 (dk_at dksX3_toolsFor_1 8 rfl rfl)
theorem dX3_toolsFor_33 : decode cX3_toolsFor 33 = .ok (.invokevirtual 313, 3) := dk_182 1 57 (dk_at dksX3_toolsFor_1 9 rfl rfl)
theorem dX3_toolsFor_36 : decode cX3_toolsFor 36 = .ok (.iload_n 1, 1) := dk_27 (dk_at dksX3_toolsFor_1 12 rfl rfl)
theorem dX3_toolsFor_37 : decode cX3_toolsFor 37 = .ok (.if_icmp .ne 19, 3) := dk_160 0 19 (dk_at dksX3_toolsFor_1 13 rfl rfl)
theorem dX3_toolsFor_40 : decode cX3_toolsFor 40 = .ok (.aload_n 0, 1) := dk_42 (dk_at dksX3_toolsFor_1 16 rfl rfl)
theorem dX3_toolsFor_41 : decode cX3_toolsFor 41 = .ok (.iload_n 3, 1) := dk_29 (dk_at dksX3_toolsFor_1 17 rfl rfl)
theorem dX3_toolsFor_42 : decode cX3_toolsFor 42 = .ok (.iload 4, 2) := dk_21 4 (dk_at dksX3_toolsFor_1 18 rfl rfl)
theorem dX3_toolsFor_44 : decode cX3_toolsFor 44 = .ok (.invokevirtual 361, 3) := dk_182 1 105 (dk_at dksX3_toolsFor_1 20 rfl rfl)
theorem dX3_toolsFor_47 : decode cX3_toolsFor 47 = .ok (.ifCond .eq 9, 3) := dk_153 0 9 (dk_at dksX3_toolsFor_2 0 rfl rfl)
theorem dX3_toolsFor_50 : decode cX3_toolsFor 50 = .ok (.iload_n 2, 1) := dk_28 (dk_at dksX3_toolsFor_2 3 rfl rfl)
theorem dX3_toolsFor_51 : decode cX3_toolsFor 51 = .ok (.iconst 1, 1) := dk_4 (dk_at dksX3_toolsFor_2 4 rfl rfl)
theorem dX3_toolsFor_52 : decode cX3_toolsFor 52 = .ok (.iload_n 3, 1) := dk_29 (dk_at dksX3_toolsFor_2 5 rfl rfl)
theorem dX3_toolsFor_53 : decode cX3_toolsFor 53 = .ok (.ishl, 1) := dk_120 (dk_at dksX3_toolsFor_2 6 rfl rfl)
theorem dX3_toolsFor_54 : decode cX3_toolsFor 54 = .ok (.ior, 1) := dk_128 (dk_at dksX3_toolsFor_2 7 rfl rfl)
theorem dX3_toolsFor_55 : decode cX3_toolsFor 55 = .ok (.istore_n 2, 1) := dk_61 (dk_at dksX3_toolsFor_2 8 rfl rfl)
theorem dX3_toolsFor_56 : decode cX3_toolsFor 56 = .ok (.iinc 4 1, 3) := dk_132 4 1 (dk_at dksX3_toolsFor_2 9 rfl rfl)
theorem dX3_toolsFor_59 : decode cX3_toolsFor 59 = .ok (.goto (-41), 3) := dk_167 255 215 (dk_at dksX3_toolsFor_2 12 rfl rfl)
theorem dX3_toolsFor_62 : decode cX3_toolsFor 62 = .ok (.iinc 3 1, 3) := dk_132 3 1 (dk_at dksX3_toolsFor_2 15 rfl rfl)
theorem dX3_toolsFor_65 : decode cX3_toolsFor 65 = .ok (.goto (-61), 3) := dk_167 255 195 (dk_at dksX3_toolsFor_2 18 rfl rfl)
theorem dX3_toolsFor_68 : decode cX3_toolsFor 68 = .ok (.iload_n 2, 1) := dk_28 (dk_at dksX3_toolsFor_2 21 rfl rfl)
theorem dX3_toolsFor_69 : decode cX3_toolsFor 69 = .ok (.ireturn, 1) := dk_172 (dk_at dksX3_toolsFor_2 22 rfl rfl)
abbrev cX3_count : ByteArray := prog_14_method_90_code
def yX3_count : MethodName := ⟨RX3, "count", "(I)I"⟩
def dkwX3_count_1 : List UInt8 := [27, 172]
abbrev dktX3_count_1 : List UInt8 := dkwX3_count_1 ++ []
def dkwX3_count_0 : List UInt8 := [3, 60, 3, 61, 28, 16, 8, 162, 0, 17, 27, 26, 28, 122, 4, 126, 96, 60, 132, 2, 1, 167, 255, 239]
abbrev dktX3_count_0 : List UInt8 := dkwX3_count_0 ++ dktX3_count_1
theorem dksX3_count_0 : cX3_count.data.toList.drop 0 = dktX3_count_0 := by decide +kernel
theorem dksX3_count_1 : cX3_count.data.toList.drop 24 = dktX3_count_1 := dk_seg dksX3_count_0 24 rfl rfl
theorem dX3_count_0 : decode cX3_count 0 = .ok (.iconst 0, 1) := dk_3 (dk_at dksX3_count_0 0 rfl rfl)
theorem dX3_count_1 : decode cX3_count 1 = .ok (.istore_n 1, 1) := dk_60 (dk_at dksX3_count_0 1 rfl rfl)
theorem dX3_count_2 : decode cX3_count 2 = .ok (.iconst 0, 1) := dk_3 (dk_at dksX3_count_0 2 rfl rfl)
theorem dX3_count_3 : decode cX3_count 3 = .ok (.istore_n 2, 1) := dk_61 (dk_at dksX3_count_0 3 rfl rfl)
theorem dX3_count_4 : decode cX3_count 4 = .ok (.iload_n 2, 1) := dk_28 (dk_at dksX3_count_0 4 rfl rfl)
theorem dX3_count_5 : decode cX3_count 5 = .ok (.bipush 8, 2) := dk_16 8 (dk_at dksX3_count_0 5 rfl rfl)
theorem dX3_count_7 : decode cX3_count 7 = .ok (.if_icmp .ge 17, 3) := dk_162 0 17 (dk_at dksX3_count_0 7 rfl rfl)
theorem dX3_count_10 : decode cX3_count 10 = .ok (.iload_n 1, 1) := dk_27 (dk_at dksX3_count_0 10 rfl rfl)
theorem dX3_count_11 : decode cX3_count 11 = .ok (.iload_n 0, 1) := dk_26 (dk_at dksX3_count_0 11 rfl rfl)
theorem dX3_count_12 : decode cX3_count 12 = .ok (.iload_n 2, 1) := dk_28 (dk_at dksX3_count_0 12 rfl rfl)
theorem dX3_count_13 : decode cX3_count 13 = .ok (.ishr, 1) := dk_122 (dk_at dksX3_count_0 13 rfl rfl)
theorem dX3_count_14 : decode cX3_count 14 = .ok (.iconst 1, 1) := dk_4 (dk_at dksX3_count_0 14 rfl rfl)
theorem dX3_count_15 : decode cX3_count 15 = .ok (.iand, 1) := dk_126 (dk_at dksX3_count_0 15 rfl rfl)
theorem dX3_count_16 : decode cX3_count 16 = .ok (.iadd, 1) := dk_96 (dk_at dksX3_count_0 16 rfl rfl)
theorem dX3_count_17 : decode cX3_count 17 = .ok (.istore_n 1, 1) := dk_60 (dk_at dksX3_count_0 17 rfl rfl)
theorem dX3_count_18 : decode cX3_count 18 = .ok (.iinc 2 1, 3) := dk_132 2 1 (dk_at dksX3_count_0 18 rfl rfl)
theorem dX3_count_21 : decode cX3_count 21 = .ok (.goto (-17), 3) := dk_167 255 239 (dk_at dksX3_count_0 21 rfl rfl)
theorem dX3_count_24 : decode cX3_count 24 = .ok (.iload_n 1, 1) := dk_27 (dk_at dksX3_count_1 0 rfl rfl)
theorem dX3_count_25 : decode cX3_count 25 = .ok (.ireturn, 1) := dk_172 (dk_at dksX3_count_1 1 rfl rfl)
abbrev cX3_keepSet : ByteArray := prog_14_method_93_code
def yX3_keepSet : MethodName := ⟨RX3, "keepSet", "()I"⟩
def dkwX3_keepSet_2 : List UInt8 := [167, 255, 214, 27, 172]
abbrev dktX3_keepSet_2 : List UInt8 := dkwX3_keepSet_2 ++ []
def dkwX3_keepSet_1 : List UInt8 := [184, 1, 146, 27, 184, 1, 146, 162, 0, 13, 42, 28, 182, 1, 149, 153, 0, 5, 28, 60, 132, 2, 1]
abbrev dktX3_keepSet_1 : List UInt8 := dkwX3_keepSet_1 ++ dktX3_keepSet_2
def dkwX3_keepSet_0 : List UInt8 := [2, 60, 3, 61, 28, 4, 42, 180, 0, 7, 16, 96, 46, 120, 162, 0, 35, 27, 2, 159, 0, 14, 28]
abbrev dktX3_keepSet_0 : List UInt8 := dkwX3_keepSet_0 ++ dktX3_keepSet_1
theorem dksX3_keepSet_0 : cX3_keepSet.data.toList.drop 0 = dktX3_keepSet_0 := by decide +kernel
theorem dksX3_keepSet_1 : cX3_keepSet.data.toList.drop 23 = dktX3_keepSet_1 := dk_seg dksX3_keepSet_0 23 rfl rfl
theorem dksX3_keepSet_2 : cX3_keepSet.data.toList.drop 46 = dktX3_keepSet_2 := dk_seg dksX3_keepSet_1 23 rfl rfl
theorem dX3_keepSet_0 : decode cX3_keepSet 0 = .ok (.iconst (-1), 1) := dk_2 (dk_at dksX3_keepSet_0 0 rfl rfl)
theorem dX3_keepSet_1 : decode cX3_keepSet 1 = .ok (.istore_n 1, 1) := dk_60 (dk_at dksX3_keepSet_0 1 rfl rfl)
theorem dX3_keepSet_2 : decode cX3_keepSet 2 = .ok (.iconst 0, 1) := dk_3 (dk_at dksX3_keepSet_0 2 rfl rfl)
theorem dX3_keepSet_3 : decode cX3_keepSet 3 = .ok (.istore_n 2, 1) := dk_61 (dk_at dksX3_keepSet_0 3 rfl rfl)
theorem dX3_keepSet_4 : decode cX3_keepSet 4 = .ok (.iload_n 2, 1) := dk_28 (dk_at dksX3_keepSet_0 4 rfl rfl)
theorem dX3_keepSet_5 : decode cX3_keepSet 5 = .ok (.iconst 1, 1) := dk_4 (dk_at dksX3_keepSet_0 5 rfl rfl)
theorem dX3_keepSet_6 : decode cX3_keepSet 6 = .ok (.aload_n 0, 1) := dk_42 (dk_at dksX3_keepSet_0 6 rfl rfl)
theorem dX3_keepSet_7 : decode cX3_keepSet 7 = .ok (.getfield 7, 3) := dk_180 0 7 (dk_at dksX3_keepSet_0 7 rfl rfl)
theorem dX3_keepSet_10 : decode cX3_keepSet 10 = .ok (.bipush 96, 2) := dk_16 96 (dk_at dksX3_keepSet_0 10 rfl rfl)
theorem dX3_keepSet_12 : decode cX3_keepSet 12 = .ok (.iaload, 1) := dk_46 (dk_at dksX3_keepSet_0 12 rfl rfl)
theorem dX3_keepSet_13 : decode cX3_keepSet 13 = .ok (.ishl, 1) := dk_120 (dk_at dksX3_keepSet_0 13 rfl rfl)
theorem dX3_keepSet_14 : decode cX3_keepSet 14 = .ok (.if_icmp .ge 35, 3) := dk_162 0 35 (dk_at dksX3_keepSet_0 14 rfl rfl)
theorem dX3_keepSet_17 : decode cX3_keepSet 17 = .ok (.iload_n 1, 1) := dk_27 (dk_at dksX3_keepSet_0 17 rfl rfl)
theorem dX3_keepSet_18 : decode cX3_keepSet 18 = .ok (.iconst (-1), 1) := dk_2 (dk_at dksX3_keepSet_0 18 rfl rfl)
theorem dX3_keepSet_19 : decode cX3_keepSet 19 = .ok (.if_icmp .eq 14, 3) := dk_159 0 14 (dk_at dksX3_keepSet_0 19 rfl rfl)
theorem dX3_keepSet_22 : decode cX3_keepSet 22 = .ok (.iload_n 2, 1) := dk_28 (dk_at dksX3_keepSet_0 22 rfl rfl)
theorem dX3_keepSet_23 : decode cX3_keepSet 23 = .ok (.invokestatic 402, 3) := dk_184 1 146 (dk_at dksX3_keepSet_1 0 rfl rfl)
theorem dX3_keepSet_26 : decode cX3_keepSet 26 = .ok (.iload_n 1, 1) := dk_27 (dk_at dksX3_keepSet_1 3 rfl rfl)
theorem dX3_keepSet_27 : decode cX3_keepSet 27 = .ok (.invokestatic 402, 3) := dk_184 1 146 (dk_at dksX3_keepSet_1 4 rfl rfl)
theorem dX3_keepSet_30 : decode cX3_keepSet 30 = .ok (.if_icmp .ge 13, 3) := dk_162 0 13 (dk_at dksX3_keepSet_1 7 rfl rfl)
theorem dX3_keepSet_33 : decode cX3_keepSet 33 = .ok (.aload_n 0, 1) := dk_42 (dk_at dksX3_keepSet_1 10 rfl rfl)
theorem dX3_keepSet_34 : decode cX3_keepSet 34 = .ok (.iload_n 2, 1) := dk_28 (dk_at dksX3_keepSet_1 11 rfl rfl)
theorem dX3_keepSet_35 : decode cX3_keepSet 35 = .ok (.invokevirtual 405, 3) := dk_182 1 149 (dk_at dksX3_keepSet_1 12 rfl rfl)
theorem dX3_keepSet_38 : decode cX3_keepSet 38 = .ok (.ifCond .eq 5, 3) := dk_153 0 5 (dk_at dksX3_keepSet_1 15 rfl rfl)
theorem dX3_keepSet_41 : decode cX3_keepSet 41 = .ok (.iload_n 2, 1) := dk_28 (dk_at dksX3_keepSet_1 18 rfl rfl)
theorem dX3_keepSet_42 : decode cX3_keepSet 42 = .ok (.istore_n 1, 1) := dk_60 (dk_at dksX3_keepSet_1 19 rfl rfl)
theorem dX3_keepSet_43 : decode cX3_keepSet 43 = .ok (.iinc 2 1, 3) := dk_132 2 1 (dk_at dksX3_keepSet_1 20 rfl rfl)
theorem dX3_keepSet_46 : decode cX3_keepSet 46 = .ok (.goto (-42), 3) := dk_167 255 214 (dk_at dksX3_keepSet_2 0 rfl rfl)
theorem dX3_keepSet_49 : decode cX3_keepSet 49 = .ok (.iload_n 1, 1) := dk_27 (dk_at dksX3_keepSet_2 3 rfl rfl)
theorem dX3_keepSet_50 : decode cX3_keepSet 50 = .ok (.ireturn, 1) := dk_172 (dk_at dksX3_keepSet_2 4 rfl rfl)
abbrev cX3_haveAll : ByteArray := prog_14_method_92_code
def yX3_haveAll : MethodName := ⟨RX3, "haveAll", "(I)Z"⟩
def dkwX3_haveAll_1 : List UInt8 := [3, 182, 1, 81, 182, 1, 143, 27, 126, 154, 0, 5, 3, 172, 132, 2, 1, 167, 255, 217, 4, 172]
abbrev dktX3_haveAll_1 : List UInt8 := dkwX3_haveAll_1 ++ []
def dkwX3_haveAll_0 : List UInt8 := [3, 61, 28, 42, 180, 0, 7, 16, 98, 46, 162, 0, 34, 42, 28, 182, 1, 84, 154, 0, 20, 42, 42, 28]
abbrev dktX3_haveAll_0 : List UInt8 := dkwX3_haveAll_0 ++ dktX3_haveAll_1
theorem dksX3_haveAll_0 : cX3_haveAll.data.toList.drop 0 = dktX3_haveAll_0 := by decide +kernel
theorem dksX3_haveAll_1 : cX3_haveAll.data.toList.drop 24 = dktX3_haveAll_1 := dk_seg dksX3_haveAll_0 24 rfl rfl
theorem dX3_haveAll_0 : decode cX3_haveAll 0 = .ok (.iconst 0, 1) := dk_3 (dk_at dksX3_haveAll_0 0 rfl rfl)
theorem dX3_haveAll_1 : decode cX3_haveAll 1 = .ok (.istore_n 2, 1) := dk_61 (dk_at dksX3_haveAll_0 1 rfl rfl)
theorem dX3_haveAll_2 : decode cX3_haveAll 2 = .ok (.iload_n 2, 1) := dk_28 (dk_at dksX3_haveAll_0 2 rfl rfl)
theorem dX3_haveAll_3 : decode cX3_haveAll 3 = .ok (.aload_n 0, 1) := dk_42 (dk_at dksX3_haveAll_0 3 rfl rfl)
theorem dX3_haveAll_4 : decode cX3_haveAll 4 = .ok (.getfield 7, 3) := dk_180 0 7 (dk_at dksX3_haveAll_0 4 rfl rfl)
theorem dX3_haveAll_7 : decode cX3_haveAll 7 = .ok (.bipush 98, 2) := dk_16 98 (dk_at dksX3_haveAll_0 7 rfl rfl)
theorem dX3_haveAll_9 : decode cX3_haveAll 9 = .ok (.iaload, 1) := dk_46 (dk_at dksX3_haveAll_0 9 rfl rfl)
theorem dX3_haveAll_10 : decode cX3_haveAll 10 = .ok (.if_icmp .ge 34, 3) := dk_162 0 34 (dk_at dksX3_haveAll_0 10 rfl rfl)
theorem dX3_haveAll_13 : decode cX3_haveAll 13 = .ok (.aload_n 0, 1) := dk_42 (dk_at dksX3_haveAll_0 13 rfl rfl)
theorem dX3_haveAll_14 : decode cX3_haveAll 14 = .ok (.iload_n 2, 1) := dk_28 (dk_at dksX3_haveAll_0 14 rfl rfl)
theorem dX3_haveAll_15 : decode cX3_haveAll 15 = .ok (.invokevirtual 340, 3) := dk_182 1 84 (dk_at dksX3_haveAll_0 15 rfl rfl)
theorem dX3_haveAll_18 : decode cX3_haveAll 18 = .ok (.ifCond .ne 20, 3) := dk_154 0 20 (dk_at dksX3_haveAll_0 18 rfl rfl)
theorem dX3_haveAll_21 : decode cX3_haveAll 21 = .ok (.aload_n 0, 1) := dk_42 (dk_at dksX3_haveAll_0 21 rfl rfl)
theorem dX3_haveAll_22 : decode cX3_haveAll 22 = .ok (.aload_n 0, 1) := dk_42 (dk_at dksX3_haveAll_0 22 rfl rfl)
theorem dX3_haveAll_23 : decode cX3_haveAll 23 = .ok (.iload_n 2, 1) := dk_28 (dk_at dksX3_haveAll_0 23 rfl rfl)
theorem dX3_haveAll_24 : decode cX3_haveAll 24 = .ok (.iconst 0, 1) := dk_3 (dk_at dksX3_haveAll_1 0 rfl rfl)
theorem dX3_haveAll_25 : decode cX3_haveAll 25 = .ok (.invokevirtual 337, 3) := dk_182 1 81 (dk_at dksX3_haveAll_1 1 rfl rfl)
theorem dX3_haveAll_28 : decode cX3_haveAll 28 = .ok (.invokevirtual 399, 3) := dk_182 1 143 (dk_at dksX3_haveAll_1 4 rfl rfl)
theorem dX3_haveAll_31 : decode cX3_haveAll 31 = .ok (.iload_n 1, 1) := dk_27 (dk_at dksX3_haveAll_1 7 rfl rfl)
theorem dX3_haveAll_32 : decode cX3_haveAll 32 = .ok (.iand, 1) := dk_126 (dk_at dksX3_haveAll_1 8 rfl rfl)
theorem dX3_haveAll_33 : decode cX3_haveAll 33 = .ok (.ifCond .ne 5, 3) := dk_154 0 5 (dk_at dksX3_haveAll_1 9 rfl rfl)
theorem dX3_haveAll_36 : decode cX3_haveAll 36 = .ok (.iconst 0, 1) := dk_3 (dk_at dksX3_haveAll_1 12 rfl rfl)
theorem dX3_haveAll_37 : decode cX3_haveAll 37 = .ok (.ireturn, 1) := dk_172 (dk_at dksX3_haveAll_1 13 rfl rfl)
theorem dX3_haveAll_38 : decode cX3_haveAll 38 = .ok (.iinc 2 1, 3) := dk_132 2 1 (dk_at dksX3_haveAll_1 14 rfl rfl)
theorem dX3_haveAll_41 : decode cX3_haveAll 41 = .ok (.goto (-39), 3) := dk_167 255 217 (dk_at dksX3_haveAll_1 17 rfl rfl)
theorem dX3_haveAll_44 : decode cX3_haveAll 44 = .ok (.iconst 1, 1) := dk_4 (dk_at dksX3_haveAll_1 20 rfl rfl)
theorem dX3_haveAll_45 : decode cX3_haveAll 45 = .ok (.ireturn, 1) := dk_172 (dk_at dksX3_haveAll_1 21 rfl rfl)
abbrev cX3_changes : ByteArray := prog_14_method_97_code
def yX3_changes : MethodName := ⟨RX3, "changes", "(I)I"⟩
def dkwX3_changes_4 : List UInt8 := [28, 167, 0, 4, 29, 172]
abbrev dktX3_changes_4 : List UInt8 := dkwX3_changes_4 ++ []
def dkwX3_changes_3 : List UInt8 := [42, 21, 4, 182, 1, 164, 167, 0, 4, 29, 62, 132, 2, 1, 132, 4, 1, 167, 255, 191, 27, 154, 0, 7]
abbrev dktX3_changes_3 : List UInt8 := dkwX3_changes_3 ++ dktX3_changes_4
def dkwX3_changes_2 : List UInt8 := [167, 0, 38, 42, 21, 4, 182, 1, 164, 2, 160, 0, 5, 2, 172, 27, 16, 10, 21, 4, 96, 160, 0, 12]
abbrev dktX3_changes_2 : List UInt8 := dkwX3_changes_2 ++ dktX3_changes_3
def dkwX3_changes_1 : List UInt8 := [21, 4, 7, 162, 0, 65, 42, 21, 4, 182, 1, 158, 153, 0, 50, 42, 21, 4, 182, 1, 161, 158, 0, 6]
abbrev dktX3_changes_1 : List UInt8 := dkwX3_changes_1 ++ dktX3_changes_2
def dkwX3_changes_0 : List UInt8 := [27, 153, 0, 16, 27, 16, 10, 16, 13, 184, 0, 77, 154, 0, 5, 2, 172, 3, 61, 2, 62, 3, 54, 4]
abbrev dktX3_changes_0 : List UInt8 := dkwX3_changes_0 ++ dktX3_changes_1
theorem dksX3_changes_0 : cX3_changes.data.toList.drop 0 = dktX3_changes_0 := by decide +kernel
theorem dksX3_changes_1 : cX3_changes.data.toList.drop 24 = dktX3_changes_1 := dk_seg dksX3_changes_0 24 rfl rfl
theorem dksX3_changes_2 : cX3_changes.data.toList.drop 48 = dktX3_changes_2 := dk_seg dksX3_changes_1 24 rfl rfl
theorem dksX3_changes_3 : cX3_changes.data.toList.drop 72 = dktX3_changes_3 := dk_seg dksX3_changes_2 24 rfl rfl
theorem dksX3_changes_4 : cX3_changes.data.toList.drop 96 = dktX3_changes_4 := dk_seg dksX3_changes_3 24 rfl rfl
theorem dX3_changes_0 : decode cX3_changes 0 = .ok (.iload_n 1, 1) := dk_27 (dk_at dksX3_changes_0 0 rfl rfl)
theorem dX3_changes_1 : decode cX3_changes 1 = .ok (.ifCond .eq 16, 3) := dk_153 0 16 (dk_at dksX3_changes_0 1 rfl rfl)
theorem dX3_changes_4 : decode cX3_changes 4 = .ok (.iload_n 1, 1) := dk_27 (dk_at dksX3_changes_0 4 rfl rfl)
theorem dX3_changes_5 : decode cX3_changes 5 = .ok (.bipush 10, 2) := dk_16 10 (dk_at dksX3_changes_0 5 rfl rfl)
theorem dX3_changes_7 : decode cX3_changes 7 = .ok (.bipush 13, 2) := dk_16 13 (dk_at dksX3_changes_0 7 rfl rfl)
theorem dX3_changes_9 : decode cX3_changes 9 = .ok (.invokestatic 77, 3) := dk_184 0 77 (dk_at dksX3_changes_0 9 rfl rfl)
theorem dX3_changes_12 : decode cX3_changes 12 = .ok (.ifCond .ne 5, 3) := dk_154 0 5 (dk_at dksX3_changes_0 12 rfl rfl)
theorem dX3_changes_15 : decode cX3_changes 15 = .ok (.iconst (-1), 1) := dk_2 (dk_at dksX3_changes_0 15 rfl rfl)
theorem dX3_changes_16 : decode cX3_changes 16 = .ok (.ireturn, 1) := dk_172 (dk_at dksX3_changes_0 16 rfl rfl)
theorem dX3_changes_17 : decode cX3_changes 17 = .ok (.iconst 0, 1) := dk_3 (dk_at dksX3_changes_0 17 rfl rfl)
theorem dX3_changes_18 : decode cX3_changes 18 = .ok (.istore_n 2, 1) := dk_61 (dk_at dksX3_changes_0 18 rfl rfl)
theorem dX3_changes_19 : decode cX3_changes 19 = .ok (.iconst (-1), 1) := dk_2 (dk_at dksX3_changes_0 19 rfl rfl)
theorem dX3_changes_20 : decode cX3_changes 20 = .ok (.istore_n 3, 1) := dk_62 (dk_at dksX3_changes_0 20 rfl rfl)
theorem dX3_changes_21 : decode cX3_changes 21 = .ok (.iconst 0, 1) := dk_3 (dk_at dksX3_changes_0 21 rfl rfl)
theorem dX3_changes_22 : decode cX3_changes 22 = .ok (.istore 4, 2) := dk_54 4 (dk_at dksX3_changes_0 22 rfl rfl)
theorem dX3_changes_24 : decode cX3_changes 24 = .ok (.iload 4, 2) := dk_21 4 (dk_at dksX3_changes_1 0 rfl rfl)
theorem dX3_changes_26 : decode cX3_changes 26 = .ok (.iconst 4, 1) := dk_7 (dk_at dksX3_changes_1 2 rfl rfl)
theorem dX3_changes_27 : decode cX3_changes 27 = .ok (.if_icmp .ge 65, 3) := dk_162 0 65 (dk_at dksX3_changes_1 3 rfl rfl)
theorem dX3_changes_30 : decode cX3_changes 30 = .ok (.aload_n 0, 1) := dk_42 (dk_at dksX3_changes_1 6 rfl rfl)
theorem dX3_changes_31 : decode cX3_changes 31 = .ok (.iload 4, 2) := dk_21 4 (dk_at dksX3_changes_1 7 rfl rfl)
theorem dX3_changes_33 : decode cX3_changes 33 = .ok (.invokevirtual 414, 3) := dk_182 1 158 (dk_at dksX3_changes_1 9 rfl rfl)
theorem dX3_changes_36 : decode cX3_changes 36 = .ok (.ifCond .eq 50, 3) := dk_153 0 50 (dk_at dksX3_changes_1 12 rfl rfl)
theorem dX3_changes_39 : decode cX3_changes 39 = .ok (.aload_n 0, 1) := dk_42 (dk_at dksX3_changes_1 15 rfl rfl)
theorem dX3_changes_40 : decode cX3_changes 40 = .ok (.iload 4, 2) := dk_21 4 (dk_at dksX3_changes_1 16 rfl rfl)
theorem dX3_changes_42 : decode cX3_changes 42 = .ok (.invokevirtual 417, 3) := dk_182 1 161 (dk_at dksX3_changes_1 18 rfl rfl)
theorem dX3_changes_45 : decode cX3_changes 45 = .ok (.ifCond .le 6, 3) := dk_158 0 6 (dk_at dksX3_changes_1 21 rfl rfl)
theorem dX3_changes_48 : decode cX3_changes 48 = .ok (.goto 38, 3) := dk_167 0 38 (dk_at dksX3_changes_2 0 rfl rfl)
theorem dX3_changes_51 : decode cX3_changes 51 = .ok (.aload_n 0, 1) := dk_42 (dk_at dksX3_changes_2 3 rfl rfl)
theorem dX3_changes_52 : decode cX3_changes 52 = .ok (.iload 4, 2) := dk_21 4 (dk_at dksX3_changes_2 4 rfl rfl)
theorem dX3_changes_54 : decode cX3_changes 54 = .ok (.invokevirtual 420, 3) := dk_182 1 164 (dk_at dksX3_changes_2 6 rfl rfl)
theorem dX3_changes_57 : decode cX3_changes 57 = .ok (.iconst (-1), 1) := dk_2 (dk_at dksX3_changes_2 9 rfl rfl)
theorem dX3_changes_58 : decode cX3_changes 58 = .ok (.if_icmp .ne 5, 3) := dk_160 0 5 (dk_at dksX3_changes_2 10 rfl rfl)
theorem dX3_changes_61 : decode cX3_changes 61 = .ok (.iconst (-1), 1) := dk_2 (dk_at dksX3_changes_2 13 rfl rfl)
theorem dX3_changes_62 : decode cX3_changes 62 = .ok (.ireturn, 1) := dk_172 (dk_at dksX3_changes_2 14 rfl rfl)
theorem dX3_changes_63 : decode cX3_changes 63 = .ok (.iload_n 1, 1) := dk_27 (dk_at dksX3_changes_2 15 rfl rfl)
theorem dX3_changes_64 : decode cX3_changes 64 = .ok (.bipush 10, 2) := dk_16 10 (dk_at dksX3_changes_2 16 rfl rfl)
theorem dX3_changes_66 : decode cX3_changes 66 = .ok (.iload 4, 2) := dk_21 4 (dk_at dksX3_changes_2 18 rfl rfl)
theorem dX3_changes_68 : decode cX3_changes 68 = .ok (.iadd, 1) := dk_96 (dk_at dksX3_changes_2 20 rfl rfl)
theorem dX3_changes_69 : decode cX3_changes 69 = .ok (.if_icmp .ne 12, 3) := dk_160 0 12 (dk_at dksX3_changes_2 21 rfl rfl)
theorem dX3_changes_72 : decode cX3_changes 72 = .ok (.aload_n 0, 1) := dk_42 (dk_at dksX3_changes_3 0 rfl rfl)
theorem dX3_changes_73 : decode cX3_changes 73 = .ok (.iload 4, 2) := dk_21 4 (dk_at dksX3_changes_3 1 rfl rfl)
theorem dX3_changes_75 : decode cX3_changes 75 = .ok (.invokevirtual 420, 3) := dk_182 1 164 (dk_at dksX3_changes_3 3 rfl rfl)
theorem dX3_changes_78 : decode cX3_changes 78 = .ok (.goto 4, 3) := dk_167 0 4 (dk_at dksX3_changes_3 6 rfl rfl)
theorem dX3_changes_81 : decode cX3_changes 81 = .ok (.iload_n 3, 1) := dk_29 (dk_at dksX3_changes_3 9 rfl rfl)
theorem dX3_changes_82 : decode cX3_changes 82 = .ok (.istore_n 3, 1) := dk_62 (dk_at dksX3_changes_3 10 rfl rfl)
theorem dX3_changes_83 : decode cX3_changes 83 = .ok (.iinc 2 1, 3) := dk_132 2 1 (dk_at dksX3_changes_3 11 rfl rfl)
theorem dX3_changes_86 : decode cX3_changes 86 = .ok (.iinc 4 1, 3) := dk_132 4 1 (dk_at dksX3_changes_3 14 rfl rfl)
theorem dX3_changes_89 : decode cX3_changes 89 = .ok (.goto (-65), 3) := dk_167 255 191 (dk_at dksX3_changes_3 17 rfl rfl)
theorem dX3_changes_92 : decode cX3_changes 92 = .ok (.iload_n 1, 1) := dk_27 (dk_at dksX3_changes_3 20 rfl rfl)
theorem dX3_changes_93 : decode cX3_changes 93 = .ok (.ifCond .ne 7, 3) := dk_154 0 7 (dk_at dksX3_changes_3 21 rfl rfl)
theorem dX3_changes_96 : decode cX3_changes 96 = .ok (.iload_n 2, 1) := dk_28 (dk_at dksX3_changes_4 0 rfl rfl)
theorem dX3_changes_97 : decode cX3_changes 97 = .ok (.goto 4, 3) := dk_167 0 4 (dk_at dksX3_changes_4 1 rfl rfl)
theorem dX3_changes_100 : decode cX3_changes 100 = .ok (.iload_n 3, 1) := dk_29 (dk_at dksX3_changes_4 4 rfl rfl)
theorem dX3_changes_101 : decode cX3_changes 101 = .ok (.ireturn, 1) := dk_172 (dk_at dksX3_changes_4 5 rfl rfl)
abbrev cX3_isWanted : ByteArray := prog_14_method_95_code
def yX3_isWanted : MethodName := ⟨RX3, "isWanted", "(I)Z"⟩
def dkwX3_isWanted_1 : List UInt8 := [182, 1, 81, 27, 160, 0, 5, 4, 172, 132, 2, 1, 167, 255, 222, 3, 172]
abbrev dktX3_isWanted_1 : List UInt8 := dkwX3_isWanted_1 ++ []
def dkwX3_isWanted_0 : List UInt8 := [3, 61, 28, 42, 180, 0, 7, 16, 98, 46, 162, 0, 29, 42, 28, 182, 1, 84, 154, 0, 15, 42, 28, 3]
abbrev dktX3_isWanted_0 : List UInt8 := dkwX3_isWanted_0 ++ dktX3_isWanted_1
theorem dksX3_isWanted_0 : cX3_isWanted.data.toList.drop 0 = dktX3_isWanted_0 := by decide +kernel
theorem dksX3_isWanted_1 : cX3_isWanted.data.toList.drop 24 = dktX3_isWanted_1 := dk_seg dksX3_isWanted_0 24 rfl rfl
theorem dX3_isWanted_0 : decode cX3_isWanted 0 = .ok (.iconst 0, 1) := dk_3 (dk_at dksX3_isWanted_0 0 rfl rfl)
theorem dX3_isWanted_1 : decode cX3_isWanted 1 = .ok (.istore_n 2, 1) := dk_61 (dk_at dksX3_isWanted_0 1 rfl rfl)
theorem dX3_isWanted_2 : decode cX3_isWanted 2 = .ok (.iload_n 2, 1) := dk_28 (dk_at dksX3_isWanted_0 2 rfl rfl)
theorem dX3_isWanted_3 : decode cX3_isWanted 3 = .ok (.aload_n 0, 1) := dk_42 (dk_at dksX3_isWanted_0 3 rfl rfl)
theorem dX3_isWanted_4 : decode cX3_isWanted 4 = .ok (.getfield 7, 3) := dk_180 0 7 (dk_at dksX3_isWanted_0 4 rfl rfl)
theorem dX3_isWanted_7 : decode cX3_isWanted 7 = .ok (.bipush 98, 2) := dk_16 98 (dk_at dksX3_isWanted_0 7 rfl rfl)
theorem dX3_isWanted_9 : decode cX3_isWanted 9 = .ok (.iaload, 1) := dk_46 (dk_at dksX3_isWanted_0 9 rfl rfl)
theorem dX3_isWanted_10 : decode cX3_isWanted 10 = .ok (.if_icmp .ge 29, 3) := dk_162 0 29 (dk_at dksX3_isWanted_0 10 rfl rfl)
theorem dX3_isWanted_13 : decode cX3_isWanted 13 = .ok (.aload_n 0, 1) := dk_42 (dk_at dksX3_isWanted_0 13 rfl rfl)
theorem dX3_isWanted_14 : decode cX3_isWanted 14 = .ok (.iload_n 2, 1) := dk_28 (dk_at dksX3_isWanted_0 14 rfl rfl)
theorem dX3_isWanted_15 : decode cX3_isWanted 15 = .ok (.invokevirtual 340, 3) := dk_182 1 84 (dk_at dksX3_isWanted_0 15 rfl rfl)
theorem dX3_isWanted_18 : decode cX3_isWanted 18 = .ok (.ifCond .ne 15, 3) := dk_154 0 15 (dk_at dksX3_isWanted_0 18 rfl rfl)
theorem dX3_isWanted_21 : decode cX3_isWanted 21 = .ok (.aload_n 0, 1) := dk_42 (dk_at dksX3_isWanted_0 21 rfl rfl)
theorem dX3_isWanted_22 : decode cX3_isWanted 22 = .ok (.iload_n 2, 1) := dk_28 (dk_at dksX3_isWanted_0 22 rfl rfl)
theorem dX3_isWanted_23 : decode cX3_isWanted 23 = .ok (.iconst 0, 1) := dk_3 (dk_at dksX3_isWanted_0 23 rfl rfl)
theorem dX3_isWanted_24 : decode cX3_isWanted 24 = .ok (.invokevirtual 337, 3) := dk_182 1 81 (dk_at dksX3_isWanted_1 0 rfl rfl)
theorem dX3_isWanted_27 : decode cX3_isWanted 27 = .ok (.iload_n 1, 1) := dk_27 (dk_at dksX3_isWanted_1 3 rfl rfl)
theorem dX3_isWanted_28 : decode cX3_isWanted 28 = .ok (.if_icmp .ne 5, 3) := dk_160 0 5 (dk_at dksX3_isWanted_1 4 rfl rfl)
theorem dX3_isWanted_31 : decode cX3_isWanted 31 = .ok (.iconst 1, 1) := dk_4 (dk_at dksX3_isWanted_1 7 rfl rfl)
theorem dX3_isWanted_32 : decode cX3_isWanted 32 = .ok (.ireturn, 1) := dk_172 (dk_at dksX3_isWanted_1 8 rfl rfl)
theorem dX3_isWanted_33 : decode cX3_isWanted 33 = .ok (.iinc 2 1, 3) := dk_132 2 1 (dk_at dksX3_isWanted_1 9 rfl rfl)
theorem dX3_isWanted_36 : decode cX3_isWanted 36 = .ok (.goto (-34), 3) := dk_167 255 222 (dk_at dksX3_isWanted_1 12 rfl rfl)
theorem dX3_isWanted_39 : decode cX3_isWanted 39 = .ok (.iconst 0, 1) := dk_3 (dk_at dksX3_isWanted_1 15 rfl rfl)
theorem dX3_isWanted_40 : decode cX3_isWanted 40 = .ok (.ireturn, 1) := dk_172 (dk_at dksX3_isWanted_1 16 rfl rfl)
abbrev cX3_handsOf : ByteArray := prog_14_method_87_code
def yX3_handsOf : MethodName := ⟨RX3, "handsOf", "(I)I"⟩
def dkwX3_handsOf_2 : List UInt8 := [153, 0, 7, 4, 167, 0, 4, 3, 96, 61, 132, 4, 1, 167, 255, 213, 132, 3, 1, 167, 255, 193, 28, 172]
abbrev dktX3_handsOf_2 : List UInt8 := dkwX3_handsOf_2 ++ []
def dkwX3_handsOf_1 : List UInt8 := [16, 97, 46, 162, 0, 37, 28, 42, 29, 3, 182, 1, 57, 27, 160, 0, 17, 42, 29, 21, 4, 182, 1, 105]
abbrev dktX3_handsOf_1 : List UInt8 := dkwX3_handsOf_1 ++ dktX3_handsOf_2
def dkwX3_handsOf_0 : List UInt8 := [3, 61, 3, 62, 29, 42, 180, 0, 7, 16, 96, 46, 162, 0, 58, 3, 54, 4, 21, 4, 42, 180, 0, 7]
abbrev dktX3_handsOf_0 : List UInt8 := dkwX3_handsOf_0 ++ dktX3_handsOf_1
theorem dksX3_handsOf_0 : cX3_handsOf.data.toList.drop 0 = dktX3_handsOf_0 := by decide +kernel
theorem dksX3_handsOf_1 : cX3_handsOf.data.toList.drop 24 = dktX3_handsOf_1 := dk_seg dksX3_handsOf_0 24 rfl rfl
theorem dksX3_handsOf_2 : cX3_handsOf.data.toList.drop 48 = dktX3_handsOf_2 := dk_seg dksX3_handsOf_1 24 rfl rfl
theorem dX3_handsOf_0 : decode cX3_handsOf 0 = .ok (.iconst 0, 1) := dk_3 (dk_at dksX3_handsOf_0 0 rfl rfl)
theorem dX3_handsOf_1 : decode cX3_handsOf 1 = .ok (.istore_n 2, 1) := dk_61 (dk_at dksX3_handsOf_0 1 rfl rfl)
theorem dX3_handsOf_2 : decode cX3_handsOf 2 = .ok (.iconst 0, 1) := dk_3 (dk_at dksX3_handsOf_0 2 rfl rfl)
theorem dX3_handsOf_3 : decode cX3_handsOf 3 = .ok (.istore_n 3, 1) := dk_62 (dk_at dksX3_handsOf_0 3 rfl rfl)
theorem dX3_handsOf_4 : decode cX3_handsOf 4 = .ok (.iload_n 3, 1) := dk_29 (dk_at dksX3_handsOf_0 4 rfl rfl)
theorem dX3_handsOf_5 : decode cX3_handsOf 5 = .ok (.aload_n 0, 1) := dk_42 (dk_at dksX3_handsOf_0 5 rfl rfl)
theorem dX3_handsOf_6 : decode cX3_handsOf 6 = .ok (.getfield 7, 3) := dk_180 0 7 (dk_at dksX3_handsOf_0 6 rfl rfl)
theorem dX3_handsOf_9 : decode cX3_handsOf 9 = .ok (.bipush 96, 2) := dk_16 96 (dk_at dksX3_handsOf_0 9 rfl rfl)
theorem dX3_handsOf_11 : decode cX3_handsOf 11 = .ok (.iaload, 1) := dk_46 (dk_at dksX3_handsOf_0 11 rfl rfl)
theorem dX3_handsOf_12 : decode cX3_handsOf 12 = .ok (.if_icmp .ge 58, 3) := dk_162 0 58 (dk_at dksX3_handsOf_0 12 rfl rfl)
theorem dX3_handsOf_15 : decode cX3_handsOf 15 = .ok (.iconst 0, 1) := dk_3 (dk_at dksX3_handsOf_0 15 rfl rfl)
theorem dX3_handsOf_16 : decode cX3_handsOf 16 = .ok (.istore 4, 2) := dk_54 4 (dk_at dksX3_handsOf_0 16 rfl rfl)
theorem dX3_handsOf_18 : decode cX3_handsOf 18 = .ok (.iload 4, 2) := dk_21 4 (dk_at dksX3_handsOf_0 18 rfl rfl)
theorem dX3_handsOf_20 : decode cX3_handsOf 20 = .ok (.aload_n 0, 1) := dk_42 (dk_at dksX3_handsOf_0 20 rfl rfl)
theorem dX3_handsOf_21 : decode cX3_handsOf 21 = .ok (.getfield 7, 3) := dk_180 0 7 (dk_at dksX3_handsOf_0 21 rfl rfl)
theorem dX3_handsOf_24 : decode cX3_handsOf 24 = .ok (.bipush 97, 2) := dk_16 97 (dk_at dksX3_handsOf_1 0 rfl rfl)
theorem dX3_handsOf_26 : decode cX3_handsOf 26 = .ok (.iaload, 1) := dk_46 (dk_at dksX3_handsOf_1 2 rfl rfl)
theorem dX3_handsOf_27 : decode cX3_handsOf 27 = .ok (.if_icmp .ge 37, 3) := dk_162 0 37 (dk_at dksX3_handsOf_1 3 rfl rfl)
theorem dX3_handsOf_30 : decode cX3_handsOf 30 = .ok (.iload_n 2, 1) := dk_28 (dk_at dksX3_handsOf_1 6 rfl rfl)
theorem dX3_handsOf_31 : decode cX3_handsOf 31 = .ok (.aload_n 0, 1) := dk_42 (dk_at dksX3_handsOf_1 7 rfl rfl)
theorem dX3_handsOf_32 : decode cX3_handsOf 32 = .ok (.iload_n 3, 1) := dk_29 (dk_at dksX3_handsOf_1 8 rfl rfl)
theorem dX3_handsOf_33 : decode cX3_handsOf 33 = .ok (.iconst 0, 1) := dk_3 (dk_at dksX3_handsOf_1 9 rfl rfl)
theorem dX3_handsOf_34 : decode cX3_handsOf 34 = .ok (.invokevirtual 313, 3) := dk_182 1 57 (dk_at dksX3_handsOf_1 10 rfl rfl)
theorem dX3_handsOf_37 : decode cX3_handsOf 37 = .ok (.iload_n 1, 1) := dk_27 (dk_at dksX3_handsOf_1 13 rfl rfl)
theorem dX3_handsOf_38 : decode cX3_handsOf 38 = .ok (.if_icmp .ne 17, 3) := dk_160 0 17 (dk_at dksX3_handsOf_1 14 rfl rfl)
theorem dX3_handsOf_41 : decode cX3_handsOf 41 = .ok (.aload_n 0, 1) := dk_42 (dk_at dksX3_handsOf_1 17 rfl rfl)
theorem dX3_handsOf_42 : decode cX3_handsOf 42 = .ok (.iload_n 3, 1) := dk_29 (dk_at dksX3_handsOf_1 18 rfl rfl)
theorem dX3_handsOf_43 : decode cX3_handsOf 43 = .ok (.iload 4, 2) := dk_21 4 (dk_at dksX3_handsOf_1 19 rfl rfl)
theorem dX3_handsOf_45 : decode cX3_handsOf 45 = .ok (.invokevirtual 361, 3) := dk_182 1 105 (dk_at dksX3_handsOf_1 21 rfl rfl)
theorem dX3_handsOf_48 : decode cX3_handsOf 48 = .ok (.ifCond .eq 7, 3) := dk_153 0 7 (dk_at dksX3_handsOf_2 0 rfl rfl)
theorem dX3_handsOf_51 : decode cX3_handsOf 51 = .ok (.iconst 1, 1) := dk_4 (dk_at dksX3_handsOf_2 3 rfl rfl)
theorem dX3_handsOf_52 : decode cX3_handsOf 52 = .ok (.goto 4, 3) := dk_167 0 4 (dk_at dksX3_handsOf_2 4 rfl rfl)
theorem dX3_handsOf_55 : decode cX3_handsOf 55 = .ok (.iconst 0, 1) := dk_3 (dk_at dksX3_handsOf_2 7 rfl rfl)
theorem dX3_handsOf_56 : decode cX3_handsOf 56 = .ok (.iadd, 1) := dk_96 (dk_at dksX3_handsOf_2 8 rfl rfl)
theorem dX3_handsOf_57 : decode cX3_handsOf 57 = .ok (.istore_n 2, 1) := dk_61 (dk_at dksX3_handsOf_2 9 rfl rfl)
theorem dX3_handsOf_58 : decode cX3_handsOf 58 = .ok (.iinc 4 1, 3) := dk_132 4 1 (dk_at dksX3_handsOf_2 10 rfl rfl)
theorem dX3_handsOf_61 : decode cX3_handsOf 61 = .ok (.goto (-43), 3) := dk_167 255 213 (dk_at dksX3_handsOf_2 13 rfl rfl)
theorem dX3_handsOf_64 : decode cX3_handsOf 64 = .ok (.iinc 3 1, 3) := dk_132 3 1 (dk_at dksX3_handsOf_2 16 rfl rfl)
theorem dX3_handsOf_67 : decode cX3_handsOf 67 = .ok (.goto (-63), 3) := dk_167 255 193 (dk_at dksX3_handsOf_2 19 rfl rfl)
theorem dX3_handsOf_70 : decode cX3_handsOf 70 = .ok (.iload_n 2, 1) := dk_28 (dk_at dksX3_handsOf_2 22 rfl rfl)
theorem dX3_handsOf_71 : decode cX3_handsOf 71 = .ok (.ireturn, 1) := dk_172 (dk_at dksX3_handsOf_2 23 rfl rfl)
abbrev cX3_branchFor : ByteArray := prog_14_method_96_code
def yX3_branchFor : MethodName := ⟨RX3, "branchFor", "(I)I"⟩
def dkwX3_branchFor_3 : List UInt8 := [4, 182, 1, 57, 61, 132, 4, 1, 167, 255, 224, 132, 3, 1, 167, 255, 176, 28, 172]
abbrev dktX3_branchFor_3 : List UInt8 := dkwX3_branchFor_3 ++ []
def dkwX3_branchFor_2 : List UInt8 := [21, 4, 42, 180, 0, 7, 16, 97, 46, 162, 0, 26, 42, 29, 21, 4, 182, 1, 71, 153, 0, 10, 42, 29]
abbrev dktX3_branchFor_2 : List UInt8 := dkwX3_branchFor_2 ++ dktX3_branchFor_3
def dkwX3_branchFor_1 : List UInt8 := [160, 0, 59, 28, 2, 159, 0, 16, 42, 29, 4, 182, 1, 57, 28, 161, 0, 6, 167, 0, 41, 3, 54, 4]
abbrev dktX3_branchFor_1 : List UInt8 := dkwX3_branchFor_1 ++ dktX3_branchFor_2
def dkwX3_branchFor_0 : List UInt8 := [2, 61, 3, 62, 29, 42, 180, 0, 7, 16, 96, 46, 162, 0, 75, 42, 29, 3, 182, 1, 57, 27]
abbrev dktX3_branchFor_0 : List UInt8 := dkwX3_branchFor_0 ++ dktX3_branchFor_1
theorem dksX3_branchFor_0 : cX3_branchFor.data.toList.drop 0 = dktX3_branchFor_0 := by decide +kernel
theorem dksX3_branchFor_1 : cX3_branchFor.data.toList.drop 22 = dktX3_branchFor_1 := dk_seg dksX3_branchFor_0 22 rfl rfl
theorem dksX3_branchFor_2 : cX3_branchFor.data.toList.drop 46 = dktX3_branchFor_2 := dk_seg dksX3_branchFor_1 24 rfl rfl
theorem dksX3_branchFor_3 : cX3_branchFor.data.toList.drop 70 = dktX3_branchFor_3 := dk_seg dksX3_branchFor_2 24 rfl rfl
theorem dX3_branchFor_0 : decode cX3_branchFor 0 = .ok (.iconst (-1), 1) := dk_2 (dk_at dksX3_branchFor_0 0 rfl rfl)
theorem dX3_branchFor_1 : decode cX3_branchFor 1 = .ok (.istore_n 2, 1) := dk_61 (dk_at dksX3_branchFor_0 1 rfl rfl)
theorem dX3_branchFor_2 : decode cX3_branchFor 2 = .ok (.iconst 0, 1) := dk_3 (dk_at dksX3_branchFor_0 2 rfl rfl)
theorem dX3_branchFor_3 : decode cX3_branchFor 3 = .ok (.istore_n 3, 1) := dk_62 (dk_at dksX3_branchFor_0 3 rfl rfl)
theorem dX3_branchFor_4 : decode cX3_branchFor 4 = .ok (.iload_n 3, 1) := dk_29 (dk_at dksX3_branchFor_0 4 rfl rfl)
theorem dX3_branchFor_5 : decode cX3_branchFor 5 = .ok (.aload_n 0, 1) := dk_42 (dk_at dksX3_branchFor_0 5 rfl rfl)
theorem dX3_branchFor_6 : decode cX3_branchFor 6 = .ok (.getfield 7, 3) := dk_180 0 7 (dk_at dksX3_branchFor_0 6 rfl rfl)
theorem dX3_branchFor_9 : decode cX3_branchFor 9 = .ok (.bipush 96, 2) := dk_16 96 (dk_at dksX3_branchFor_0 9 rfl rfl)
theorem dX3_branchFor_11 : decode cX3_branchFor 11 = .ok (.iaload, 1) := dk_46 (dk_at dksX3_branchFor_0 11 rfl rfl)
theorem dX3_branchFor_12 : decode cX3_branchFor 12 = .ok (.if_icmp .ge 75, 3) := dk_162 0 75 (dk_at dksX3_branchFor_0 12 rfl rfl)
theorem dX3_branchFor_15 : decode cX3_branchFor 15 = .ok (.aload_n 0, 1) := dk_42 (dk_at dksX3_branchFor_0 15 rfl rfl)
theorem dX3_branchFor_16 : decode cX3_branchFor 16 = .ok (.iload_n 3, 1) := dk_29 (dk_at dksX3_branchFor_0 16 rfl rfl)
theorem dX3_branchFor_17 : decode cX3_branchFor 17 = .ok (.iconst 0, 1) := dk_3 (dk_at dksX3_branchFor_0 17 rfl rfl)
theorem dX3_branchFor_18 : decode cX3_branchFor 18 = .ok (.invokevirtual 313, 3) := dk_182 1 57 (dk_at dksX3_branchFor_0 18 rfl rfl)
theorem dX3_branchFor_21 : decode cX3_branchFor 21 = .ok (.iload_n 1, 1) := dk_27 (dk_at dksX3_branchFor_0 21 rfl rfl)
theorem dX3_branchFor_22 : decode cX3_branchFor 22 = .ok (.if_icmp .ne 59, 3) := dk_160 0 59 (dk_at dksX3_branchFor_1 0 rfl rfl)
theorem dX3_branchFor_25 : decode cX3_branchFor 25 = .ok (.iload_n 2, 1) := dk_28 (dk_at dksX3_branchFor_1 3 rfl rfl)
theorem dX3_branchFor_26 : decode cX3_branchFor 26 = .ok (.iconst (-1), 1) := dk_2 (dk_at dksX3_branchFor_1 4 rfl rfl)
theorem dX3_branchFor_27 : decode cX3_branchFor 27 = .ok (.if_icmp .eq 16, 3) := dk_159 0 16 (dk_at dksX3_branchFor_1 5 rfl rfl)
theorem dX3_branchFor_30 : decode cX3_branchFor 30 = .ok (.aload_n 0, 1) := dk_42 (dk_at dksX3_branchFor_1 8 rfl rfl)
theorem dX3_branchFor_31 : decode cX3_branchFor 31 = .ok (.iload_n 3, 1) := dk_29 (dk_at dksX3_branchFor_1 9 rfl rfl)
theorem dX3_branchFor_32 : decode cX3_branchFor 32 = .ok (.iconst 1, 1) := dk_4 (dk_at dksX3_branchFor_1 10 rfl rfl)
theorem dX3_branchFor_33 : decode cX3_branchFor 33 = .ok (.invokevirtual 313, 3) := dk_182 1 57 (dk_at dksX3_branchFor_1 11 rfl rfl)
theorem dX3_branchFor_36 : decode cX3_branchFor 36 = .ok (.iload_n 2, 1) := dk_28 (dk_at dksX3_branchFor_1 14 rfl rfl)
theorem dX3_branchFor_37 : decode cX3_branchFor 37 = .ok (.if_icmp .lt 6, 3) := dk_161 0 6 (dk_at dksX3_branchFor_1 15 rfl rfl)
theorem dX3_branchFor_40 : decode cX3_branchFor 40 = .ok (.goto 41, 3) := dk_167 0 41 (dk_at dksX3_branchFor_1 18 rfl rfl)
theorem dX3_branchFor_43 : decode cX3_branchFor 43 = .ok (.iconst 0, 1) := dk_3 (dk_at dksX3_branchFor_1 21 rfl rfl)
theorem dX3_branchFor_44 : decode cX3_branchFor 44 = .ok (.istore 4, 2) := dk_54 4 (dk_at dksX3_branchFor_1 22 rfl rfl)
theorem dX3_branchFor_46 : decode cX3_branchFor 46 = .ok (.iload 4, 2) := dk_21 4 (dk_at dksX3_branchFor_2 0 rfl rfl)
theorem dX3_branchFor_48 : decode cX3_branchFor 48 = .ok (.aload_n 0, 1) := dk_42 (dk_at dksX3_branchFor_2 2 rfl rfl)
theorem dX3_branchFor_49 : decode cX3_branchFor 49 = .ok (.getfield 7, 3) := dk_180 0 7 (dk_at dksX3_branchFor_2 3 rfl rfl)
theorem dX3_branchFor_52 : decode cX3_branchFor 52 = .ok (.bipush 97, 2) := dk_16 97 (dk_at dksX3_branchFor_2 6 rfl rfl)
theorem dX3_branchFor_54 : decode cX3_branchFor 54 = .ok (.iaload, 1) := dk_46 (dk_at dksX3_branchFor_2 8 rfl rfl)
theorem dX3_branchFor_55 : decode cX3_branchFor 55 = .ok (.if_icmp .ge 26, 3) := dk_162 0 26 (dk_at dksX3_branchFor_2 9 rfl rfl)
theorem dX3_branchFor_58 : decode cX3_branchFor 58 = .ok (.aload_n 0, 1) := dk_42 (dk_at dksX3_branchFor_2 12 rfl rfl)
theorem dX3_branchFor_59 : decode cX3_branchFor 59 = .ok (.iload_n 3, 1) := dk_29 (dk_at dksX3_branchFor_2 13 rfl rfl)
theorem dX3_branchFor_60 : decode cX3_branchFor 60 = .ok (.iload 4, 2) := dk_21 4 (dk_at dksX3_branchFor_2 14 rfl rfl)
theorem dX3_branchFor_62 : decode cX3_branchFor 62 = .ok (.invokevirtual 327, 3) := dk_182 1 71 (dk_at dksX3_branchFor_2 16 rfl rfl)
theorem dX3_branchFor_65 : decode cX3_branchFor 65 = .ok (.ifCond .eq 10, 3) := dk_153 0 10 (dk_at dksX3_branchFor_2 19 rfl rfl)
theorem dX3_branchFor_68 : decode cX3_branchFor 68 = .ok (.aload_n 0, 1) := dk_42 (dk_at dksX3_branchFor_2 22 rfl rfl)
theorem dX3_branchFor_69 : decode cX3_branchFor 69 = .ok (.iload_n 3, 1) := dk_29 (dk_at dksX3_branchFor_2 23 rfl rfl)
theorem dX3_branchFor_70 : decode cX3_branchFor 70 = .ok (.iconst 1, 1) := dk_4 (dk_at dksX3_branchFor_3 0 rfl rfl)
theorem dX3_branchFor_71 : decode cX3_branchFor 71 = .ok (.invokevirtual 313, 3) := dk_182 1 57 (dk_at dksX3_branchFor_3 1 rfl rfl)
theorem dX3_branchFor_74 : decode cX3_branchFor 74 = .ok (.istore_n 2, 1) := dk_61 (dk_at dksX3_branchFor_3 4 rfl rfl)
theorem dX3_branchFor_75 : decode cX3_branchFor 75 = .ok (.iinc 4 1, 3) := dk_132 4 1 (dk_at dksX3_branchFor_3 5 rfl rfl)
theorem dX3_branchFor_78 : decode cX3_branchFor 78 = .ok (.goto (-32), 3) := dk_167 255 224 (dk_at dksX3_branchFor_3 8 rfl rfl)
theorem dX3_branchFor_81 : decode cX3_branchFor 81 = .ok (.iinc 3 1, 3) := dk_132 3 1 (dk_at dksX3_branchFor_3 11 rfl rfl)
theorem dX3_branchFor_84 : decode cX3_branchFor 84 = .ok (.goto (-80), 3) := dk_167 255 176 (dk_at dksX3_branchFor_3 14 rfl rfl)
theorem dX3_branchFor_87 : decode cX3_branchFor 87 = .ok (.iload_n 2, 1) := dk_28 (dk_at dksX3_branchFor_3 17 rfl rfl)
theorem dX3_branchFor_88 : decode cX3_branchFor 88 = .ok (.ireturn, 1) := dk_172 (dk_at dksX3_branchFor_3 18 rfl rfl)
abbrev cX3_soonest : ByteArray := prog_14_method_108_code
def yX3_soonest : MethodName := ⟨RX3, "soonest", "(I)I"⟩
def dkwX3_soonest_3 : List UInt8 := [167, 0, 8, 42, 28, 182, 1, 194, 172]
abbrev dktX3_soonest_3 : List UInt8 := dkwX3_soonest_3 ++ []
def dkwX3_soonest_2 : List UInt8 := [182, 1, 182, 61, 27, 153, 0, 8, 28, 2, 160, 0, 7, 28, 167, 0, 16, 28, 154, 0, 7, 3]
abbrev dktX3_soonest_2 : List UInt8 := dkwX3_soonest_2 ++ dktX3_soonest_3
def dkwX3_soonest_1 : List UInt8 := [180, 0, 55, 28, 16, 254, 79, 132, 2, 1, 167, 255, 239, 42, 42, 182, 1, 185, 42, 182, 1, 188]
abbrev dktX3_soonest_1 : List UInt8 := dkwX3_soonest_1 ++ dktX3_soonest_2
def dkwX3_soonest_0 : List UInt8 := [27, 3, 4, 184, 0, 77, 154, 0, 5, 2, 172, 42, 182, 1, 191, 3, 61, 28, 18, 54, 162, 0, 17, 42]
abbrev dktX3_soonest_0 : List UInt8 := dkwX3_soonest_0 ++ dktX3_soonest_1
theorem dksX3_soonest_0 : cX3_soonest.data.toList.drop 0 = dktX3_soonest_0 := by decide +kernel
theorem dksX3_soonest_1 : cX3_soonest.data.toList.drop 24 = dktX3_soonest_1 := dk_seg dksX3_soonest_0 24 rfl rfl
theorem dksX3_soonest_2 : cX3_soonest.data.toList.drop 46 = dktX3_soonest_2 := dk_seg dksX3_soonest_1 22 rfl rfl
theorem dksX3_soonest_3 : cX3_soonest.data.toList.drop 68 = dktX3_soonest_3 := dk_seg dksX3_soonest_2 22 rfl rfl
theorem dX3_soonest_0 : decode cX3_soonest 0 = .ok (.iload_n 1, 1) := dk_27 (dk_at dksX3_soonest_0 0 rfl rfl)
theorem dX3_soonest_1 : decode cX3_soonest 1 = .ok (.iconst 0, 1) := dk_3 (dk_at dksX3_soonest_0 1 rfl rfl)
theorem dX3_soonest_2 : decode cX3_soonest 2 = .ok (.iconst 1, 1) := dk_4 (dk_at dksX3_soonest_0 2 rfl rfl)
theorem dX3_soonest_3 : decode cX3_soonest 3 = .ok (.invokestatic 77, 3) := dk_184 0 77 (dk_at dksX3_soonest_0 3 rfl rfl)
theorem dX3_soonest_6 : decode cX3_soonest 6 = .ok (.ifCond .ne 5, 3) := dk_154 0 5 (dk_at dksX3_soonest_0 6 rfl rfl)
theorem dX3_soonest_9 : decode cX3_soonest 9 = .ok (.iconst (-1), 1) := dk_2 (dk_at dksX3_soonest_0 9 rfl rfl)
theorem dX3_soonest_10 : decode cX3_soonest 10 = .ok (.ireturn, 1) := dk_172 (dk_at dksX3_soonest_0 10 rfl rfl)
theorem dX3_soonest_11 : decode cX3_soonest 11 = .ok (.aload_n 0, 1) := dk_42 (dk_at dksX3_soonest_0 11 rfl rfl)
theorem dX3_soonest_12 : decode cX3_soonest 12 = .ok (.invokevirtual 447, 3) := dk_182 1 191 (dk_at dksX3_soonest_0 12 rfl rfl)
theorem dX3_soonest_15 : decode cX3_soonest 15 = .ok (.iconst 0, 1) := dk_3 (dk_at dksX3_soonest_0 15 rfl rfl)
theorem dX3_soonest_16 : decode cX3_soonest 16 = .ok (.istore_n 2, 1) := dk_61 (dk_at dksX3_soonest_0 16 rfl rfl)
theorem dX3_soonest_17 : decode cX3_soonest 17 = .ok (.iload_n 2, 1) := dk_28 (dk_at dksX3_soonest_0 17 rfl rfl)
theorem dX3_soonest_18 : decode cX3_soonest 18 = .ok (.ldc 54, 2) := dk_18 54 (dk_at dksX3_soonest_0 18 rfl rfl)
theorem dX3_soonest_20 : decode cX3_soonest 20 = .ok (.if_icmp .ge 17, 3) := dk_162 0 17 (dk_at dksX3_soonest_0 20 rfl rfl)
theorem dX3_soonest_23 : decode cX3_soonest 23 = .ok (.aload_n 0, 1) := dk_42 (dk_at dksX3_soonest_0 23 rfl rfl)
theorem dX3_soonest_24 : decode cX3_soonest 24 = .ok (.getfield 55, 3) := dk_180 0 55 (dk_at dksX3_soonest_1 0 rfl rfl)
theorem dX3_soonest_27 : decode cX3_soonest 27 = .ok (.iload_n 2, 1) := dk_28 (dk_at dksX3_soonest_1 3 rfl rfl)
theorem dX3_soonest_28 : decode cX3_soonest 28 = .ok (.bipush (-2), 2) := dk_16 254 (dk_at dksX3_soonest_1 4 rfl rfl)
theorem dX3_soonest_30 : decode cX3_soonest 30 = .ok (.iastore, 1) := dk_79 (dk_at dksX3_soonest_1 6 rfl rfl)
theorem dX3_soonest_31 : decode cX3_soonest 31 = .ok (.iinc 2 1, 3) := dk_132 2 1 (dk_at dksX3_soonest_1 7 rfl rfl)
theorem dX3_soonest_34 : decode cX3_soonest 34 = .ok (.goto (-17), 3) := dk_167 255 239 (dk_at dksX3_soonest_1 10 rfl rfl)
theorem dX3_soonest_37 : decode cX3_soonest 37 = .ok (.aload_n 0, 1) := dk_42 (dk_at dksX3_soonest_1 13 rfl rfl)
theorem dX3_soonest_38 : decode cX3_soonest 38 = .ok (.aload_n 0, 1) := dk_42 (dk_at dksX3_soonest_1 14 rfl rfl)
theorem dX3_soonest_39 : decode cX3_soonest 39 = .ok (.invokevirtual 441, 3) := dk_182 1 185 (dk_at dksX3_soonest_1 15 rfl rfl)
theorem dX3_soonest_42 : decode cX3_soonest 42 = .ok (.aload_n 0, 1) := dk_42 (dk_at dksX3_soonest_1 18 rfl rfl)
theorem dX3_soonest_43 : decode cX3_soonest 43 = .ok (.invokevirtual 444, 3) := dk_182 1 188 (dk_at dksX3_soonest_1 19 rfl rfl)
theorem dX3_soonest_46 : decode cX3_soonest 46 = .ok (.invokevirtual 438, 3) := dk_182 1 182 (dk_at dksX3_soonest_2 0 rfl rfl)
theorem dX3_soonest_49 : decode cX3_soonest 49 = .ok (.istore_n 2, 1) := dk_61 (dk_at dksX3_soonest_2 3 rfl rfl)
theorem dX3_soonest_50 : decode cX3_soonest 50 = .ok (.iload_n 1, 1) := dk_27 (dk_at dksX3_soonest_2 4 rfl rfl)
theorem dX3_soonest_51 : decode cX3_soonest 51 = .ok (.ifCond .eq 8, 3) := dk_153 0 8 (dk_at dksX3_soonest_2 5 rfl rfl)
theorem dX3_soonest_54 : decode cX3_soonest 54 = .ok (.iload_n 2, 1) := dk_28 (dk_at dksX3_soonest_2 8 rfl rfl)
theorem dX3_soonest_55 : decode cX3_soonest 55 = .ok (.iconst (-1), 1) := dk_2 (dk_at dksX3_soonest_2 9 rfl rfl)
theorem dX3_soonest_56 : decode cX3_soonest 56 = .ok (.if_icmp .ne 7, 3) := dk_160 0 7 (dk_at dksX3_soonest_2 10 rfl rfl)
theorem dX3_soonest_59 : decode cX3_soonest 59 = .ok (.iload_n 2, 1) := dk_28 (dk_at dksX3_soonest_2 13 rfl rfl)
theorem dX3_soonest_60 : decode cX3_soonest 60 = .ok (.goto 16, 3) := dk_167 0 16 (dk_at dksX3_soonest_2 14 rfl rfl)
theorem dX3_soonest_63 : decode cX3_soonest 63 = .ok (.iload_n 2, 1) := dk_28 (dk_at dksX3_soonest_2 17 rfl rfl)
theorem dX3_soonest_64 : decode cX3_soonest 64 = .ok (.ifCond .ne 7, 3) := dk_154 0 7 (dk_at dksX3_soonest_2 18 rfl rfl)
theorem dX3_soonest_67 : decode cX3_soonest 67 = .ok (.iconst 0, 1) := dk_3 (dk_at dksX3_soonest_2 21 rfl rfl)
theorem dX3_soonest_68 : decode cX3_soonest 68 = .ok (.goto 8, 3) := dk_167 0 8 (dk_at dksX3_soonest_3 0 rfl rfl)
theorem dX3_soonest_71 : decode cX3_soonest 71 = .ok (.aload_n 0, 1) := dk_42 (dk_at dksX3_soonest_3 3 rfl rfl)
theorem dX3_soonest_72 : decode cX3_soonest 72 = .ok (.iload_n 2, 1) := dk_28 (dk_at dksX3_soonest_3 4 rfl rfl)
theorem dX3_soonest_73 : decode cX3_soonest 73 = .ok (.invokevirtual 450, 3) := dk_182 1 194 (dk_at dksX3_soonest_3 5 rfl rfl)
theorem dX3_soonest_76 : decode cX3_soonest 76 = .ok (.ireturn, 1) := dk_172 (dk_at dksX3_soonest_3 8 rfl rfl)
abbrev cX3_laysTogether : ByteArray := prog_14_method_100_code
def yX3_laysTogether : MethodName := ⟨RX3, "laysTogether", "()V"⟩
def dkwX3_laysTogether_3 : List UInt8 := [42, 27, 182, 1, 170, 84, 132, 1, 1, 167, 255, 234, 177]
abbrev dktX3_laysTogether_3 : List UInt8 := dkwX3_laysTogether_3 ++ []
def dkwX3_laysTogether_2 : List UInt8 := [167, 255, 226, 132, 1, 1, 167, 255, 207, 3, 60, 27, 42, 182, 1, 140, 163, 0, 20, 42, 180, 0, 44, 27]
abbrev dktX3_laysTogether_2 : List UInt8 := dkwX3_laysTogether_2 ++ dktX3_laysTogether_3
def dkwX3_laysTogether_1 : List UInt8 := [162, 0, 25, 42, 180, 0, 51, 7, 27, 104, 28, 96, 42, 27, 28, 182, 1, 105, 84, 132, 2, 1]
abbrev dktX3_laysTogether_1 : List UInt8 := dkwX3_laysTogether_1 ++ dktX3_laysTogether_2
def dkwX3_laysTogether_0 : List UInt8 := [3, 60, 27, 42, 180, 0, 7, 16, 96, 46, 162, 0, 44, 3, 61, 28, 42, 180, 0, 7, 16, 97, 46]
abbrev dktX3_laysTogether_0 : List UInt8 := dkwX3_laysTogether_0 ++ dktX3_laysTogether_1
theorem dksX3_laysTogether_0 : cX3_laysTogether.data.toList.drop 0 = dktX3_laysTogether_0 := by decide +kernel
theorem dksX3_laysTogether_1 : cX3_laysTogether.data.toList.drop 23 = dktX3_laysTogether_1 := dk_seg dksX3_laysTogether_0 23 rfl rfl
theorem dksX3_laysTogether_2 : cX3_laysTogether.data.toList.drop 45 = dktX3_laysTogether_2 := dk_seg dksX3_laysTogether_1 22 rfl rfl
theorem dksX3_laysTogether_3 : cX3_laysTogether.data.toList.drop 69 = dktX3_laysTogether_3 := dk_seg dksX3_laysTogether_2 24 rfl rfl
theorem dX3_laysTogether_0 : decode cX3_laysTogether 0 = .ok (.iconst 0, 1) := dk_3 (dk_at dksX3_laysTogether_0 0 rfl rfl)
theorem dX3_laysTogether_1 : decode cX3_laysTogether 1 = .ok (.istore_n 1, 1) := dk_60 (dk_at dksX3_laysTogether_0 1 rfl rfl)
theorem dX3_laysTogether_2 : decode cX3_laysTogether 2 = .ok (.iload_n 1, 1) := dk_27 (dk_at dksX3_laysTogether_0 2 rfl rfl)
theorem dX3_laysTogether_3 : decode cX3_laysTogether 3 = .ok (.aload_n 0, 1) := dk_42 (dk_at dksX3_laysTogether_0 3 rfl rfl)
theorem dX3_laysTogether_4 : decode cX3_laysTogether 4 = .ok (.getfield 7, 3) := dk_180 0 7 (dk_at dksX3_laysTogether_0 4 rfl rfl)
theorem dX3_laysTogether_7 : decode cX3_laysTogether 7 = .ok (.bipush 96, 2) := dk_16 96 (dk_at dksX3_laysTogether_0 7 rfl rfl)
theorem dX3_laysTogether_9 : decode cX3_laysTogether 9 = .ok (.iaload, 1) := dk_46 (dk_at dksX3_laysTogether_0 9 rfl rfl)
theorem dX3_laysTogether_10 : decode cX3_laysTogether 10 = .ok (.if_icmp .ge 44, 3) := dk_162 0 44 (dk_at dksX3_laysTogether_0 10 rfl rfl)
theorem dX3_laysTogether_13 : decode cX3_laysTogether 13 = .ok (.iconst 0, 1) := dk_3 (dk_at dksX3_laysTogether_0 13 rfl rfl)
theorem dX3_laysTogether_14 : decode cX3_laysTogether 14 = .ok (.istore_n 2, 1) := dk_61 (dk_at dksX3_laysTogether_0 14 rfl rfl)
theorem dX3_laysTogether_15 : decode cX3_laysTogether 15 = .ok (.iload_n 2, 1) := dk_28 (dk_at dksX3_laysTogether_0 15 rfl rfl)
theorem dX3_laysTogether_16 : decode cX3_laysTogether 16 = .ok (.aload_n 0, 1) := dk_42 (dk_at dksX3_laysTogether_0 16 rfl rfl)
theorem dX3_laysTogether_17 : decode cX3_laysTogether 17 = .ok (.getfield 7, 3) := dk_180 0 7 (dk_at dksX3_laysTogether_0 17 rfl rfl)
theorem dX3_laysTogether_20 : decode cX3_laysTogether 20 = .ok (.bipush 97, 2) := dk_16 97 (dk_at dksX3_laysTogether_0 20 rfl rfl)
theorem dX3_laysTogether_22 : decode cX3_laysTogether 22 = .ok (.iaload, 1) := dk_46 (dk_at dksX3_laysTogether_0 22 rfl rfl)
theorem dX3_laysTogether_23 : decode cX3_laysTogether 23 = .ok (.if_icmp .ge 25, 3) := dk_162 0 25 (dk_at dksX3_laysTogether_1 0 rfl rfl)
theorem dX3_laysTogether_26 : decode cX3_laysTogether 26 = .ok (.aload_n 0, 1) := dk_42 (dk_at dksX3_laysTogether_1 3 rfl rfl)
theorem dX3_laysTogether_27 : decode cX3_laysTogether 27 = .ok (.getfield 51, 3) := dk_180 0 51 (dk_at dksX3_laysTogether_1 4 rfl rfl)
theorem dX3_laysTogether_30 : decode cX3_laysTogether 30 = .ok (.iconst 4, 1) := dk_7 (dk_at dksX3_laysTogether_1 7 rfl rfl)
theorem dX3_laysTogether_31 : decode cX3_laysTogether 31 = .ok (.iload_n 1, 1) := dk_27 (dk_at dksX3_laysTogether_1 8 rfl rfl)
theorem dX3_laysTogether_32 : decode cX3_laysTogether 32 = .ok (.imul, 1) := dk_104 (dk_at dksX3_laysTogether_1 9 rfl rfl)
theorem dX3_laysTogether_33 : decode cX3_laysTogether 33 = .ok (.iload_n 2, 1) := dk_28 (dk_at dksX3_laysTogether_1 10 rfl rfl)
theorem dX3_laysTogether_34 : decode cX3_laysTogether 34 = .ok (.iadd, 1) := dk_96 (dk_at dksX3_laysTogether_1 11 rfl rfl)
theorem dX3_laysTogether_35 : decode cX3_laysTogether 35 = .ok (.aload_n 0, 1) := dk_42 (dk_at dksX3_laysTogether_1 12 rfl rfl)
theorem dX3_laysTogether_36 : decode cX3_laysTogether 36 = .ok (.iload_n 1, 1) := dk_27 (dk_at dksX3_laysTogether_1 13 rfl rfl)
theorem dX3_laysTogether_37 : decode cX3_laysTogether 37 = .ok (.iload_n 2, 1) := dk_28 (dk_at dksX3_laysTogether_1 14 rfl rfl)
theorem dX3_laysTogether_38 : decode cX3_laysTogether 38 = .ok (.invokevirtual 361, 3) := dk_182 1 105 (dk_at dksX3_laysTogether_1 15 rfl rfl)
theorem dX3_laysTogether_41 : decode cX3_laysTogether 41 = .ok (.bastore, 1) := dk_84 (dk_at dksX3_laysTogether_1 18 rfl rfl)
theorem dX3_laysTogether_42 : decode cX3_laysTogether 42 = .ok (.iinc 2 1, 3) := dk_132 2 1 (dk_at dksX3_laysTogether_1 19 rfl rfl)
theorem dX3_laysTogether_45 : decode cX3_laysTogether 45 = .ok (.goto (-30), 3) := dk_167 255 226 (dk_at dksX3_laysTogether_2 0 rfl rfl)
theorem dX3_laysTogether_48 : decode cX3_laysTogether 48 = .ok (.iinc 1 1, 3) := dk_132 1 1 (dk_at dksX3_laysTogether_2 3 rfl rfl)
theorem dX3_laysTogether_51 : decode cX3_laysTogether 51 = .ok (.goto (-49), 3) := dk_167 255 207 (dk_at dksX3_laysTogether_2 6 rfl rfl)
theorem dX3_laysTogether_54 : decode cX3_laysTogether 54 = .ok (.iconst 0, 1) := dk_3 (dk_at dksX3_laysTogether_2 9 rfl rfl)
theorem dX3_laysTogether_55 : decode cX3_laysTogether 55 = .ok (.istore_n 1, 1) := dk_60 (dk_at dksX3_laysTogether_2 10 rfl rfl)
theorem dX3_laysTogether_56 : decode cX3_laysTogether 56 = .ok (.iload_n 1, 1) := dk_27 (dk_at dksX3_laysTogether_2 11 rfl rfl)
theorem dX3_laysTogether_57 : decode cX3_laysTogether 57 = .ok (.aload_n 0, 1) := dk_42 (dk_at dksX3_laysTogether_2 12 rfl rfl)
theorem dX3_laysTogether_58 : decode cX3_laysTogether 58 = .ok (.invokevirtual 396, 3) := dk_182 1 140 (dk_at dksX3_laysTogether_2 13 rfl rfl)
theorem dX3_laysTogether_61 : decode cX3_laysTogether 61 = .ok (.if_icmp .gt 20, 3) := dk_163 0 20 (dk_at dksX3_laysTogether_2 16 rfl rfl)
theorem dX3_laysTogether_64 : decode cX3_laysTogether 64 = .ok (.aload_n 0, 1) := dk_42 (dk_at dksX3_laysTogether_2 19 rfl rfl)
theorem dX3_laysTogether_65 : decode cX3_laysTogether 65 = .ok (.getfield 44, 3) := dk_180 0 44 (dk_at dksX3_laysTogether_2 20 rfl rfl)
theorem dX3_laysTogether_68 : decode cX3_laysTogether 68 = .ok (.iload_n 1, 1) := dk_27 (dk_at dksX3_laysTogether_2 23 rfl rfl)
theorem dX3_laysTogether_69 : decode cX3_laysTogether 69 = .ok (.aload_n 0, 1) := dk_42 (dk_at dksX3_laysTogether_3 0 rfl rfl)
theorem dX3_laysTogether_70 : decode cX3_laysTogether 70 = .ok (.iload_n 1, 1) := dk_27 (dk_at dksX3_laysTogether_3 1 rfl rfl)
theorem dX3_laysTogether_71 : decode cX3_laysTogether 71 = .ok (.invokevirtual 426, 3) := dk_182 1 170 (dk_at dksX3_laysTogether_3 2 rfl rfl)
theorem dX3_laysTogether_74 : decode cX3_laysTogether 74 = .ok (.bastore, 1) := dk_84 (dk_at dksX3_laysTogether_3 5 rfl rfl)
theorem dX3_laysTogether_75 : decode cX3_laysTogether 75 = .ok (.iinc 1 1, 3) := dk_132 1 1 (dk_at dksX3_laysTogether_3 6 rfl rfl)
theorem dX3_laysTogether_78 : decode cX3_laysTogether 78 = .ok (.goto (-22), 3) := dk_167 255 234 (dk_at dksX3_laysTogether_3 9 rfl rfl)
theorem dX3_laysTogether_81 : decode cX3_laysTogether 81 = .ok (.return_, 1) := dk_177 (dk_at dksX3_laysTogether_3 12 rfl rfl)
abbrev cX3_canTogether : ByteArray := prog_14_method_99_code
def yX3_canTogether : MethodName := ⟨RX3, "canTogether", "(I)Z"⟩
def dkwX3_canTogether_3 : List UInt8 := [167, 255, 218, 4, 172]
abbrev dktX3_canTogether_3 : List UInt8 := dkwX3_canTogether_3 ++ []
def dkwX3_canTogether_2 : List UInt8 := [4, 160, 0, 18, 42, 42, 28, 3, 182, 1, 81, 182, 1, 167, 154, 0, 5, 3, 172, 132, 2, 1]
abbrev dktX3_canTogether_2 : List UInt8 := dkwX3_canTogether_2 ++ dktX3_canTogether_3
def dkwX3_canTogether_1 : List UInt8 := [132, 2, 1, 167, 255, 231, 3, 61, 28, 42, 180, 0, 7, 16, 98, 46, 162, 0, 33, 27, 28, 122, 4, 126]
abbrev dktX3_canTogether_1 : List UInt8 := dkwX3_canTogether_1 ++ dktX3_canTogether_2
def dkwX3_canTogether_0 : List UInt8 := [3, 61, 28, 17, 16, 0, 162, 0, 24, 42, 180, 0, 48, 28, 28, 154, 0, 7, 4, 167, 0, 4, 3, 84]
abbrev dktX3_canTogether_0 : List UInt8 := dkwX3_canTogether_0 ++ dktX3_canTogether_1
theorem dksX3_canTogether_0 : cX3_canTogether.data.toList.drop 0 = dktX3_canTogether_0 := by decide +kernel
theorem dksX3_canTogether_1 : cX3_canTogether.data.toList.drop 24 = dktX3_canTogether_1 := dk_seg dksX3_canTogether_0 24 rfl rfl
theorem dksX3_canTogether_2 : cX3_canTogether.data.toList.drop 48 = dktX3_canTogether_2 := dk_seg dksX3_canTogether_1 24 rfl rfl
theorem dksX3_canTogether_3 : cX3_canTogether.data.toList.drop 70 = dktX3_canTogether_3 := dk_seg dksX3_canTogether_2 22 rfl rfl
theorem dX3_canTogether_0 : decode cX3_canTogether 0 = .ok (.iconst 0, 1) := dk_3 (dk_at dksX3_canTogether_0 0 rfl rfl)
theorem dX3_canTogether_1 : decode cX3_canTogether 1 = .ok (.istore_n 2, 1) := dk_61 (dk_at dksX3_canTogether_0 1 rfl rfl)
theorem dX3_canTogether_2 : decode cX3_canTogether 2 = .ok (.iload_n 2, 1) := dk_28 (dk_at dksX3_canTogether_0 2 rfl rfl)
theorem dX3_canTogether_3 : decode cX3_canTogether 3 = .ok (.sipush 4096, 3) := dk_17 16 0 (dk_at dksX3_canTogether_0 3 rfl rfl)
theorem dX3_canTogether_6 : decode cX3_canTogether 6 = .ok (.if_icmp .ge 24, 3) := dk_162 0 24 (dk_at dksX3_canTogether_0 6 rfl rfl)
theorem dX3_canTogether_9 : decode cX3_canTogether 9 = .ok (.aload_n 0, 1) := dk_42 (dk_at dksX3_canTogether_0 9 rfl rfl)
theorem dX3_canTogether_10 : decode cX3_canTogether 10 = .ok (.getfield 48, 3) := dk_180 0 48 (dk_at dksX3_canTogether_0 10 rfl rfl)
theorem dX3_canTogether_13 : decode cX3_canTogether 13 = .ok (.iload_n 2, 1) := dk_28 (dk_at dksX3_canTogether_0 13 rfl rfl)
theorem dX3_canTogether_14 : decode cX3_canTogether 14 = .ok (.iload_n 2, 1) := dk_28 (dk_at dksX3_canTogether_0 14 rfl rfl)
theorem dX3_canTogether_15 : decode cX3_canTogether 15 = .ok (.ifCond .ne 7, 3) := dk_154 0 7 (dk_at dksX3_canTogether_0 15 rfl rfl)
theorem dX3_canTogether_18 : decode cX3_canTogether 18 = .ok (.iconst 1, 1) := dk_4 (dk_at dksX3_canTogether_0 18 rfl rfl)
theorem dX3_canTogether_19 : decode cX3_canTogether 19 = .ok (.goto 4, 3) := dk_167 0 4 (dk_at dksX3_canTogether_0 19 rfl rfl)
theorem dX3_canTogether_22 : decode cX3_canTogether 22 = .ok (.iconst 0, 1) := dk_3 (dk_at dksX3_canTogether_0 22 rfl rfl)
theorem dX3_canTogether_23 : decode cX3_canTogether 23 = .ok (.bastore, 1) := dk_84 (dk_at dksX3_canTogether_0 23 rfl rfl)
theorem dX3_canTogether_24 : decode cX3_canTogether 24 = .ok (.iinc 2 1, 3) := dk_132 2 1 (dk_at dksX3_canTogether_1 0 rfl rfl)
theorem dX3_canTogether_27 : decode cX3_canTogether 27 = .ok (.goto (-25), 3) := dk_167 255 231 (dk_at dksX3_canTogether_1 3 rfl rfl)
theorem dX3_canTogether_30 : decode cX3_canTogether 30 = .ok (.iconst 0, 1) := dk_3 (dk_at dksX3_canTogether_1 6 rfl rfl)
theorem dX3_canTogether_31 : decode cX3_canTogether 31 = .ok (.istore_n 2, 1) := dk_61 (dk_at dksX3_canTogether_1 7 rfl rfl)
theorem dX3_canTogether_32 : decode cX3_canTogether 32 = .ok (.iload_n 2, 1) := dk_28 (dk_at dksX3_canTogether_1 8 rfl rfl)
theorem dX3_canTogether_33 : decode cX3_canTogether 33 = .ok (.aload_n 0, 1) := dk_42 (dk_at dksX3_canTogether_1 9 rfl rfl)
theorem dX3_canTogether_34 : decode cX3_canTogether 34 = .ok (.getfield 7, 3) := dk_180 0 7 (dk_at dksX3_canTogether_1 10 rfl rfl)
theorem dX3_canTogether_37 : decode cX3_canTogether 37 = .ok (.bipush 98, 2) := dk_16 98 (dk_at dksX3_canTogether_1 13 rfl rfl)
theorem dX3_canTogether_39 : decode cX3_canTogether 39 = .ok (.iaload, 1) := dk_46 (dk_at dksX3_canTogether_1 15 rfl rfl)
theorem dX3_canTogether_40 : decode cX3_canTogether 40 = .ok (.if_icmp .ge 33, 3) := dk_162 0 33 (dk_at dksX3_canTogether_1 16 rfl rfl)
theorem dX3_canTogether_43 : decode cX3_canTogether 43 = .ok (.iload_n 1, 1) := dk_27 (dk_at dksX3_canTogether_1 19 rfl rfl)
theorem dX3_canTogether_44 : decode cX3_canTogether 44 = .ok (.iload_n 2, 1) := dk_28 (dk_at dksX3_canTogether_1 20 rfl rfl)
theorem dX3_canTogether_45 : decode cX3_canTogether 45 = .ok (.ishr, 1) := dk_122 (dk_at dksX3_canTogether_1 21 rfl rfl)
theorem dX3_canTogether_46 : decode cX3_canTogether 46 = .ok (.iconst 1, 1) := dk_4 (dk_at dksX3_canTogether_1 22 rfl rfl)
theorem dX3_canTogether_47 : decode cX3_canTogether 47 = .ok (.iand, 1) := dk_126 (dk_at dksX3_canTogether_1 23 rfl rfl)
theorem dX3_canTogether_48 : decode cX3_canTogether 48 = .ok (.iconst 1, 1) := dk_4 (dk_at dksX3_canTogether_2 0 rfl rfl)
theorem dX3_canTogether_49 : decode cX3_canTogether 49 = .ok (.if_icmp .ne 18, 3) := dk_160 0 18 (dk_at dksX3_canTogether_2 1 rfl rfl)
theorem dX3_canTogether_52 : decode cX3_canTogether 52 = .ok (.aload_n 0, 1) := dk_42 (dk_at dksX3_canTogether_2 4 rfl rfl)
theorem dX3_canTogether_53 : decode cX3_canTogether 53 = .ok (.aload_n 0, 1) := dk_42 (dk_at dksX3_canTogether_2 5 rfl rfl)
theorem dX3_canTogether_54 : decode cX3_canTogether 54 = .ok (.iload_n 2, 1) := dk_28 (dk_at dksX3_canTogether_2 6 rfl rfl)
theorem dX3_canTogether_55 : decode cX3_canTogether 55 = .ok (.iconst 0, 1) := dk_3 (dk_at dksX3_canTogether_2 7 rfl rfl)
theorem dX3_canTogether_56 : decode cX3_canTogether 56 = .ok (.invokevirtual 337, 3) := dk_182 1 81 (dk_at dksX3_canTogether_2 8 rfl rfl)
theorem dX3_canTogether_59 : decode cX3_canTogether 59 = .ok (.invokevirtual 423, 3) := dk_182 1 167 (dk_at dksX3_canTogether_2 11 rfl rfl)
theorem dX3_canTogether_62 : decode cX3_canTogether 62 = .ok (.ifCond .ne 5, 3) := dk_154 0 5 (dk_at dksX3_canTogether_2 14 rfl rfl)
theorem dX3_canTogether_65 : decode cX3_canTogether 65 = .ok (.iconst 0, 1) := dk_3 (dk_at dksX3_canTogether_2 17 rfl rfl)
theorem dX3_canTogether_66 : decode cX3_canTogether 66 = .ok (.ireturn, 1) := dk_172 (dk_at dksX3_canTogether_2 18 rfl rfl)
theorem dX3_canTogether_67 : decode cX3_canTogether 67 = .ok (.iinc 2 1, 3) := dk_132 2 1 (dk_at dksX3_canTogether_2 19 rfl rfl)
theorem dX3_canTogether_70 : decode cX3_canTogether 70 = .ok (.goto (-38), 3) := dk_167 255 218 (dk_at dksX3_canTogether_3 0 rfl rfl)
theorem dX3_canTogether_73 : decode cX3_canTogether 73 = .ok (.iconst 1, 1) := dk_4 (dk_at dksX3_canTogether_3 3 rfl rfl)
theorem dX3_canTogether_74 : decode cX3_canTogether 74 = .ok (.ireturn, 1) := dk_172 (dk_at dksX3_canTogether_3 4 rfl rfl)
abbrev cX3_takesOne : ByteArray := prog_14_method_98_code
def yX3_takesOne : MethodName := ⟨RX3, "takesOne", "(I)Z"⟩
def dkwX3_takesOne_6 : List UInt8 := [167, 255, 189, 132, 4, 1, 167, 255, 144, 132, 3, 255, 167, 255, 112, 28, 172]
abbrev dktX3_takesOne_6 : List UInt8 := dkwX3_takesOne_6 ++ []
def dkwX3_takesOne_5 : List UInt8 := [180, 0, 48, 29, 4, 21, 4, 120, 128, 17, 1, 0, 21, 5, 120, 128, 4, 84, 4, 61, 132, 5, 1]
abbrev dktX3_takesOne_5 : List UInt8 := dkwX3_takesOne_5 ++ dktX3_takesOne_6
def dkwX3_takesOne_4 : List UInt8 := [159, 0, 42, 42, 180, 0, 51, 7, 21, 4, 104, 21, 5, 96, 51, 154, 0, 6, 167, 0, 24, 42]
abbrev dktX3_takesOne_4 : List UInt8 := dkwX3_takesOne_4 ++ dktX3_takesOne_5
def dkwX3_takesOne_3 : List UInt8 := [21, 5, 42, 180, 0, 7, 16, 97, 46, 162, 0, 61, 29, 16, 8, 21, 5, 96, 122, 4, 126, 4]
abbrev dktX3_takesOne_3 : List UInt8 := dkwX3_takesOne_3 ++ dktX3_takesOne_4
def dkwX3_takesOne_2 : List UInt8 := [122, 4, 126, 4, 159, 0, 90, 42, 21, 4, 3, 182, 1, 57, 27, 159, 0, 6, 167, 0, 76, 3, 54, 5]
abbrev dktX3_takesOne_2 : List UInt8 := dkwX3_takesOne_2 ++ dktX3_takesOne_3
def dkwX3_takesOne_1 : List UInt8 := [180, 0, 48, 29, 3, 84, 3, 54, 4, 21, 4, 42, 180, 0, 7, 16, 96, 46, 162, 0, 106, 29, 21, 4]
abbrev dktX3_takesOne_1 : List UInt8 := dkwX3_takesOne_1 ++ dktX3_takesOne_2
def dkwX3_takesOne_0 : List UInt8 := [3, 61, 17, 15, 255, 62, 29, 155, 0, 146, 42, 180, 0, 48, 29, 51, 154, 0, 6, 167, 0, 128, 42]
abbrev dktX3_takesOne_0 : List UInt8 := dkwX3_takesOne_0 ++ dktX3_takesOne_1
theorem dksX3_takesOne_0 : cX3_takesOne.data.toList.drop 0 = dktX3_takesOne_0 := by decide +kernel
theorem dksX3_takesOne_1 : cX3_takesOne.data.toList.drop 23 = dktX3_takesOne_1 := dk_seg dksX3_takesOne_0 23 rfl rfl
theorem dksX3_takesOne_2 : cX3_takesOne.data.toList.drop 47 = dktX3_takesOne_2 := dk_seg dksX3_takesOne_1 24 rfl rfl
theorem dksX3_takesOne_3 : cX3_takesOne.data.toList.drop 71 = dktX3_takesOne_3 := dk_seg dksX3_takesOne_2 24 rfl rfl
theorem dksX3_takesOne_4 : cX3_takesOne.data.toList.drop 93 = dktX3_takesOne_4 := dk_seg dksX3_takesOne_3 22 rfl rfl
theorem dksX3_takesOne_5 : cX3_takesOne.data.toList.drop 115 = dktX3_takesOne_5 := dk_seg dksX3_takesOne_4 22 rfl rfl
theorem dksX3_takesOne_6 : cX3_takesOne.data.toList.drop 138 = dktX3_takesOne_6 := dk_seg dksX3_takesOne_5 23 rfl rfl
theorem dX3_takesOne_0 : decode cX3_takesOne 0 = .ok (.iconst 0, 1) := dk_3 (dk_at dksX3_takesOne_0 0 rfl rfl)
theorem dX3_takesOne_1 : decode cX3_takesOne 1 = .ok (.istore_n 2, 1) := dk_61 (dk_at dksX3_takesOne_0 1 rfl rfl)
theorem dX3_takesOne_2 : decode cX3_takesOne 2 = .ok (.sipush 4095, 3) := dk_17 15 255 (dk_at dksX3_takesOne_0 2 rfl rfl)
theorem dX3_takesOne_5 : decode cX3_takesOne 5 = .ok (.istore_n 3, 1) := dk_62 (dk_at dksX3_takesOne_0 5 rfl rfl)
theorem dX3_takesOne_6 : decode cX3_takesOne 6 = .ok (.iload_n 3, 1) := dk_29 (dk_at dksX3_takesOne_0 6 rfl rfl)
theorem dX3_takesOne_7 : decode cX3_takesOne 7 = .ok (.ifCond .lt 146, 3) := dk_155 0 146 (dk_at dksX3_takesOne_0 7 rfl rfl)
theorem dX3_takesOne_10 : decode cX3_takesOne 10 = .ok (.aload_n 0, 1) := dk_42 (dk_at dksX3_takesOne_0 10 rfl rfl)
theorem dX3_takesOne_11 : decode cX3_takesOne 11 = .ok (.getfield 48, 3) := dk_180 0 48 (dk_at dksX3_takesOne_0 11 rfl rfl)
theorem dX3_takesOne_14 : decode cX3_takesOne 14 = .ok (.iload_n 3, 1) := dk_29 (dk_at dksX3_takesOne_0 14 rfl rfl)
theorem dX3_takesOne_15 : decode cX3_takesOne 15 = .ok (.baload, 1) := dk_51 (dk_at dksX3_takesOne_0 15 rfl rfl)
theorem dX3_takesOne_16 : decode cX3_takesOne 16 = .ok (.ifCond .ne 6, 3) := dk_154 0 6 (dk_at dksX3_takesOne_0 16 rfl rfl)
theorem dX3_takesOne_19 : decode cX3_takesOne 19 = .ok (.goto 128, 3) := dk_167 0 128 (dk_at dksX3_takesOne_0 19 rfl rfl)
theorem dX3_takesOne_22 : decode cX3_takesOne 22 = .ok (.aload_n 0, 1) := dk_42 (dk_at dksX3_takesOne_0 22 rfl rfl)
theorem dX3_takesOne_23 : decode cX3_takesOne 23 = .ok (.getfield 48, 3) := dk_180 0 48 (dk_at dksX3_takesOne_1 0 rfl rfl)
theorem dX3_takesOne_26 : decode cX3_takesOne 26 = .ok (.iload_n 3, 1) := dk_29 (dk_at dksX3_takesOne_1 3 rfl rfl)
theorem dX3_takesOne_27 : decode cX3_takesOne 27 = .ok (.iconst 0, 1) := dk_3 (dk_at dksX3_takesOne_1 4 rfl rfl)
theorem dX3_takesOne_28 : decode cX3_takesOne 28 = .ok (.bastore, 1) := dk_84 (dk_at dksX3_takesOne_1 5 rfl rfl)
theorem dX3_takesOne_29 : decode cX3_takesOne 29 = .ok (.iconst 0, 1) := dk_3 (dk_at dksX3_takesOne_1 6 rfl rfl)
theorem dX3_takesOne_30 : decode cX3_takesOne 30 = .ok (.istore 4, 2) := dk_54 4 (dk_at dksX3_takesOne_1 7 rfl rfl)
theorem dX3_takesOne_32 : decode cX3_takesOne 32 = .ok (.iload 4, 2) := dk_21 4 (dk_at dksX3_takesOne_1 9 rfl rfl)
theorem dX3_takesOne_34 : decode cX3_takesOne 34 = .ok (.aload_n 0, 1) := dk_42 (dk_at dksX3_takesOne_1 11 rfl rfl)
theorem dX3_takesOne_35 : decode cX3_takesOne 35 = .ok (.getfield 7, 3) := dk_180 0 7 (dk_at dksX3_takesOne_1 12 rfl rfl)
theorem dX3_takesOne_38 : decode cX3_takesOne 38 = .ok (.bipush 96, 2) := dk_16 96 (dk_at dksX3_takesOne_1 15 rfl rfl)
theorem dX3_takesOne_40 : decode cX3_takesOne 40 = .ok (.iaload, 1) := dk_46 (dk_at dksX3_takesOne_1 17 rfl rfl)
theorem dX3_takesOne_41 : decode cX3_takesOne 41 = .ok (.if_icmp .ge 106, 3) := dk_162 0 106 (dk_at dksX3_takesOne_1 18 rfl rfl)
theorem dX3_takesOne_44 : decode cX3_takesOne 44 = .ok (.iload_n 3, 1) := dk_29 (dk_at dksX3_takesOne_1 21 rfl rfl)
theorem dX3_takesOne_45 : decode cX3_takesOne 45 = .ok (.iload 4, 2) := dk_21 4 (dk_at dksX3_takesOne_1 22 rfl rfl)
theorem dX3_takesOne_47 : decode cX3_takesOne 47 = .ok (.ishr, 1) := dk_122 (dk_at dksX3_takesOne_2 0 rfl rfl)
theorem dX3_takesOne_48 : decode cX3_takesOne 48 = .ok (.iconst 1, 1) := dk_4 (dk_at dksX3_takesOne_2 1 rfl rfl)
theorem dX3_takesOne_49 : decode cX3_takesOne 49 = .ok (.iand, 1) := dk_126 (dk_at dksX3_takesOne_2 2 rfl rfl)
theorem dX3_takesOne_50 : decode cX3_takesOne 50 = .ok (.iconst 1, 1) := dk_4 (dk_at dksX3_takesOne_2 3 rfl rfl)
theorem dX3_takesOne_51 : decode cX3_takesOne 51 = .ok (.if_icmp .eq 90, 3) := dk_159 0 90 (dk_at dksX3_takesOne_2 4 rfl rfl)
theorem dX3_takesOne_54 : decode cX3_takesOne 54 = .ok (.aload_n 0, 1) := dk_42 (dk_at dksX3_takesOne_2 7 rfl rfl)
theorem dX3_takesOne_55 : decode cX3_takesOne 55 = .ok (.iload 4, 2) := dk_21 4 (dk_at dksX3_takesOne_2 8 rfl rfl)
theorem dX3_takesOne_57 : decode cX3_takesOne 57 = .ok (.iconst 0, 1) := dk_3 (dk_at dksX3_takesOne_2 10 rfl rfl)
theorem dX3_takesOne_58 : decode cX3_takesOne 58 = .ok (.invokevirtual 313, 3) := dk_182 1 57 (dk_at dksX3_takesOne_2 11 rfl rfl)
theorem dX3_takesOne_61 : decode cX3_takesOne 61 = .ok (.iload_n 1, 1) := dk_27 (dk_at dksX3_takesOne_2 14 rfl rfl)
theorem dX3_takesOne_62 : decode cX3_takesOne 62 = .ok (.if_icmp .eq 6, 3) := dk_159 0 6 (dk_at dksX3_takesOne_2 15 rfl rfl)
theorem dX3_takesOne_65 : decode cX3_takesOne 65 = .ok (.goto 76, 3) := dk_167 0 76 (dk_at dksX3_takesOne_2 18 rfl rfl)
theorem dX3_takesOne_68 : decode cX3_takesOne 68 = .ok (.iconst 0, 1) := dk_3 (dk_at dksX3_takesOne_2 21 rfl rfl)
theorem dX3_takesOne_69 : decode cX3_takesOne 69 = .ok (.istore 5, 2) := dk_54 5 (dk_at dksX3_takesOne_2 22 rfl rfl)
theorem dX3_takesOne_71 : decode cX3_takesOne 71 = .ok (.iload 5, 2) := dk_21 5 (dk_at dksX3_takesOne_3 0 rfl rfl)
theorem dX3_takesOne_73 : decode cX3_takesOne 73 = .ok (.aload_n 0, 1) := dk_42 (dk_at dksX3_takesOne_3 2 rfl rfl)
theorem dX3_takesOne_74 : decode cX3_takesOne 74 = .ok (.getfield 7, 3) := dk_180 0 7 (dk_at dksX3_takesOne_3 3 rfl rfl)
theorem dX3_takesOne_77 : decode cX3_takesOne 77 = .ok (.bipush 97, 2) := dk_16 97 (dk_at dksX3_takesOne_3 6 rfl rfl)
theorem dX3_takesOne_79 : decode cX3_takesOne 79 = .ok (.iaload, 1) := dk_46 (dk_at dksX3_takesOne_3 8 rfl rfl)
theorem dX3_takesOne_80 : decode cX3_takesOne 80 = .ok (.if_icmp .ge 61, 3) := dk_162 0 61 (dk_at dksX3_takesOne_3 9 rfl rfl)
theorem dX3_takesOne_83 : decode cX3_takesOne 83 = .ok (.iload_n 3, 1) := dk_29 (dk_at dksX3_takesOne_3 12 rfl rfl)
theorem dX3_takesOne_84 : decode cX3_takesOne 84 = .ok (.bipush 8, 2) := dk_16 8 (dk_at dksX3_takesOne_3 13 rfl rfl)
theorem dX3_takesOne_86 : decode cX3_takesOne 86 = .ok (.iload 5, 2) := dk_21 5 (dk_at dksX3_takesOne_3 15 rfl rfl)
theorem dX3_takesOne_88 : decode cX3_takesOne 88 = .ok (.iadd, 1) := dk_96 (dk_at dksX3_takesOne_3 17 rfl rfl)
theorem dX3_takesOne_89 : decode cX3_takesOne 89 = .ok (.ishr, 1) := dk_122 (dk_at dksX3_takesOne_3 18 rfl rfl)
theorem dX3_takesOne_90 : decode cX3_takesOne 90 = .ok (.iconst 1, 1) := dk_4 (dk_at dksX3_takesOne_3 19 rfl rfl)
theorem dX3_takesOne_91 : decode cX3_takesOne 91 = .ok (.iand, 1) := dk_126 (dk_at dksX3_takesOne_3 20 rfl rfl)
theorem dX3_takesOne_92 : decode cX3_takesOne 92 = .ok (.iconst 1, 1) := dk_4 (dk_at dksX3_takesOne_3 21 rfl rfl)
theorem dX3_takesOne_93 : decode cX3_takesOne 93 = .ok (.if_icmp .eq 42, 3) := dk_159 0 42 (dk_at dksX3_takesOne_4 0 rfl rfl)
theorem dX3_takesOne_96 : decode cX3_takesOne 96 = .ok (.aload_n 0, 1) := dk_42 (dk_at dksX3_takesOne_4 3 rfl rfl)
theorem dX3_takesOne_97 : decode cX3_takesOne 97 = .ok (.getfield 51, 3) := dk_180 0 51 (dk_at dksX3_takesOne_4 4 rfl rfl)
theorem dX3_takesOne_100 : decode cX3_takesOne 100 = .ok (.iconst 4, 1) := dk_7 (dk_at dksX3_takesOne_4 7 rfl rfl)
theorem dX3_takesOne_101 : decode cX3_takesOne 101 = .ok (.iload 4, 2) := dk_21 4 (dk_at dksX3_takesOne_4 8 rfl rfl)
theorem dX3_takesOne_103 : decode cX3_takesOne 103 = .ok (.imul, 1) := dk_104 (dk_at dksX3_takesOne_4 10 rfl rfl)
theorem dX3_takesOne_104 : decode cX3_takesOne 104 = .ok (.iload 5, 2) := dk_21 5 (dk_at dksX3_takesOne_4 11 rfl rfl)
theorem dX3_takesOne_106 : decode cX3_takesOne 106 = .ok (.iadd, 1) := dk_96 (dk_at dksX3_takesOne_4 13 rfl rfl)
theorem dX3_takesOne_107 : decode cX3_takesOne 107 = .ok (.baload, 1) := dk_51 (dk_at dksX3_takesOne_4 14 rfl rfl)
theorem dX3_takesOne_108 : decode cX3_takesOne 108 = .ok (.ifCond .ne 6, 3) := dk_154 0 6 (dk_at dksX3_takesOne_4 15 rfl rfl)
theorem dX3_takesOne_111 : decode cX3_takesOne 111 = .ok (.goto 24, 3) := dk_167 0 24 (dk_at dksX3_takesOne_4 18 rfl rfl)
theorem dX3_takesOne_114 : decode cX3_takesOne 114 = .ok (.aload_n 0, 1) := dk_42 (dk_at dksX3_takesOne_4 21 rfl rfl)
theorem dX3_takesOne_115 : decode cX3_takesOne 115 = .ok (.getfield 48, 3) := dk_180 0 48 (dk_at dksX3_takesOne_5 0 rfl rfl)
theorem dX3_takesOne_118 : decode cX3_takesOne 118 = .ok (.iload_n 3, 1) := dk_29 (dk_at dksX3_takesOne_5 3 rfl rfl)
theorem dX3_takesOne_119 : decode cX3_takesOne 119 = .ok (.iconst 1, 1) := dk_4 (dk_at dksX3_takesOne_5 4 rfl rfl)
theorem dX3_takesOne_120 : decode cX3_takesOne 120 = .ok (.iload 4, 2) := dk_21 4 (dk_at dksX3_takesOne_5 5 rfl rfl)
theorem dX3_takesOne_122 : decode cX3_takesOne 122 = .ok (.ishl, 1) := dk_120 (dk_at dksX3_takesOne_5 7 rfl rfl)
theorem dX3_takesOne_123 : decode cX3_takesOne 123 = .ok (.ior, 1) := dk_128 (dk_at dksX3_takesOne_5 8 rfl rfl)
theorem dX3_takesOne_124 : decode cX3_takesOne 124 = .ok (.sipush 256, 3) := dk_17 1 0 (dk_at dksX3_takesOne_5 9 rfl rfl)
theorem dX3_takesOne_127 : decode cX3_takesOne 127 = .ok (.iload 5, 2) := dk_21 5 (dk_at dksX3_takesOne_5 12 rfl rfl)
theorem dX3_takesOne_129 : decode cX3_takesOne 129 = .ok (.ishl, 1) := dk_120 (dk_at dksX3_takesOne_5 14 rfl rfl)
theorem dX3_takesOne_130 : decode cX3_takesOne 130 = .ok (.ior, 1) := dk_128 (dk_at dksX3_takesOne_5 15 rfl rfl)
theorem dX3_takesOne_131 : decode cX3_takesOne 131 = .ok (.iconst 1, 1) := dk_4 (dk_at dksX3_takesOne_5 16 rfl rfl)
theorem dX3_takesOne_132 : decode cX3_takesOne 132 = .ok (.bastore, 1) := dk_84 (dk_at dksX3_takesOne_5 17 rfl rfl)
theorem dX3_takesOne_133 : decode cX3_takesOne 133 = .ok (.iconst 1, 1) := dk_4 (dk_at dksX3_takesOne_5 18 rfl rfl)
theorem dX3_takesOne_134 : decode cX3_takesOne 134 = .ok (.istore_n 2, 1) := dk_61 (dk_at dksX3_takesOne_5 19 rfl rfl)
theorem dX3_takesOne_135 : decode cX3_takesOne 135 = .ok (.iinc 5 1, 3) := dk_132 5 1 (dk_at dksX3_takesOne_5 20 rfl rfl)
theorem dX3_takesOne_138 : decode cX3_takesOne 138 = .ok (.goto (-67), 3) := dk_167 255 189 (dk_at dksX3_takesOne_6 0 rfl rfl)
theorem dX3_takesOne_141 : decode cX3_takesOne 141 = .ok (.iinc 4 1, 3) := dk_132 4 1 (dk_at dksX3_takesOne_6 3 rfl rfl)
theorem dX3_takesOne_144 : decode cX3_takesOne 144 = .ok (.goto (-112), 3) := dk_167 255 144 (dk_at dksX3_takesOne_6 6 rfl rfl)
theorem dX3_takesOne_147 : decode cX3_takesOne 147 = .ok (.iinc 3 (-1), 3) := dk_132 3 255 (dk_at dksX3_takesOne_6 9 rfl rfl)
theorem dX3_takesOne_150 : decode cX3_takesOne 150 = .ok (.goto (-144), 3) := dk_167 255 112 (dk_at dksX3_takesOne_6 12 rfl rfl)
theorem dX3_takesOne_153 : decode cX3_takesOne 153 = .ok (.iload_n 2, 1) := dk_28 (dk_at dksX3_takesOne_6 15 rfl rfl)
theorem dX3_takesOne_154 : decode cX3_takesOne 154 = .ok (.ireturn, 1) := dk_172 (dk_at dksX3_takesOne_6 16 rfl rfl)
abbrev cX3_started : ByteArray := prog_14_method_101_code
def yX3_started : MethodName := ⟨RX3, "started", "()I"⟩
def dkwX3_started_1 : List UInt8 := [46, 5, 28, 104, 120, 128, 60, 132, 2, 1, 167, 255, 226, 27, 172]
abbrev dktX3_started_1 : List UInt8 := dkwX3_started_1 ++ []
def dkwX3_started_0 : List UInt8 := [3, 60, 3, 61, 28, 42, 180, 0, 7, 16, 98, 46, 162, 0, 25, 27, 42, 180, 0, 7, 16, 8, 28, 96]
abbrev dktX3_started_0 : List UInt8 := dkwX3_started_0 ++ dktX3_started_1
theorem dksX3_started_0 : cX3_started.data.toList.drop 0 = dktX3_started_0 := by decide +kernel
theorem dksX3_started_1 : cX3_started.data.toList.drop 24 = dktX3_started_1 := dk_seg dksX3_started_0 24 rfl rfl
theorem dX3_started_0 : decode cX3_started 0 = .ok (.iconst 0, 1) := dk_3 (dk_at dksX3_started_0 0 rfl rfl)
theorem dX3_started_1 : decode cX3_started 1 = .ok (.istore_n 1, 1) := dk_60 (dk_at dksX3_started_0 1 rfl rfl)
theorem dX3_started_2 : decode cX3_started 2 = .ok (.iconst 0, 1) := dk_3 (dk_at dksX3_started_0 2 rfl rfl)
theorem dX3_started_3 : decode cX3_started 3 = .ok (.istore_n 2, 1) := dk_61 (dk_at dksX3_started_0 3 rfl rfl)
theorem dX3_started_4 : decode cX3_started 4 = .ok (.iload_n 2, 1) := dk_28 (dk_at dksX3_started_0 4 rfl rfl)
theorem dX3_started_5 : decode cX3_started 5 = .ok (.aload_n 0, 1) := dk_42 (dk_at dksX3_started_0 5 rfl rfl)
theorem dX3_started_6 : decode cX3_started 6 = .ok (.getfield 7, 3) := dk_180 0 7 (dk_at dksX3_started_0 6 rfl rfl)
theorem dX3_started_9 : decode cX3_started 9 = .ok (.bipush 98, 2) := dk_16 98 (dk_at dksX3_started_0 9 rfl rfl)
theorem dX3_started_11 : decode cX3_started 11 = .ok (.iaload, 1) := dk_46 (dk_at dksX3_started_0 11 rfl rfl)
theorem dX3_started_12 : decode cX3_started 12 = .ok (.if_icmp .ge 25, 3) := dk_162 0 25 (dk_at dksX3_started_0 12 rfl rfl)
theorem dX3_started_15 : decode cX3_started 15 = .ok (.iload_n 1, 1) := dk_27 (dk_at dksX3_started_0 15 rfl rfl)
theorem dX3_started_16 : decode cX3_started 16 = .ok (.aload_n 0, 1) := dk_42 (dk_at dksX3_started_0 16 rfl rfl)
theorem dX3_started_17 : decode cX3_started 17 = .ok (.getfield 7, 3) := dk_180 0 7 (dk_at dksX3_started_0 17 rfl rfl)
theorem dX3_started_20 : decode cX3_started 20 = .ok (.bipush 8, 2) := dk_16 8 (dk_at dksX3_started_0 20 rfl rfl)
theorem dX3_started_22 : decode cX3_started 22 = .ok (.iload_n 2, 1) := dk_28 (dk_at dksX3_started_0 22 rfl rfl)
theorem dX3_started_23 : decode cX3_started 23 = .ok (.iadd, 1) := dk_96 (dk_at dksX3_started_0 23 rfl rfl)
theorem dX3_started_24 : decode cX3_started 24 = .ok (.iaload, 1) := dk_46 (dk_at dksX3_started_1 0 rfl rfl)
theorem dX3_started_25 : decode cX3_started 25 = .ok (.iconst 2, 1) := dk_5 (dk_at dksX3_started_1 1 rfl rfl)
theorem dX3_started_26 : decode cX3_started 26 = .ok (.iload_n 2, 1) := dk_28 (dk_at dksX3_started_1 2 rfl rfl)
theorem dX3_started_27 : decode cX3_started 27 = .ok (.imul, 1) := dk_104 (dk_at dksX3_started_1 3 rfl rfl)
theorem dX3_started_28 : decode cX3_started 28 = .ok (.ishl, 1) := dk_120 (dk_at dksX3_started_1 4 rfl rfl)
theorem dX3_started_29 : decode cX3_started 29 = .ok (.ior, 1) := dk_128 (dk_at dksX3_started_1 5 rfl rfl)
theorem dX3_started_30 : decode cX3_started 30 = .ok (.istore_n 1, 1) := dk_60 (dk_at dksX3_started_1 6 rfl rfl)
theorem dX3_started_31 : decode cX3_started 31 = .ok (.iinc 2 1, 3) := dk_132 2 1 (dk_at dksX3_started_1 7 rfl rfl)
theorem dX3_started_34 : decode cX3_started 34 = .ok (.goto (-30), 3) := dk_167 255 226 (dk_at dksX3_started_1 10 rfl rfl)
theorem dX3_started_37 : decode cX3_started 37 = .ok (.iload_n 1, 1) := dk_27 (dk_at dksX3_started_1 13 rfl rfl)
theorem dX3_started_38 : decode cX3_started 38 = .ok (.ireturn, 1) := dk_172 (dk_at dksX3_started_1 14 rfl rfl)
abbrev cX3_ended : ByteArray := prog_14_method_102_code
def yX3_ended : MethodName := ⟨RX3, "ended", "()I"⟩
def dkwX3_ended_1 : List UInt8 := [104, 120, 128, 60, 132, 2, 1, 167, 255, 229, 27, 172]
abbrev dktX3_ended_1 : List UInt8 := dkwX3_ended_1 ++ []
def dkwX3_ended_0 : List UInt8 := [3, 60, 3, 61, 28, 42, 180, 0, 7, 16, 98, 46, 162, 0, 22, 27, 42, 28, 4, 182, 1, 81, 5, 28]
abbrev dktX3_ended_0 : List UInt8 := dkwX3_ended_0 ++ dktX3_ended_1
theorem dksX3_ended_0 : cX3_ended.data.toList.drop 0 = dktX3_ended_0 := by decide +kernel
theorem dksX3_ended_1 : cX3_ended.data.toList.drop 24 = dktX3_ended_1 := dk_seg dksX3_ended_0 24 rfl rfl
theorem dX3_ended_0 : decode cX3_ended 0 = .ok (.iconst 0, 1) := dk_3 (dk_at dksX3_ended_0 0 rfl rfl)
theorem dX3_ended_1 : decode cX3_ended 1 = .ok (.istore_n 1, 1) := dk_60 (dk_at dksX3_ended_0 1 rfl rfl)
theorem dX3_ended_2 : decode cX3_ended 2 = .ok (.iconst 0, 1) := dk_3 (dk_at dksX3_ended_0 2 rfl rfl)
theorem dX3_ended_3 : decode cX3_ended 3 = .ok (.istore_n 2, 1) := dk_61 (dk_at dksX3_ended_0 3 rfl rfl)
theorem dX3_ended_4 : decode cX3_ended 4 = .ok (.iload_n 2, 1) := dk_28 (dk_at dksX3_ended_0 4 rfl rfl)
theorem dX3_ended_5 : decode cX3_ended 5 = .ok (.aload_n 0, 1) := dk_42 (dk_at dksX3_ended_0 5 rfl rfl)
theorem dX3_ended_6 : decode cX3_ended 6 = .ok (.getfield 7, 3) := dk_180 0 7 (dk_at dksX3_ended_0 6 rfl rfl)
theorem dX3_ended_9 : decode cX3_ended 9 = .ok (.bipush 98, 2) := dk_16 98 (dk_at dksX3_ended_0 9 rfl rfl)
theorem dX3_ended_11 : decode cX3_ended 11 = .ok (.iaload, 1) := dk_46 (dk_at dksX3_ended_0 11 rfl rfl)
theorem dX3_ended_12 : decode cX3_ended 12 = .ok (.if_icmp .ge 22, 3) := dk_162 0 22 (dk_at dksX3_ended_0 12 rfl rfl)
theorem dX3_ended_15 : decode cX3_ended 15 = .ok (.iload_n 1, 1) := dk_27 (dk_at dksX3_ended_0 15 rfl rfl)
theorem dX3_ended_16 : decode cX3_ended 16 = .ok (.aload_n 0, 1) := dk_42 (dk_at dksX3_ended_0 16 rfl rfl)
theorem dX3_ended_17 : decode cX3_ended 17 = .ok (.iload_n 2, 1) := dk_28 (dk_at dksX3_ended_0 17 rfl rfl)
theorem dX3_ended_18 : decode cX3_ended 18 = .ok (.iconst 1, 1) := dk_4 (dk_at dksX3_ended_0 18 rfl rfl)
theorem dX3_ended_19 : decode cX3_ended 19 = .ok (.invokevirtual 337, 3) := dk_182 1 81 (dk_at dksX3_ended_0 19 rfl rfl)
theorem dX3_ended_22 : decode cX3_ended 22 = .ok (.iconst 2, 1) := dk_5 (dk_at dksX3_ended_0 22 rfl rfl)
theorem dX3_ended_23 : decode cX3_ended 23 = .ok (.iload_n 2, 1) := dk_28 (dk_at dksX3_ended_0 23 rfl rfl)
theorem dX3_ended_24 : decode cX3_ended 24 = .ok (.imul, 1) := dk_104 (dk_at dksX3_ended_1 0 rfl rfl)
theorem dX3_ended_25 : decode cX3_ended 25 = .ok (.ishl, 1) := dk_120 (dk_at dksX3_ended_1 1 rfl rfl)
theorem dX3_ended_26 : decode cX3_ended 26 = .ok (.ior, 1) := dk_128 (dk_at dksX3_ended_1 2 rfl rfl)
theorem dX3_ended_27 : decode cX3_ended 27 = .ok (.istore_n 1, 1) := dk_60 (dk_at dksX3_ended_1 3 rfl rfl)
theorem dX3_ended_28 : decode cX3_ended 28 = .ok (.iinc 2 1, 3) := dk_132 2 1 (dk_at dksX3_ended_1 4 rfl rfl)
theorem dX3_ended_31 : decode cX3_ended 31 = .ok (.goto (-27), 3) := dk_167 255 229 (dk_at dksX3_ended_1 7 rfl rfl)
theorem dX3_ended_34 : decode cX3_ended 34 = .ok (.iload_n 1, 1) := dk_27 (dk_at dksX3_ended_1 10 rfl rfl)
theorem dX3_ended_35 : decode cX3_ended 35 = .ok (.ireturn, 1) := dk_172 (dk_at dksX3_ended_1 11 rfl rfl)
abbrev cX3_farFrom : ByteArray := prog_14_method_106_code
def yX3_farFrom : MethodName := ⟨RX3, "farFrom", "(II)I"⟩
def dkwX3_farFrom_5 : List UInt8 := [180, 0, 55, 27, 21, 4, 79, 21, 4, 172]
abbrev dktX3_farFrom_5 : List UInt8 := dkwX3_farFrom_5 ++ []
def dkwX3_farFrom_4 : List UInt8 := [96, 21, 4, 162, 0, 9, 21, 6, 4, 96, 54, 4, 21, 5, 4, 100, 29, 126, 54, 5, 167, 255, 179, 42]
abbrev dktX3_farFrom_4 : List UInt8 := dkwX3_farFrom_4 ++ dktX3_farFrom_5
def dkwX3_farFrom_3 : List UInt8 := [182, 1, 179, 28, 182, 1, 182, 54, 6, 21, 6, 2, 159, 0, 24, 21, 4, 2, 159, 0, 12, 21, 6, 4]
abbrev dktX3_farFrom_3 : List UInt8 := dkwX3_farFrom_3 ++ dktX3_farFrom_4
def dkwX3_farFrom_2 : List UInt8 := [51, 153, 0, 57, 42, 21, 5, 29, 182, 1, 176, 154, 0, 6, 167, 0, 44, 42, 42, 27, 21, 5]
abbrev dktX3_farFrom_2 : List UInt8 := dkwX3_farFrom_2 ++ dktX3_farFrom_3
def dkwX3_farFrom_1 : List UInt8 := [172, 42, 27, 182, 1, 173, 62, 2, 54, 4, 29, 54, 5, 21, 5, 158, 0, 78, 42, 180, 0, 44, 21, 5]
abbrev dktX3_farFrom_1 : List UInt8 := dkwX3_farFrom_1 ++ dktX3_farFrom_2
def dkwX3_farFrom_0 : List UInt8 := [27, 28, 160, 0, 5, 3, 172, 42, 180, 0, 55, 27, 46, 16, 254, 159, 0, 10, 42, 180, 0, 55, 27, 46]
abbrev dktX3_farFrom_0 : List UInt8 := dkwX3_farFrom_0 ++ dktX3_farFrom_1
theorem dksX3_farFrom_0 : cX3_farFrom.data.toList.drop 0 = dktX3_farFrom_0 := by decide +kernel
theorem dksX3_farFrom_1 : cX3_farFrom.data.toList.drop 24 = dktX3_farFrom_1 := dk_seg dksX3_farFrom_0 24 rfl rfl
theorem dksX3_farFrom_2 : cX3_farFrom.data.toList.drop 48 = dktX3_farFrom_2 := dk_seg dksX3_farFrom_1 24 rfl rfl
theorem dksX3_farFrom_3 : cX3_farFrom.data.toList.drop 70 = dktX3_farFrom_3 := dk_seg dksX3_farFrom_2 22 rfl rfl
theorem dksX3_farFrom_4 : cX3_farFrom.data.toList.drop 94 = dktX3_farFrom_4 := dk_seg dksX3_farFrom_3 24 rfl rfl
theorem dksX3_farFrom_5 : cX3_farFrom.data.toList.drop 118 = dktX3_farFrom_5 := dk_seg dksX3_farFrom_4 24 rfl rfl
theorem dX3_farFrom_0 : decode cX3_farFrom 0 = .ok (.iload_n 1, 1) := dk_27 (dk_at dksX3_farFrom_0 0 rfl rfl)
theorem dX3_farFrom_1 : decode cX3_farFrom 1 = .ok (.iload_n 2, 1) := dk_28 (dk_at dksX3_farFrom_0 1 rfl rfl)
theorem dX3_farFrom_2 : decode cX3_farFrom 2 = .ok (.if_icmp .ne 5, 3) := dk_160 0 5 (dk_at dksX3_farFrom_0 2 rfl rfl)
theorem dX3_farFrom_5 : decode cX3_farFrom 5 = .ok (.iconst 0, 1) := dk_3 (dk_at dksX3_farFrom_0 5 rfl rfl)
theorem dX3_farFrom_6 : decode cX3_farFrom 6 = .ok (.ireturn, 1) := dk_172 (dk_at dksX3_farFrom_0 6 rfl rfl)
theorem dX3_farFrom_7 : decode cX3_farFrom 7 = .ok (.aload_n 0, 1) := dk_42 (dk_at dksX3_farFrom_0 7 rfl rfl)
theorem dX3_farFrom_8 : decode cX3_farFrom 8 = .ok (.getfield 55, 3) := dk_180 0 55 (dk_at dksX3_farFrom_0 8 rfl rfl)
theorem dX3_farFrom_11 : decode cX3_farFrom 11 = .ok (.iload_n 1, 1) := dk_27 (dk_at dksX3_farFrom_0 11 rfl rfl)
theorem dX3_farFrom_12 : decode cX3_farFrom 12 = .ok (.iaload, 1) := dk_46 (dk_at dksX3_farFrom_0 12 rfl rfl)
theorem dX3_farFrom_13 : decode cX3_farFrom 13 = .ok (.bipush (-2), 2) := dk_16 254 (dk_at dksX3_farFrom_0 13 rfl rfl)
theorem dX3_farFrom_15 : decode cX3_farFrom 15 = .ok (.if_icmp .eq 10, 3) := dk_159 0 10 (dk_at dksX3_farFrom_0 15 rfl rfl)
theorem dX3_farFrom_18 : decode cX3_farFrom 18 = .ok (.aload_n 0, 1) := dk_42 (dk_at dksX3_farFrom_0 18 rfl rfl)
theorem dX3_farFrom_19 : decode cX3_farFrom 19 = .ok (.getfield 55, 3) := dk_180 0 55 (dk_at dksX3_farFrom_0 19 rfl rfl)
theorem dX3_farFrom_22 : decode cX3_farFrom 22 = .ok (.iload_n 1, 1) := dk_27 (dk_at dksX3_farFrom_0 22 rfl rfl)
theorem dX3_farFrom_23 : decode cX3_farFrom 23 = .ok (.iaload, 1) := dk_46 (dk_at dksX3_farFrom_0 23 rfl rfl)
theorem dX3_farFrom_24 : decode cX3_farFrom 24 = .ok (.ireturn, 1) := dk_172 (dk_at dksX3_farFrom_1 0 rfl rfl)
theorem dX3_farFrom_25 : decode cX3_farFrom 25 = .ok (.aload_n 0, 1) := dk_42 (dk_at dksX3_farFrom_1 1 rfl rfl)
theorem dX3_farFrom_26 : decode cX3_farFrom 26 = .ok (.iload_n 1, 1) := dk_27 (dk_at dksX3_farFrom_1 2 rfl rfl)
theorem dX3_farFrom_27 : decode cX3_farFrom 27 = .ok (.invokevirtual 429, 3) := dk_182 1 173 (dk_at dksX3_farFrom_1 3 rfl rfl)
theorem dX3_farFrom_30 : decode cX3_farFrom 30 = .ok (.istore_n 3, 1) := dk_62 (dk_at dksX3_farFrom_1 6 rfl rfl)
theorem dX3_farFrom_31 : decode cX3_farFrom 31 = .ok (.iconst (-1), 1) := dk_2 (dk_at dksX3_farFrom_1 7 rfl rfl)
theorem dX3_farFrom_32 : decode cX3_farFrom 32 = .ok (.istore 4, 2) := dk_54 4 (dk_at dksX3_farFrom_1 8 rfl rfl)
theorem dX3_farFrom_34 : decode cX3_farFrom 34 = .ok (.iload_n 3, 1) := dk_29 (dk_at dksX3_farFrom_1 10 rfl rfl)
theorem dX3_farFrom_35 : decode cX3_farFrom 35 = .ok (.istore 5, 2) := dk_54 5 (dk_at dksX3_farFrom_1 11 rfl rfl)
theorem dX3_farFrom_37 : decode cX3_farFrom 37 = .ok (.iload 5, 2) := dk_21 5 (dk_at dksX3_farFrom_1 13 rfl rfl)
theorem dX3_farFrom_39 : decode cX3_farFrom 39 = .ok (.ifCond .le 78, 3) := dk_158 0 78 (dk_at dksX3_farFrom_1 15 rfl rfl)
theorem dX3_farFrom_42 : decode cX3_farFrom 42 = .ok (.aload_n 0, 1) := dk_42 (dk_at dksX3_farFrom_1 18 rfl rfl)
theorem dX3_farFrom_43 : decode cX3_farFrom 43 = .ok (.getfield 44, 3) := dk_180 0 44 (dk_at dksX3_farFrom_1 19 rfl rfl)
theorem dX3_farFrom_46 : decode cX3_farFrom 46 = .ok (.iload 5, 2) := dk_21 5 (dk_at dksX3_farFrom_1 22 rfl rfl)
theorem dX3_farFrom_48 : decode cX3_farFrom 48 = .ok (.baload, 1) := dk_51 (dk_at dksX3_farFrom_2 0 rfl rfl)
theorem dX3_farFrom_49 : decode cX3_farFrom 49 = .ok (.ifCond .eq 57, 3) := dk_153 0 57 (dk_at dksX3_farFrom_2 1 rfl rfl)
theorem dX3_farFrom_52 : decode cX3_farFrom 52 = .ok (.aload_n 0, 1) := dk_42 (dk_at dksX3_farFrom_2 4 rfl rfl)
theorem dX3_farFrom_53 : decode cX3_farFrom 53 = .ok (.iload 5, 2) := dk_21 5 (dk_at dksX3_farFrom_2 5 rfl rfl)
theorem dX3_farFrom_55 : decode cX3_farFrom 55 = .ok (.iload_n 3, 1) := dk_29 (dk_at dksX3_farFrom_2 7 rfl rfl)
theorem dX3_farFrom_56 : decode cX3_farFrom 56 = .ok (.invokevirtual 432, 3) := dk_182 1 176 (dk_at dksX3_farFrom_2 8 rfl rfl)
theorem dX3_farFrom_59 : decode cX3_farFrom 59 = .ok (.ifCond .ne 6, 3) := dk_154 0 6 (dk_at dksX3_farFrom_2 11 rfl rfl)
theorem dX3_farFrom_62 : decode cX3_farFrom 62 = .ok (.goto 44, 3) := dk_167 0 44 (dk_at dksX3_farFrom_2 14 rfl rfl)
theorem dX3_farFrom_65 : decode cX3_farFrom 65 = .ok (.aload_n 0, 1) := dk_42 (dk_at dksX3_farFrom_2 17 rfl rfl)
theorem dX3_farFrom_66 : decode cX3_farFrom 66 = .ok (.aload_n 0, 1) := dk_42 (dk_at dksX3_farFrom_2 18 rfl rfl)
theorem dX3_farFrom_67 : decode cX3_farFrom 67 = .ok (.iload_n 1, 1) := dk_27 (dk_at dksX3_farFrom_2 19 rfl rfl)
theorem dX3_farFrom_68 : decode cX3_farFrom 68 = .ok (.iload 5, 2) := dk_21 5 (dk_at dksX3_farFrom_2 20 rfl rfl)
theorem dX3_farFrom_70 : decode cX3_farFrom 70 = .ok (.invokevirtual 435, 3) := dk_182 1 179 (dk_at dksX3_farFrom_3 0 rfl rfl)
theorem dX3_farFrom_73 : decode cX3_farFrom 73 = .ok (.iload_n 2, 1) := dk_28 (dk_at dksX3_farFrom_3 3 rfl rfl)
theorem dX3_farFrom_74 : decode cX3_farFrom 74 = .ok (.invokevirtual 438, 3) := dk_182 1 182 (dk_at dksX3_farFrom_3 4 rfl rfl)
theorem dX3_farFrom_77 : decode cX3_farFrom 77 = .ok (.istore 6, 2) := dk_54 6 (dk_at dksX3_farFrom_3 7 rfl rfl)
theorem dX3_farFrom_79 : decode cX3_farFrom 79 = .ok (.iload 6, 2) := dk_21 6 (dk_at dksX3_farFrom_3 9 rfl rfl)
theorem dX3_farFrom_81 : decode cX3_farFrom 81 = .ok (.iconst (-1), 1) := dk_2 (dk_at dksX3_farFrom_3 11 rfl rfl)
theorem dX3_farFrom_82 : decode cX3_farFrom 82 = .ok (.if_icmp .eq 24, 3) := dk_159 0 24 (dk_at dksX3_farFrom_3 12 rfl rfl)
theorem dX3_farFrom_85 : decode cX3_farFrom 85 = .ok (.iload 4, 2) := dk_21 4 (dk_at dksX3_farFrom_3 15 rfl rfl)
theorem dX3_farFrom_87 : decode cX3_farFrom 87 = .ok (.iconst (-1), 1) := dk_2 (dk_at dksX3_farFrom_3 17 rfl rfl)
theorem dX3_farFrom_88 : decode cX3_farFrom 88 = .ok (.if_icmp .eq 12, 3) := dk_159 0 12 (dk_at dksX3_farFrom_3 18 rfl rfl)
theorem dX3_farFrom_91 : decode cX3_farFrom 91 = .ok (.iload 6, 2) := dk_21 6 (dk_at dksX3_farFrom_3 21 rfl rfl)
theorem dX3_farFrom_93 : decode cX3_farFrom 93 = .ok (.iconst 1, 1) := dk_4 (dk_at dksX3_farFrom_3 23 rfl rfl)
theorem dX3_farFrom_94 : decode cX3_farFrom 94 = .ok (.iadd, 1) := dk_96 (dk_at dksX3_farFrom_4 0 rfl rfl)
theorem dX3_farFrom_95 : decode cX3_farFrom 95 = .ok (.iload 4, 2) := dk_21 4 (dk_at dksX3_farFrom_4 1 rfl rfl)
theorem dX3_farFrom_97 : decode cX3_farFrom 97 = .ok (.if_icmp .ge 9, 3) := dk_162 0 9 (dk_at dksX3_farFrom_4 3 rfl rfl)
theorem dX3_farFrom_100 : decode cX3_farFrom 100 = .ok (.iload 6, 2) := dk_21 6 (dk_at dksX3_farFrom_4 6 rfl rfl)
theorem dX3_farFrom_102 : decode cX3_farFrom 102 = .ok (.iconst 1, 1) := dk_4 (dk_at dksX3_farFrom_4 8 rfl rfl)
theorem dX3_farFrom_103 : decode cX3_farFrom 103 = .ok (.iadd, 1) := dk_96 (dk_at dksX3_farFrom_4 9 rfl rfl)
theorem dX3_farFrom_104 : decode cX3_farFrom 104 = .ok (.istore 4, 2) := dk_54 4 (dk_at dksX3_farFrom_4 10 rfl rfl)
theorem dX3_farFrom_106 : decode cX3_farFrom 106 = .ok (.iload 5, 2) := dk_21 5 (dk_at dksX3_farFrom_4 12 rfl rfl)
theorem dX3_farFrom_108 : decode cX3_farFrom 108 = .ok (.iconst 1, 1) := dk_4 (dk_at dksX3_farFrom_4 14 rfl rfl)
theorem dX3_farFrom_109 : decode cX3_farFrom 109 = .ok (.isub, 1) := dk_100 (dk_at dksX3_farFrom_4 15 rfl rfl)
theorem dX3_farFrom_110 : decode cX3_farFrom 110 = .ok (.iload_n 3, 1) := dk_29 (dk_at dksX3_farFrom_4 16 rfl rfl)
theorem dX3_farFrom_111 : decode cX3_farFrom 111 = .ok (.iand, 1) := dk_126 (dk_at dksX3_farFrom_4 17 rfl rfl)
theorem dX3_farFrom_112 : decode cX3_farFrom 112 = .ok (.istore 5, 2) := dk_54 5 (dk_at dksX3_farFrom_4 18 rfl rfl)
theorem dX3_farFrom_114 : decode cX3_farFrom 114 = .ok (.goto (-77), 3) := dk_167 255 179 (dk_at dksX3_farFrom_4 20 rfl rfl)
theorem dX3_farFrom_117 : decode cX3_farFrom 117 = .ok (.aload_n 0, 1) := dk_42 (dk_at dksX3_farFrom_4 23 rfl rfl)
theorem dX3_farFrom_118 : decode cX3_farFrom 118 = .ok (.getfield 55, 3) := dk_180 0 55 (dk_at dksX3_farFrom_5 0 rfl rfl)
theorem dX3_farFrom_121 : decode cX3_farFrom 121 = .ok (.iload_n 1, 1) := dk_27 (dk_at dksX3_farFrom_5 3 rfl rfl)
theorem dX3_farFrom_122 : decode cX3_farFrom 122 = .ok (.iload 4, 2) := dk_21 4 (dk_at dksX3_farFrom_5 4 rfl rfl)
theorem dX3_farFrom_124 : decode cX3_farFrom 124 = .ok (.iastore, 1) := dk_79 (dk_at dksX3_farFrom_5 6 rfl rfl)
theorem dX3_farFrom_125 : decode cX3_farFrom 125 = .ok (.iload 4, 2) := dk_21 4 (dk_at dksX3_farFrom_5 7 rfl rfl)
theorem dX3_farFrom_127 : decode cX3_farFrom 127 = .ok (.ireturn, 1) := dk_172 (dk_at dksX3_farFrom_5 9 rfl rfl)
abbrev cX3_openIn : ByteArray := prog_14_method_103_code
def yX3_openIn : MethodName := ⟨RX3, "openIn", "(I)I"⟩
def dkwX3_openIn_4 : List UInt8 := [3, 128, 62, 132, 4, 1, 167, 255, 207, 29, 172]
abbrev dktX3_openIn_4 : List UInt8 := dkwX3_openIn_4 ++ []
def dkwX3_openIn_3 : List UInt8 := [154, 0, 24, 42, 21, 4, 5, 182, 1, 81, 28, 2, 130, 126, 154, 0, 10, 4, 21, 4, 120, 167, 0, 4]
abbrev dktX3_openIn_3 : List UInt8 := dkwX3_openIn_3 ++ dktX3_openIn_4
def dkwX3_openIn_2 : List UInt8 := [62, 3, 54, 4, 21, 4, 42, 180, 0, 7, 16, 98, 46, 162, 0, 43, 29, 28, 21, 4, 122, 4, 126]
abbrev dktX3_openIn_2 : List UInt8 := dkwX3_openIn_2 ++ dktX3_openIn_3
def dkwX3_openIn_1 : List UInt8 := [29, 4, 182, 1, 81, 160, 0, 9, 4, 29, 120, 167, 0, 4, 3, 128, 61, 132, 3, 1, 167, 255, 216, 3]
abbrev dktX3_openIn_1 : List UInt8 := dkwX3_openIn_1 ++ dktX3_openIn_2
def dkwX3_openIn_0 : List UInt8 := [3, 61, 3, 62, 29, 42, 180, 0, 7, 16, 98, 46, 162, 0, 35, 28, 27, 5, 29, 104, 122, 6, 126, 42]
abbrev dktX3_openIn_0 : List UInt8 := dkwX3_openIn_0 ++ dktX3_openIn_1
theorem dksX3_openIn_0 : cX3_openIn.data.toList.drop 0 = dktX3_openIn_0 := by decide +kernel
theorem dksX3_openIn_1 : cX3_openIn.data.toList.drop 24 = dktX3_openIn_1 := dk_seg dksX3_openIn_0 24 rfl rfl
theorem dksX3_openIn_2 : cX3_openIn.data.toList.drop 48 = dktX3_openIn_2 := dk_seg dksX3_openIn_1 24 rfl rfl
theorem dksX3_openIn_3 : cX3_openIn.data.toList.drop 71 = dktX3_openIn_3 := dk_seg dksX3_openIn_2 23 rfl rfl
theorem dksX3_openIn_4 : cX3_openIn.data.toList.drop 95 = dktX3_openIn_4 := dk_seg dksX3_openIn_3 24 rfl rfl
theorem dX3_openIn_0 : decode cX3_openIn 0 = .ok (.iconst 0, 1) := dk_3 (dk_at dksX3_openIn_0 0 rfl rfl)
theorem dX3_openIn_1 : decode cX3_openIn 1 = .ok (.istore_n 2, 1) := dk_61 (dk_at dksX3_openIn_0 1 rfl rfl)
theorem dX3_openIn_2 : decode cX3_openIn 2 = .ok (.iconst 0, 1) := dk_3 (dk_at dksX3_openIn_0 2 rfl rfl)
theorem dX3_openIn_3 : decode cX3_openIn 3 = .ok (.istore_n 3, 1) := dk_62 (dk_at dksX3_openIn_0 3 rfl rfl)
theorem dX3_openIn_4 : decode cX3_openIn 4 = .ok (.iload_n 3, 1) := dk_29 (dk_at dksX3_openIn_0 4 rfl rfl)
theorem dX3_openIn_5 : decode cX3_openIn 5 = .ok (.aload_n 0, 1) := dk_42 (dk_at dksX3_openIn_0 5 rfl rfl)
theorem dX3_openIn_6 : decode cX3_openIn 6 = .ok (.getfield 7, 3) := dk_180 0 7 (dk_at dksX3_openIn_0 6 rfl rfl)
theorem dX3_openIn_9 : decode cX3_openIn 9 = .ok (.bipush 98, 2) := dk_16 98 (dk_at dksX3_openIn_0 9 rfl rfl)
theorem dX3_openIn_11 : decode cX3_openIn 11 = .ok (.iaload, 1) := dk_46 (dk_at dksX3_openIn_0 11 rfl rfl)
theorem dX3_openIn_12 : decode cX3_openIn 12 = .ok (.if_icmp .ge 35, 3) := dk_162 0 35 (dk_at dksX3_openIn_0 12 rfl rfl)
theorem dX3_openIn_15 : decode cX3_openIn 15 = .ok (.iload_n 2, 1) := dk_28 (dk_at dksX3_openIn_0 15 rfl rfl)
theorem dX3_openIn_16 : decode cX3_openIn 16 = .ok (.iload_n 1, 1) := dk_27 (dk_at dksX3_openIn_0 16 rfl rfl)
theorem dX3_openIn_17 : decode cX3_openIn 17 = .ok (.iconst 2, 1) := dk_5 (dk_at dksX3_openIn_0 17 rfl rfl)
theorem dX3_openIn_18 : decode cX3_openIn 18 = .ok (.iload_n 3, 1) := dk_29 (dk_at dksX3_openIn_0 18 rfl rfl)
theorem dX3_openIn_19 : decode cX3_openIn 19 = .ok (.imul, 1) := dk_104 (dk_at dksX3_openIn_0 19 rfl rfl)
theorem dX3_openIn_20 : decode cX3_openIn 20 = .ok (.ishr, 1) := dk_122 (dk_at dksX3_openIn_0 20 rfl rfl)
theorem dX3_openIn_21 : decode cX3_openIn 21 = .ok (.iconst 3, 1) := dk_6 (dk_at dksX3_openIn_0 21 rfl rfl)
theorem dX3_openIn_22 : decode cX3_openIn 22 = .ok (.iand, 1) := dk_126 (dk_at dksX3_openIn_0 22 rfl rfl)
theorem dX3_openIn_23 : decode cX3_openIn 23 = .ok (.aload_n 0, 1) := dk_42 (dk_at dksX3_openIn_0 23 rfl rfl)
theorem dX3_openIn_24 : decode cX3_openIn 24 = .ok (.iload_n 3, 1) := dk_29 (dk_at dksX3_openIn_1 0 rfl rfl)
theorem dX3_openIn_25 : decode cX3_openIn 25 = .ok (.iconst 1, 1) := dk_4 (dk_at dksX3_openIn_1 1 rfl rfl)
theorem dX3_openIn_26 : decode cX3_openIn 26 = .ok (.invokevirtual 337, 3) := dk_182 1 81 (dk_at dksX3_openIn_1 2 rfl rfl)
theorem dX3_openIn_29 : decode cX3_openIn 29 = .ok (.if_icmp .ne 9, 3) := dk_160 0 9 (dk_at dksX3_openIn_1 5 rfl rfl)
theorem dX3_openIn_32 : decode cX3_openIn 32 = .ok (.iconst 1, 1) := dk_4 (dk_at dksX3_openIn_1 8 rfl rfl)
theorem dX3_openIn_33 : decode cX3_openIn 33 = .ok (.iload_n 3, 1) := dk_29 (dk_at dksX3_openIn_1 9 rfl rfl)
theorem dX3_openIn_34 : decode cX3_openIn 34 = .ok (.ishl, 1) := dk_120 (dk_at dksX3_openIn_1 10 rfl rfl)
theorem dX3_openIn_35 : decode cX3_openIn 35 = .ok (.goto 4, 3) := dk_167 0 4 (dk_at dksX3_openIn_1 11 rfl rfl)
theorem dX3_openIn_38 : decode cX3_openIn 38 = .ok (.iconst 0, 1) := dk_3 (dk_at dksX3_openIn_1 14 rfl rfl)
theorem dX3_openIn_39 : decode cX3_openIn 39 = .ok (.ior, 1) := dk_128 (dk_at dksX3_openIn_1 15 rfl rfl)
theorem dX3_openIn_40 : decode cX3_openIn 40 = .ok (.istore_n 2, 1) := dk_61 (dk_at dksX3_openIn_1 16 rfl rfl)
theorem dX3_openIn_41 : decode cX3_openIn 41 = .ok (.iinc 3 1, 3) := dk_132 3 1 (dk_at dksX3_openIn_1 17 rfl rfl)
theorem dX3_openIn_44 : decode cX3_openIn 44 = .ok (.goto (-40), 3) := dk_167 255 216 (dk_at dksX3_openIn_1 20 rfl rfl)
theorem dX3_openIn_47 : decode cX3_openIn 47 = .ok (.iconst 0, 1) := dk_3 (dk_at dksX3_openIn_1 23 rfl rfl)
theorem dX3_openIn_48 : decode cX3_openIn 48 = .ok (.istore_n 3, 1) := dk_62 (dk_at dksX3_openIn_2 0 rfl rfl)
theorem dX3_openIn_49 : decode cX3_openIn 49 = .ok (.iconst 0, 1) := dk_3 (dk_at dksX3_openIn_2 1 rfl rfl)
theorem dX3_openIn_50 : decode cX3_openIn 50 = .ok (.istore 4, 2) := dk_54 4 (dk_at dksX3_openIn_2 2 rfl rfl)
theorem dX3_openIn_52 : decode cX3_openIn 52 = .ok (.iload 4, 2) := dk_21 4 (dk_at dksX3_openIn_2 4 rfl rfl)
theorem dX3_openIn_54 : decode cX3_openIn 54 = .ok (.aload_n 0, 1) := dk_42 (dk_at dksX3_openIn_2 6 rfl rfl)
theorem dX3_openIn_55 : decode cX3_openIn 55 = .ok (.getfield 7, 3) := dk_180 0 7 (dk_at dksX3_openIn_2 7 rfl rfl)
theorem dX3_openIn_58 : decode cX3_openIn 58 = .ok (.bipush 98, 2) := dk_16 98 (dk_at dksX3_openIn_2 10 rfl rfl)
theorem dX3_openIn_60 : decode cX3_openIn 60 = .ok (.iaload, 1) := dk_46 (dk_at dksX3_openIn_2 12 rfl rfl)
theorem dX3_openIn_61 : decode cX3_openIn 61 = .ok (.if_icmp .ge 43, 3) := dk_162 0 43 (dk_at dksX3_openIn_2 13 rfl rfl)
theorem dX3_openIn_64 : decode cX3_openIn 64 = .ok (.iload_n 3, 1) := dk_29 (dk_at dksX3_openIn_2 16 rfl rfl)
theorem dX3_openIn_65 : decode cX3_openIn 65 = .ok (.iload_n 2, 1) := dk_28 (dk_at dksX3_openIn_2 17 rfl rfl)
theorem dX3_openIn_66 : decode cX3_openIn 66 = .ok (.iload 4, 2) := dk_21 4 (dk_at dksX3_openIn_2 18 rfl rfl)
theorem dX3_openIn_68 : decode cX3_openIn 68 = .ok (.ishr, 1) := dk_122 (dk_at dksX3_openIn_2 20 rfl rfl)
theorem dX3_openIn_69 : decode cX3_openIn 69 = .ok (.iconst 1, 1) := dk_4 (dk_at dksX3_openIn_2 21 rfl rfl)
theorem dX3_openIn_70 : decode cX3_openIn 70 = .ok (.iand, 1) := dk_126 (dk_at dksX3_openIn_2 22 rfl rfl)
theorem dX3_openIn_71 : decode cX3_openIn 71 = .ok (.ifCond .ne 24, 3) := dk_154 0 24 (dk_at dksX3_openIn_3 0 rfl rfl)
theorem dX3_openIn_74 : decode cX3_openIn 74 = .ok (.aload_n 0, 1) := dk_42 (dk_at dksX3_openIn_3 3 rfl rfl)
theorem dX3_openIn_75 : decode cX3_openIn 75 = .ok (.iload 4, 2) := dk_21 4 (dk_at dksX3_openIn_3 4 rfl rfl)
theorem dX3_openIn_77 : decode cX3_openIn 77 = .ok (.iconst 2, 1) := dk_5 (dk_at dksX3_openIn_3 6 rfl rfl)
theorem dX3_openIn_78 : decode cX3_openIn 78 = .ok (.invokevirtual 337, 3) := dk_182 1 81 (dk_at dksX3_openIn_3 7 rfl rfl)
theorem dX3_openIn_81 : decode cX3_openIn 81 = .ok (.iload_n 2, 1) := dk_28 (dk_at dksX3_openIn_3 10 rfl rfl)
theorem dX3_openIn_82 : decode cX3_openIn 82 = .ok (.iconst (-1), 1) := dk_2 (dk_at dksX3_openIn_3 11 rfl rfl)
theorem dX3_openIn_83 : decode cX3_openIn 83 = .ok (.ixor, 1) := dk_130 (dk_at dksX3_openIn_3 12 rfl rfl)
theorem dX3_openIn_84 : decode cX3_openIn 84 = .ok (.iand, 1) := dk_126 (dk_at dksX3_openIn_3 13 rfl rfl)
theorem dX3_openIn_85 : decode cX3_openIn 85 = .ok (.ifCond .ne 10, 3) := dk_154 0 10 (dk_at dksX3_openIn_3 14 rfl rfl)
theorem dX3_openIn_88 : decode cX3_openIn 88 = .ok (.iconst 1, 1) := dk_4 (dk_at dksX3_openIn_3 17 rfl rfl)
theorem dX3_openIn_89 : decode cX3_openIn 89 = .ok (.iload 4, 2) := dk_21 4 (dk_at dksX3_openIn_3 18 rfl rfl)
theorem dX3_openIn_91 : decode cX3_openIn 91 = .ok (.ishl, 1) := dk_120 (dk_at dksX3_openIn_3 20 rfl rfl)
theorem dX3_openIn_92 : decode cX3_openIn 92 = .ok (.goto 4, 3) := dk_167 0 4 (dk_at dksX3_openIn_3 21 rfl rfl)
theorem dX3_openIn_95 : decode cX3_openIn 95 = .ok (.iconst 0, 1) := dk_3 (dk_at dksX3_openIn_4 0 rfl rfl)
theorem dX3_openIn_96 : decode cX3_openIn 96 = .ok (.ior, 1) := dk_128 (dk_at dksX3_openIn_4 1 rfl rfl)
theorem dX3_openIn_97 : decode cX3_openIn 97 = .ok (.istore_n 3, 1) := dk_62 (dk_at dksX3_openIn_4 2 rfl rfl)
theorem dX3_openIn_98 : decode cX3_openIn 98 = .ok (.iinc 4 1, 3) := dk_132 4 1 (dk_at dksX3_openIn_4 3 rfl rfl)
theorem dX3_openIn_101 : decode cX3_openIn 101 = .ok (.goto (-49), 3) := dk_167 255 207 (dk_at dksX3_openIn_4 6 rfl rfl)
theorem dX3_openIn_104 : decode cX3_openIn 104 = .ok (.iload_n 3, 1) := dk_29 (dk_at dksX3_openIn_4 9 rfl rfl)
theorem dX3_openIn_105 : decode cX3_openIn 105 = .ok (.ireturn, 1) := dk_172 (dk_at dksX3_openIn_4 10 rfl rfl)
abbrev cX3_isFull : ByteArray := prog_14_method_105_code
def yX3_isFull : MethodName := ⟨RX3, "isFull", "(II)Z"⟩
def dkwX3_isFull_2 : List UInt8 := [4, 172]
abbrev dktX3_isFull_2 : List UInt8 := dkwX3_isFull_2 ++ []
def dkwX3_isFull_1 : List UInt8 := [153, 0, 18, 42, 180, 0, 44, 27, 4, 29, 120, 128, 51, 153, 0, 5, 3, 172, 132, 3, 1, 167, 255, 215]
abbrev dktX3_isFull_1 : List UInt8 := dkwX3_isFull_1 ++ dktX3_isFull_2
def dkwX3_isFull_0 : List UInt8 := [3, 62, 29, 42, 180, 0, 7, 16, 98, 46, 162, 0, 36, 28, 27, 2, 130, 126, 4, 29, 120, 126]
abbrev dktX3_isFull_0 : List UInt8 := dkwX3_isFull_0 ++ dktX3_isFull_1
theorem dksX3_isFull_0 : cX3_isFull.data.toList.drop 0 = dktX3_isFull_0 := by decide +kernel
theorem dksX3_isFull_1 : cX3_isFull.data.toList.drop 22 = dktX3_isFull_1 := dk_seg dksX3_isFull_0 22 rfl rfl
theorem dksX3_isFull_2 : cX3_isFull.data.toList.drop 46 = dktX3_isFull_2 := dk_seg dksX3_isFull_1 24 rfl rfl
theorem dX3_isFull_0 : decode cX3_isFull 0 = .ok (.iconst 0, 1) := dk_3 (dk_at dksX3_isFull_0 0 rfl rfl)
theorem dX3_isFull_1 : decode cX3_isFull 1 = .ok (.istore_n 3, 1) := dk_62 (dk_at dksX3_isFull_0 1 rfl rfl)
theorem dX3_isFull_2 : decode cX3_isFull 2 = .ok (.iload_n 3, 1) := dk_29 (dk_at dksX3_isFull_0 2 rfl rfl)
theorem dX3_isFull_3 : decode cX3_isFull 3 = .ok (.aload_n 0, 1) := dk_42 (dk_at dksX3_isFull_0 3 rfl rfl)
theorem dX3_isFull_4 : decode cX3_isFull 4 = .ok (.getfield 7, 3) := dk_180 0 7 (dk_at dksX3_isFull_0 4 rfl rfl)
theorem dX3_isFull_7 : decode cX3_isFull 7 = .ok (.bipush 98, 2) := dk_16 98 (dk_at dksX3_isFull_0 7 rfl rfl)
theorem dX3_isFull_9 : decode cX3_isFull 9 = .ok (.iaload, 1) := dk_46 (dk_at dksX3_isFull_0 9 rfl rfl)
theorem dX3_isFull_10 : decode cX3_isFull 10 = .ok (.if_icmp .ge 36, 3) := dk_162 0 36 (dk_at dksX3_isFull_0 10 rfl rfl)
theorem dX3_isFull_13 : decode cX3_isFull 13 = .ok (.iload_n 2, 1) := dk_28 (dk_at dksX3_isFull_0 13 rfl rfl)
theorem dX3_isFull_14 : decode cX3_isFull 14 = .ok (.iload_n 1, 1) := dk_27 (dk_at dksX3_isFull_0 14 rfl rfl)
theorem dX3_isFull_15 : decode cX3_isFull 15 = .ok (.iconst (-1), 1) := dk_2 (dk_at dksX3_isFull_0 15 rfl rfl)
theorem dX3_isFull_16 : decode cX3_isFull 16 = .ok (.ixor, 1) := dk_130 (dk_at dksX3_isFull_0 16 rfl rfl)
theorem dX3_isFull_17 : decode cX3_isFull 17 = .ok (.iand, 1) := dk_126 (dk_at dksX3_isFull_0 17 rfl rfl)
theorem dX3_isFull_18 : decode cX3_isFull 18 = .ok (.iconst 1, 1) := dk_4 (dk_at dksX3_isFull_0 18 rfl rfl)
theorem dX3_isFull_19 : decode cX3_isFull 19 = .ok (.iload_n 3, 1) := dk_29 (dk_at dksX3_isFull_0 19 rfl rfl)
theorem dX3_isFull_20 : decode cX3_isFull 20 = .ok (.ishl, 1) := dk_120 (dk_at dksX3_isFull_0 20 rfl rfl)
theorem dX3_isFull_21 : decode cX3_isFull 21 = .ok (.iand, 1) := dk_126 (dk_at dksX3_isFull_0 21 rfl rfl)
theorem dX3_isFull_22 : decode cX3_isFull 22 = .ok (.ifCond .eq 18, 3) := dk_153 0 18 (dk_at dksX3_isFull_1 0 rfl rfl)
theorem dX3_isFull_25 : decode cX3_isFull 25 = .ok (.aload_n 0, 1) := dk_42 (dk_at dksX3_isFull_1 3 rfl rfl)
theorem dX3_isFull_26 : decode cX3_isFull 26 = .ok (.getfield 44, 3) := dk_180 0 44 (dk_at dksX3_isFull_1 4 rfl rfl)
theorem dX3_isFull_29 : decode cX3_isFull 29 = .ok (.iload_n 1, 1) := dk_27 (dk_at dksX3_isFull_1 7 rfl rfl)
theorem dX3_isFull_30 : decode cX3_isFull 30 = .ok (.iconst 1, 1) := dk_4 (dk_at dksX3_isFull_1 8 rfl rfl)
theorem dX3_isFull_31 : decode cX3_isFull 31 = .ok (.iload_n 3, 1) := dk_29 (dk_at dksX3_isFull_1 9 rfl rfl)
theorem dX3_isFull_32 : decode cX3_isFull 32 = .ok (.ishl, 1) := dk_120 (dk_at dksX3_isFull_1 10 rfl rfl)
theorem dX3_isFull_33 : decode cX3_isFull 33 = .ok (.ior, 1) := dk_128 (dk_at dksX3_isFull_1 11 rfl rfl)
theorem dX3_isFull_34 : decode cX3_isFull 34 = .ok (.baload, 1) := dk_51 (dk_at dksX3_isFull_1 12 rfl rfl)
theorem dX3_isFull_35 : decode cX3_isFull 35 = .ok (.ifCond .eq 5, 3) := dk_153 0 5 (dk_at dksX3_isFull_1 13 rfl rfl)
theorem dX3_isFull_38 : decode cX3_isFull 38 = .ok (.iconst 0, 1) := dk_3 (dk_at dksX3_isFull_1 16 rfl rfl)
theorem dX3_isFull_39 : decode cX3_isFull 39 = .ok (.ireturn, 1) := dk_172 (dk_at dksX3_isFull_1 17 rfl rfl)
theorem dX3_isFull_40 : decode cX3_isFull 40 = .ok (.iinc 3 1, 3) := dk_132 3 1 (dk_at dksX3_isFull_1 18 rfl rfl)
theorem dX3_isFull_43 : decode cX3_isFull 43 = .ok (.goto (-41), 3) := dk_167 255 215 (dk_at dksX3_isFull_1 21 rfl rfl)
theorem dX3_isFull_46 : decode cX3_isFull 46 = .ok (.iconst 1, 1) := dk_4 (dk_at dksX3_isFull_2 0 rfl rfl)
theorem dX3_isFull_47 : decode cX3_isFull 47 = .ok (.ireturn, 1) := dk_172 (dk_at dksX3_isFull_2 1 rfl rfl)
abbrev cX3_step : ByteArray := prog_14_method_104_code
def yX3_step : MethodName := ⟨RX3, "step", "(II)I"⟩
def dkwX3_step_1 : List UInt8 := [5, 21, 4, 104, 120, 96, 62, 132, 4, 1, 167, 255, 227, 29, 172]
abbrev dktX3_step_1 : List UInt8 := dkwX3_step_1 ++ []
def dkwX3_step_0 : List UInt8 := [27, 62, 3, 54, 4, 21, 4, 42, 180, 0, 7, 16, 98, 46, 162, 0, 23, 29, 28, 21, 4, 122, 4, 126]
abbrev dktX3_step_0 : List UInt8 := dkwX3_step_0 ++ dktX3_step_1
theorem dksX3_step_0 : cX3_step.data.toList.drop 0 = dktX3_step_0 := by decide +kernel
theorem dksX3_step_1 : cX3_step.data.toList.drop 24 = dktX3_step_1 := dk_seg dksX3_step_0 24 rfl rfl
theorem dX3_step_0 : decode cX3_step 0 = .ok (.iload_n 1, 1) := dk_27 (dk_at dksX3_step_0 0 rfl rfl)
theorem dX3_step_1 : decode cX3_step 1 = .ok (.istore_n 3, 1) := dk_62 (dk_at dksX3_step_0 1 rfl rfl)
theorem dX3_step_2 : decode cX3_step 2 = .ok (.iconst 0, 1) := dk_3 (dk_at dksX3_step_0 2 rfl rfl)
theorem dX3_step_3 : decode cX3_step 3 = .ok (.istore 4, 2) := dk_54 4 (dk_at dksX3_step_0 3 rfl rfl)
theorem dX3_step_5 : decode cX3_step 5 = .ok (.iload 4, 2) := dk_21 4 (dk_at dksX3_step_0 5 rfl rfl)
theorem dX3_step_7 : decode cX3_step 7 = .ok (.aload_n 0, 1) := dk_42 (dk_at dksX3_step_0 7 rfl rfl)
theorem dX3_step_8 : decode cX3_step 8 = .ok (.getfield 7, 3) := dk_180 0 7 (dk_at dksX3_step_0 8 rfl rfl)
theorem dX3_step_11 : decode cX3_step 11 = .ok (.bipush 98, 2) := dk_16 98 (dk_at dksX3_step_0 11 rfl rfl)
theorem dX3_step_13 : decode cX3_step 13 = .ok (.iaload, 1) := dk_46 (dk_at dksX3_step_0 13 rfl rfl)
theorem dX3_step_14 : decode cX3_step 14 = .ok (.if_icmp .ge 23, 3) := dk_162 0 23 (dk_at dksX3_step_0 14 rfl rfl)
theorem dX3_step_17 : decode cX3_step 17 = .ok (.iload_n 3, 1) := dk_29 (dk_at dksX3_step_0 17 rfl rfl)
theorem dX3_step_18 : decode cX3_step 18 = .ok (.iload_n 2, 1) := dk_28 (dk_at dksX3_step_0 18 rfl rfl)
theorem dX3_step_19 : decode cX3_step 19 = .ok (.iload 4, 2) := dk_21 4 (dk_at dksX3_step_0 19 rfl rfl)
theorem dX3_step_21 : decode cX3_step 21 = .ok (.ishr, 1) := dk_122 (dk_at dksX3_step_0 21 rfl rfl)
theorem dX3_step_22 : decode cX3_step 22 = .ok (.iconst 1, 1) := dk_4 (dk_at dksX3_step_0 22 rfl rfl)
theorem dX3_step_23 : decode cX3_step 23 = .ok (.iand, 1) := dk_126 (dk_at dksX3_step_0 23 rfl rfl)
theorem dX3_step_24 : decode cX3_step 24 = .ok (.iconst 2, 1) := dk_5 (dk_at dksX3_step_1 0 rfl rfl)
theorem dX3_step_25 : decode cX3_step 25 = .ok (.iload 4, 2) := dk_21 4 (dk_at dksX3_step_1 1 rfl rfl)
theorem dX3_step_27 : decode cX3_step 27 = .ok (.imul, 1) := dk_104 (dk_at dksX3_step_1 3 rfl rfl)
theorem dX3_step_28 : decode cX3_step 28 = .ok (.ishl, 1) := dk_120 (dk_at dksX3_step_1 4 rfl rfl)
theorem dX3_step_29 : decode cX3_step 29 = .ok (.iadd, 1) := dk_96 (dk_at dksX3_step_1 5 rfl rfl)
theorem dX3_step_30 : decode cX3_step 30 = .ok (.istore_n 3, 1) := dk_62 (dk_at dksX3_step_1 6 rfl rfl)
theorem dX3_step_31 : decode cX3_step 31 = .ok (.iinc 4 1, 3) := dk_132 4 1 (dk_at dksX3_step_1 7 rfl rfl)
theorem dX3_step_34 : decode cX3_step 34 = .ok (.goto (-29), 3) := dk_167 255 227 (dk_at dksX3_step_1 10 rfl rfl)
theorem dX3_step_37 : decode cX3_step 37 = .ok (.iload_n 3, 1) := dk_29 (dk_at dksX3_step_1 13 rfl rfl)
theorem dX3_step_38 : decode cX3_step 38 = .ok (.ireturn, 1) := dk_172 (dk_at dksX3_step_1 14 rfl rfl)
abbrev cX3_firstSet : ByteArray := prog_14_method_107_code
def yX3_firstSet : MethodName := ⟨RX3, "firstSet", "(I)I"⟩
def dkwX3_firstSet_2 : List UInt8 := [182, 1, 182, 27, 4, 100, 160, 0, 5, 29, 172, 132, 3, 1, 167, 255, 206, 3, 172]
abbrev dktX3_firstSet_2 : List UInt8 := dkwX3_firstSet_2 ++ []
def dkwX3_firstSet_1 : List UInt8 := [42, 180, 0, 44, 29, 51, 153, 0, 28, 42, 42, 42, 182, 1, 185, 29, 182, 1, 179, 42, 182, 1, 188]
abbrev dktX3_firstSet_1 : List UInt8 := dkwX3_firstSet_1 ++ dktX3_firstSet_2
def dkwX3_firstSet_0 : List UInt8 := [42, 42, 182, 1, 185, 182, 1, 173, 61, 4, 62, 29, 28, 163, 0, 51, 29, 28, 2, 130, 126, 154, 0, 37]
abbrev dktX3_firstSet_0 : List UInt8 := dkwX3_firstSet_0 ++ dktX3_firstSet_1
theorem dksX3_firstSet_0 : cX3_firstSet.data.toList.drop 0 = dktX3_firstSet_0 := by decide +kernel
theorem dksX3_firstSet_1 : cX3_firstSet.data.toList.drop 24 = dktX3_firstSet_1 := dk_seg dksX3_firstSet_0 24 rfl rfl
theorem dksX3_firstSet_2 : cX3_firstSet.data.toList.drop 47 = dktX3_firstSet_2 := dk_seg dksX3_firstSet_1 23 rfl rfl
theorem dX3_firstSet_0 : decode cX3_firstSet 0 = .ok (.aload_n 0, 1) := dk_42 (dk_at dksX3_firstSet_0 0 rfl rfl)
theorem dX3_firstSet_1 : decode cX3_firstSet 1 = .ok (.aload_n 0, 1) := dk_42 (dk_at dksX3_firstSet_0 1 rfl rfl)
theorem dX3_firstSet_2 : decode cX3_firstSet 2 = .ok (.invokevirtual 441, 3) := dk_182 1 185 (dk_at dksX3_firstSet_0 2 rfl rfl)
theorem dX3_firstSet_5 : decode cX3_firstSet 5 = .ok (.invokevirtual 429, 3) := dk_182 1 173 (dk_at dksX3_firstSet_0 5 rfl rfl)
theorem dX3_firstSet_8 : decode cX3_firstSet 8 = .ok (.istore_n 2, 1) := dk_61 (dk_at dksX3_firstSet_0 8 rfl rfl)
theorem dX3_firstSet_9 : decode cX3_firstSet 9 = .ok (.iconst 1, 1) := dk_4 (dk_at dksX3_firstSet_0 9 rfl rfl)
theorem dX3_firstSet_10 : decode cX3_firstSet 10 = .ok (.istore_n 3, 1) := dk_62 (dk_at dksX3_firstSet_0 10 rfl rfl)
theorem dX3_firstSet_11 : decode cX3_firstSet 11 = .ok (.iload_n 3, 1) := dk_29 (dk_at dksX3_firstSet_0 11 rfl rfl)
theorem dX3_firstSet_12 : decode cX3_firstSet 12 = .ok (.iload_n 2, 1) := dk_28 (dk_at dksX3_firstSet_0 12 rfl rfl)
theorem dX3_firstSet_13 : decode cX3_firstSet 13 = .ok (.if_icmp .gt 51, 3) := dk_163 0 51 (dk_at dksX3_firstSet_0 13 rfl rfl)
theorem dX3_firstSet_16 : decode cX3_firstSet 16 = .ok (.iload_n 3, 1) := dk_29 (dk_at dksX3_firstSet_0 16 rfl rfl)
theorem dX3_firstSet_17 : decode cX3_firstSet 17 = .ok (.iload_n 2, 1) := dk_28 (dk_at dksX3_firstSet_0 17 rfl rfl)
theorem dX3_firstSet_18 : decode cX3_firstSet 18 = .ok (.iconst (-1), 1) := dk_2 (dk_at dksX3_firstSet_0 18 rfl rfl)
theorem dX3_firstSet_19 : decode cX3_firstSet 19 = .ok (.ixor, 1) := dk_130 (dk_at dksX3_firstSet_0 19 rfl rfl)
theorem dX3_firstSet_20 : decode cX3_firstSet 20 = .ok (.iand, 1) := dk_126 (dk_at dksX3_firstSet_0 20 rfl rfl)
theorem dX3_firstSet_21 : decode cX3_firstSet 21 = .ok (.ifCond .ne 37, 3) := dk_154 0 37 (dk_at dksX3_firstSet_0 21 rfl rfl)
theorem dX3_firstSet_24 : decode cX3_firstSet 24 = .ok (.aload_n 0, 1) := dk_42 (dk_at dksX3_firstSet_1 0 rfl rfl)
theorem dX3_firstSet_25 : decode cX3_firstSet 25 = .ok (.getfield 44, 3) := dk_180 0 44 (dk_at dksX3_firstSet_1 1 rfl rfl)
theorem dX3_firstSet_28 : decode cX3_firstSet 28 = .ok (.iload_n 3, 1) := dk_29 (dk_at dksX3_firstSet_1 4 rfl rfl)
theorem dX3_firstSet_29 : decode cX3_firstSet 29 = .ok (.baload, 1) := dk_51 (dk_at dksX3_firstSet_1 5 rfl rfl)
theorem dX3_firstSet_30 : decode cX3_firstSet 30 = .ok (.ifCond .eq 28, 3) := dk_153 0 28 (dk_at dksX3_firstSet_1 6 rfl rfl)
theorem dX3_firstSet_33 : decode cX3_firstSet 33 = .ok (.aload_n 0, 1) := dk_42 (dk_at dksX3_firstSet_1 9 rfl rfl)
theorem dX3_firstSet_34 : decode cX3_firstSet 34 = .ok (.aload_n 0, 1) := dk_42 (dk_at dksX3_firstSet_1 10 rfl rfl)
theorem dX3_firstSet_35 : decode cX3_firstSet 35 = .ok (.aload_n 0, 1) := dk_42 (dk_at dksX3_firstSet_1 11 rfl rfl)
theorem dX3_firstSet_36 : decode cX3_firstSet 36 = .ok (.invokevirtual 441, 3) := dk_182 1 185 (dk_at dksX3_firstSet_1 12 rfl rfl)
theorem dX3_firstSet_39 : decode cX3_firstSet 39 = .ok (.iload_n 3, 1) := dk_29 (dk_at dksX3_firstSet_1 15 rfl rfl)
theorem dX3_firstSet_40 : decode cX3_firstSet 40 = .ok (.invokevirtual 435, 3) := dk_182 1 179 (dk_at dksX3_firstSet_1 16 rfl rfl)
theorem dX3_firstSet_43 : decode cX3_firstSet 43 = .ok (.aload_n 0, 1) := dk_42 (dk_at dksX3_firstSet_1 19 rfl rfl)
theorem dX3_firstSet_44 : decode cX3_firstSet 44 = .ok (.invokevirtual 444, 3) := dk_182 1 188 (dk_at dksX3_firstSet_1 20 rfl rfl)
theorem dX3_firstSet_47 : decode cX3_firstSet 47 = .ok (.invokevirtual 438, 3) := dk_182 1 182 (dk_at dksX3_firstSet_2 0 rfl rfl)
theorem dX3_firstSet_50 : decode cX3_firstSet 50 = .ok (.iload_n 1, 1) := dk_27 (dk_at dksX3_firstSet_2 3 rfl rfl)
theorem dX3_firstSet_51 : decode cX3_firstSet 51 = .ok (.iconst 1, 1) := dk_4 (dk_at dksX3_firstSet_2 4 rfl rfl)
theorem dX3_firstSet_52 : decode cX3_firstSet 52 = .ok (.isub, 1) := dk_100 (dk_at dksX3_firstSet_2 5 rfl rfl)
theorem dX3_firstSet_53 : decode cX3_firstSet 53 = .ok (.if_icmp .ne 5, 3) := dk_160 0 5 (dk_at dksX3_firstSet_2 6 rfl rfl)
theorem dX3_firstSet_56 : decode cX3_firstSet 56 = .ok (.iload_n 3, 1) := dk_29 (dk_at dksX3_firstSet_2 9 rfl rfl)
theorem dX3_firstSet_57 : decode cX3_firstSet 57 = .ok (.ireturn, 1) := dk_172 (dk_at dksX3_firstSet_2 10 rfl rfl)
theorem dX3_firstSet_58 : decode cX3_firstSet 58 = .ok (.iinc 3 1, 3) := dk_132 3 1 (dk_at dksX3_firstSet_2 11 rfl rfl)
theorem dX3_firstSet_61 : decode cX3_firstSet 61 = .ok (.goto (-50), 3) := dk_167 255 206 (dk_at dksX3_firstSet_2 14 rfl rfl)
theorem dX3_firstSet_64 : decode cX3_firstSet 64 = .ok (.iconst 0, 1) := dk_3 (dk_at dksX3_firstSet_2 17 rfl rfl)
theorem dX3_firstSet_65 : decode cX3_firstSet 65 = .ok (.ireturn, 1) := dk_172 (dk_at dksX3_firstSet_2 18 rfl rfl)
abbrev cX3_vote : ByteArray := prog_14_method_111_code
def yX3_vote : MethodName := ⟨RX3, "vote", "(I)I"⟩
def dkwX3_vote_1 : List UInt8 := [27, 182, 1, 200, 153, 0, 7, 4, 167, 0, 4, 3, 172]
abbrev dktX3_vote_1 : List UInt8 := dkwX3_vote_1 ++ []
def dkwX3_vote_0 : List UInt8 := [27, 3, 4, 42, 180, 0, 7, 16, 96, 46, 120, 4, 100, 184, 0, 77, 154, 0, 7, 2, 167, 0, 16, 42]
abbrev dktX3_vote_0 : List UInt8 := dkwX3_vote_0 ++ dktX3_vote_1
theorem dksX3_vote_0 : cX3_vote.data.toList.drop 0 = dktX3_vote_0 := by decide +kernel
theorem dksX3_vote_1 : cX3_vote.data.toList.drop 24 = dktX3_vote_1 := dk_seg dksX3_vote_0 24 rfl rfl
theorem dX3_vote_0 : decode cX3_vote 0 = .ok (.iload_n 1, 1) := dk_27 (dk_at dksX3_vote_0 0 rfl rfl)
theorem dX3_vote_1 : decode cX3_vote 1 = .ok (.iconst 0, 1) := dk_3 (dk_at dksX3_vote_0 1 rfl rfl)
theorem dX3_vote_2 : decode cX3_vote 2 = .ok (.iconst 1, 1) := dk_4 (dk_at dksX3_vote_0 2 rfl rfl)
theorem dX3_vote_3 : decode cX3_vote 3 = .ok (.aload_n 0, 1) := dk_42 (dk_at dksX3_vote_0 3 rfl rfl)
theorem dX3_vote_4 : decode cX3_vote 4 = .ok (.getfield 7, 3) := dk_180 0 7 (dk_at dksX3_vote_0 4 rfl rfl)
theorem dX3_vote_7 : decode cX3_vote 7 = .ok (.bipush 96, 2) := dk_16 96 (dk_at dksX3_vote_0 7 rfl rfl)
theorem dX3_vote_9 : decode cX3_vote 9 = .ok (.iaload, 1) := dk_46 (dk_at dksX3_vote_0 9 rfl rfl)
theorem dX3_vote_10 : decode cX3_vote 10 = .ok (.ishl, 1) := dk_120 (dk_at dksX3_vote_0 10 rfl rfl)
theorem dX3_vote_11 : decode cX3_vote 11 = .ok (.iconst 1, 1) := dk_4 (dk_at dksX3_vote_0 11 rfl rfl)
theorem dX3_vote_12 : decode cX3_vote 12 = .ok (.isub, 1) := dk_100 (dk_at dksX3_vote_0 12 rfl rfl)
theorem dX3_vote_13 : decode cX3_vote 13 = .ok (.invokestatic 77, 3) := dk_184 0 77 (dk_at dksX3_vote_0 13 rfl rfl)
theorem dX3_vote_16 : decode cX3_vote 16 = .ok (.ifCond .ne 7, 3) := dk_154 0 7 (dk_at dksX3_vote_0 16 rfl rfl)
theorem dX3_vote_19 : decode cX3_vote 19 = .ok (.iconst (-1), 1) := dk_2 (dk_at dksX3_vote_0 19 rfl rfl)
theorem dX3_vote_20 : decode cX3_vote 20 = .ok (.goto 16, 3) := dk_167 0 16 (dk_at dksX3_vote_0 20 rfl rfl)
theorem dX3_vote_23 : decode cX3_vote 23 = .ok (.aload_n 0, 1) := dk_42 (dk_at dksX3_vote_0 23 rfl rfl)
theorem dX3_vote_24 : decode cX3_vote 24 = .ok (.iload_n 1, 1) := dk_27 (dk_at dksX3_vote_1 0 rfl rfl)
theorem dX3_vote_25 : decode cX3_vote 25 = .ok (.invokevirtual 456, 3) := dk_182 1 200 (dk_at dksX3_vote_1 1 rfl rfl)
theorem dX3_vote_28 : decode cX3_vote 28 = .ok (.ifCond .eq 7, 3) := dk_153 0 7 (dk_at dksX3_vote_1 4 rfl rfl)
theorem dX3_vote_31 : decode cX3_vote 31 = .ok (.iconst 1, 1) := dk_4 (dk_at dksX3_vote_1 7 rfl rfl)
theorem dX3_vote_32 : decode cX3_vote 32 = .ok (.goto 4, 3) := dk_167 0 4 (dk_at dksX3_vote_1 8 rfl rfl)
theorem dX3_vote_35 : decode cX3_vote 35 = .ok (.iconst 0, 1) := dk_3 (dk_at dksX3_vote_1 11 rfl rfl)
theorem dX3_vote_36 : decode cX3_vote 36 = .ok (.ireturn, 1) := dk_172 (dk_at dksX3_vote_1 12 rfl rfl)
abbrev cX3_isAgreed : ByteArray := prog_14_method_110_code
def yX3_isAgreed : MethodName := ⟨RX3, "isAgreed", "(I)Z"⟩
def dkwX3_isAgreed_0 : List UInt8 := [42, 27, 182, 1, 197, 42, 180, 0, 7, 16, 103, 46, 161, 0, 7, 4, 167, 0, 4, 3, 172]
abbrev dktX3_isAgreed_0 : List UInt8 := dkwX3_isAgreed_0 ++ []
theorem dksX3_isAgreed_0 : cX3_isAgreed.data.toList.drop 0 = dktX3_isAgreed_0 := by decide +kernel
theorem dX3_isAgreed_0 : decode cX3_isAgreed 0 = .ok (.aload_n 0, 1) := dk_42 (dk_at dksX3_isAgreed_0 0 rfl rfl)
theorem dX3_isAgreed_1 : decode cX3_isAgreed 1 = .ok (.iload_n 1, 1) := dk_27 (dk_at dksX3_isAgreed_0 1 rfl rfl)
theorem dX3_isAgreed_2 : decode cX3_isAgreed 2 = .ok (.invokevirtual 453, 3) := dk_182 1 197 (dk_at dksX3_isAgreed_0 2 rfl rfl)
theorem dX3_isAgreed_5 : decode cX3_isAgreed 5 = .ok (.aload_n 0, 1) := dk_42 (dk_at dksX3_isAgreed_0 5 rfl rfl)
theorem dX3_isAgreed_6 : decode cX3_isAgreed 6 = .ok (.getfield 7, 3) := dk_180 0 7 (dk_at dksX3_isAgreed_0 6 rfl rfl)
theorem dX3_isAgreed_9 : decode cX3_isAgreed 9 = .ok (.bipush 103, 2) := dk_16 103 (dk_at dksX3_isAgreed_0 9 rfl rfl)
theorem dX3_isAgreed_11 : decode cX3_isAgreed 11 = .ok (.iaload, 1) := dk_46 (dk_at dksX3_isAgreed_0 11 rfl rfl)
theorem dX3_isAgreed_12 : decode cX3_isAgreed 12 = .ok (.if_icmp .lt 7, 3) := dk_161 0 7 (dk_at dksX3_isAgreed_0 12 rfl rfl)
theorem dX3_isAgreed_15 : decode cX3_isAgreed 15 = .ok (.iconst 1, 1) := dk_4 (dk_at dksX3_isAgreed_0 15 rfl rfl)
theorem dX3_isAgreed_16 : decode cX3_isAgreed 16 = .ok (.goto 4, 3) := dk_167 0 4 (dk_at dksX3_isAgreed_0 16 rfl rfl)
theorem dX3_isAgreed_19 : decode cX3_isAgreed 19 = .ok (.iconst 0, 1) := dk_3 (dk_at dksX3_isAgreed_0 19 rfl rfl)
theorem dX3_isAgreed_20 : decode cX3_isAgreed 20 = .ok (.ireturn, 1) := dk_172 (dk_at dksX3_isAgreed_0 20 rfl rfl)
abbrev cX3_votesOf : ByteArray := prog_14_method_109_code
def yX3_votesOf : MethodName := ⟨RX3, "votesOf", "(I)I"⟩
def dkwX3_votesOf_1 : List UInt8 := [160, 0, 12, 42, 29, 8, 182, 1, 57, 167, 0, 4, 3, 96, 61, 132, 3, 1, 167, 255, 220, 28, 172]
abbrev dktX3_votesOf_1 : List UInt8 := dkwX3_votesOf_1 ++ []
def dkwX3_votesOf_0 : List UInt8 := [3, 61, 3, 62, 29, 42, 180, 0, 7, 16, 96, 46, 162, 0, 31, 28, 27, 29, 122, 4, 126, 4]
abbrev dktX3_votesOf_0 : List UInt8 := dkwX3_votesOf_0 ++ dktX3_votesOf_1
theorem dksX3_votesOf_0 : cX3_votesOf.data.toList.drop 0 = dktX3_votesOf_0 := by decide +kernel
theorem dksX3_votesOf_1 : cX3_votesOf.data.toList.drop 22 = dktX3_votesOf_1 := dk_seg dksX3_votesOf_0 22 rfl rfl
theorem dX3_votesOf_0 : decode cX3_votesOf 0 = .ok (.iconst 0, 1) := dk_3 (dk_at dksX3_votesOf_0 0 rfl rfl)
theorem dX3_votesOf_1 : decode cX3_votesOf 1 = .ok (.istore_n 2, 1) := dk_61 (dk_at dksX3_votesOf_0 1 rfl rfl)
theorem dX3_votesOf_2 : decode cX3_votesOf 2 = .ok (.iconst 0, 1) := dk_3 (dk_at dksX3_votesOf_0 2 rfl rfl)
theorem dX3_votesOf_3 : decode cX3_votesOf 3 = .ok (.istore_n 3, 1) := dk_62 (dk_at dksX3_votesOf_0 3 rfl rfl)
theorem dX3_votesOf_4 : decode cX3_votesOf 4 = .ok (.iload_n 3, 1) := dk_29 (dk_at dksX3_votesOf_0 4 rfl rfl)
theorem dX3_votesOf_5 : decode cX3_votesOf 5 = .ok (.aload_n 0, 1) := dk_42 (dk_at dksX3_votesOf_0 5 rfl rfl)
theorem dX3_votesOf_6 : decode cX3_votesOf 6 = .ok (.getfield 7, 3) := dk_180 0 7 (dk_at dksX3_votesOf_0 6 rfl rfl)
theorem dX3_votesOf_9 : decode cX3_votesOf 9 = .ok (.bipush 96, 2) := dk_16 96 (dk_at dksX3_votesOf_0 9 rfl rfl)
theorem dX3_votesOf_11 : decode cX3_votesOf 11 = .ok (.iaload, 1) := dk_46 (dk_at dksX3_votesOf_0 11 rfl rfl)
theorem dX3_votesOf_12 : decode cX3_votesOf 12 = .ok (.if_icmp .ge 31, 3) := dk_162 0 31 (dk_at dksX3_votesOf_0 12 rfl rfl)
theorem dX3_votesOf_15 : decode cX3_votesOf 15 = .ok (.iload_n 2, 1) := dk_28 (dk_at dksX3_votesOf_0 15 rfl rfl)
theorem dX3_votesOf_16 : decode cX3_votesOf 16 = .ok (.iload_n 1, 1) := dk_27 (dk_at dksX3_votesOf_0 16 rfl rfl)
theorem dX3_votesOf_17 : decode cX3_votesOf 17 = .ok (.iload_n 3, 1) := dk_29 (dk_at dksX3_votesOf_0 17 rfl rfl)
theorem dX3_votesOf_18 : decode cX3_votesOf 18 = .ok (.ishr, 1) := dk_122 (dk_at dksX3_votesOf_0 18 rfl rfl)
theorem dX3_votesOf_19 : decode cX3_votesOf 19 = .ok (.iconst 1, 1) := dk_4 (dk_at dksX3_votesOf_0 19 rfl rfl)
theorem dX3_votesOf_20 : decode cX3_votesOf 20 = .ok (.iand, 1) := dk_126 (dk_at dksX3_votesOf_0 20 rfl rfl)
theorem dX3_votesOf_21 : decode cX3_votesOf 21 = .ok (.iconst 1, 1) := dk_4 (dk_at dksX3_votesOf_0 21 rfl rfl)
theorem dX3_votesOf_22 : decode cX3_votesOf 22 = .ok (.if_icmp .ne 12, 3) := dk_160 0 12 (dk_at dksX3_votesOf_1 0 rfl rfl)
theorem dX3_votesOf_25 : decode cX3_votesOf 25 = .ok (.aload_n 0, 1) := dk_42 (dk_at dksX3_votesOf_1 3 rfl rfl)
theorem dX3_votesOf_26 : decode cX3_votesOf 26 = .ok (.iload_n 3, 1) := dk_29 (dk_at dksX3_votesOf_1 4 rfl rfl)
theorem dX3_votesOf_27 : decode cX3_votesOf 27 = .ok (.iconst 5, 1) := dk_8 (dk_at dksX3_votesOf_1 5 rfl rfl)
theorem dX3_votesOf_28 : decode cX3_votesOf 28 = .ok (.invokevirtual 313, 3) := dk_182 1 57 (dk_at dksX3_votesOf_1 6 rfl rfl)
theorem dX3_votesOf_31 : decode cX3_votesOf 31 = .ok (.goto 4, 3) := dk_167 0 4 (dk_at dksX3_votesOf_1 9 rfl rfl)
theorem dX3_votesOf_34 : decode cX3_votesOf 34 = .ok (.iconst 0, 1) := dk_3 (dk_at dksX3_votesOf_1 12 rfl rfl)
theorem dX3_votesOf_35 : decode cX3_votesOf 35 = .ok (.iadd, 1) := dk_96 (dk_at dksX3_votesOf_1 13 rfl rfl)
theorem dX3_votesOf_36 : decode cX3_votesOf 36 = .ok (.istore_n 2, 1) := dk_61 (dk_at dksX3_votesOf_1 14 rfl rfl)
theorem dX3_votesOf_37 : decode cX3_votesOf 37 = .ok (.iinc 3 1, 3) := dk_132 3 1 (dk_at dksX3_votesOf_1 15 rfl rfl)
theorem dX3_votesOf_40 : decode cX3_votesOf 40 = .ok (.goto (-36), 3) := dk_167 255 220 (dk_at dksX3_votesOf_1 18 rfl rfl)
theorem dX3_votesOf_43 : decode cX3_votesOf 43 = .ok (.iload_n 2, 1) := dk_28 (dk_at dksX3_votesOf_1 21 rfl rfl)
theorem dX3_votesOf_44 : decode cX3_votesOf 44 = .ok (.ireturn, 1) := dk_172 (dk_at dksX3_votesOf_1 22 rfl rfl)
abbrev cX3_loved : ByteArray := prog_14_method_121_code
def yX3_loved : MethodName := ⟨RX3, "loved", "()I"⟩
def dkwX3_loved_2 : List UInt8 := [163, 0, 6, 167, 0, 8, 21, 4, 61, 29, 60, 132, 3, 1, 167, 255, 221, 27, 172]
abbrev dktX3_loved_2 : List UInt8 := dkwX3_loved_2 ++ []
def dkwX3_loved_1 : List UInt8 := [3, 62, 29, 42, 180, 0, 7, 16, 96, 46, 162, 0, 30, 42, 29, 182, 1, 222, 54, 4, 21, 4, 28]
abbrev dktX3_loved_1 : List UInt8 := dkwX3_loved_1 ++ dktX3_loved_2
def dkwX3_loved_0 : List UInt8 := [3, 60, 27, 7, 162, 0, 16, 42, 180, 0, 61, 27, 3, 79, 132, 1, 1, 167, 255, 241, 2, 60, 3, 61]
abbrev dktX3_loved_0 : List UInt8 := dkwX3_loved_0 ++ dktX3_loved_1
theorem dksX3_loved_0 : cX3_loved.data.toList.drop 0 = dktX3_loved_0 := by decide +kernel
theorem dksX3_loved_1 : cX3_loved.data.toList.drop 24 = dktX3_loved_1 := dk_seg dksX3_loved_0 24 rfl rfl
theorem dksX3_loved_2 : cX3_loved.data.toList.drop 47 = dktX3_loved_2 := dk_seg dksX3_loved_1 23 rfl rfl
theorem dX3_loved_0 : decode cX3_loved 0 = .ok (.iconst 0, 1) := dk_3 (dk_at dksX3_loved_0 0 rfl rfl)
theorem dX3_loved_1 : decode cX3_loved 1 = .ok (.istore_n 1, 1) := dk_60 (dk_at dksX3_loved_0 1 rfl rfl)
theorem dX3_loved_2 : decode cX3_loved 2 = .ok (.iload_n 1, 1) := dk_27 (dk_at dksX3_loved_0 2 rfl rfl)
theorem dX3_loved_3 : decode cX3_loved 3 = .ok (.iconst 4, 1) := dk_7 (dk_at dksX3_loved_0 3 rfl rfl)
theorem dX3_loved_4 : decode cX3_loved 4 = .ok (.if_icmp .ge 16, 3) := dk_162 0 16 (dk_at dksX3_loved_0 4 rfl rfl)
theorem dX3_loved_7 : decode cX3_loved 7 = .ok (.aload_n 0, 1) := dk_42 (dk_at dksX3_loved_0 7 rfl rfl)
theorem dX3_loved_8 : decode cX3_loved 8 = .ok (.getfield 61, 3) := dk_180 0 61 (dk_at dksX3_loved_0 8 rfl rfl)
theorem dX3_loved_11 : decode cX3_loved 11 = .ok (.iload_n 1, 1) := dk_27 (dk_at dksX3_loved_0 11 rfl rfl)
theorem dX3_loved_12 : decode cX3_loved 12 = .ok (.iconst 0, 1) := dk_3 (dk_at dksX3_loved_0 12 rfl rfl)
theorem dX3_loved_13 : decode cX3_loved 13 = .ok (.iastore, 1) := dk_79 (dk_at dksX3_loved_0 13 rfl rfl)
theorem dX3_loved_14 : decode cX3_loved 14 = .ok (.iinc 1 1, 3) := dk_132 1 1 (dk_at dksX3_loved_0 14 rfl rfl)
theorem dX3_loved_17 : decode cX3_loved 17 = .ok (.goto (-15), 3) := dk_167 255 241 (dk_at dksX3_loved_0 17 rfl rfl)
theorem dX3_loved_20 : decode cX3_loved 20 = .ok (.iconst (-1), 1) := dk_2 (dk_at dksX3_loved_0 20 rfl rfl)
theorem dX3_loved_21 : decode cX3_loved 21 = .ok (.istore_n 1, 1) := dk_60 (dk_at dksX3_loved_0 21 rfl rfl)
theorem dX3_loved_22 : decode cX3_loved 22 = .ok (.iconst 0, 1) := dk_3 (dk_at dksX3_loved_0 22 rfl rfl)
theorem dX3_loved_23 : decode cX3_loved 23 = .ok (.istore_n 2, 1) := dk_61 (dk_at dksX3_loved_0 23 rfl rfl)
theorem dX3_loved_24 : decode cX3_loved 24 = .ok (.iconst 0, 1) := dk_3 (dk_at dksX3_loved_1 0 rfl rfl)
theorem dX3_loved_25 : decode cX3_loved 25 = .ok (.istore_n 3, 1) := dk_62 (dk_at dksX3_loved_1 1 rfl rfl)
theorem dX3_loved_26 : decode cX3_loved 26 = .ok (.iload_n 3, 1) := dk_29 (dk_at dksX3_loved_1 2 rfl rfl)
theorem dX3_loved_27 : decode cX3_loved 27 = .ok (.aload_n 0, 1) := dk_42 (dk_at dksX3_loved_1 3 rfl rfl)
theorem dX3_loved_28 : decode cX3_loved 28 = .ok (.getfield 7, 3) := dk_180 0 7 (dk_at dksX3_loved_1 4 rfl rfl)
theorem dX3_loved_31 : decode cX3_loved 31 = .ok (.bipush 96, 2) := dk_16 96 (dk_at dksX3_loved_1 7 rfl rfl)
theorem dX3_loved_33 : decode cX3_loved 33 = .ok (.iaload, 1) := dk_46 (dk_at dksX3_loved_1 9 rfl rfl)
theorem dX3_loved_34 : decode cX3_loved 34 = .ok (.if_icmp .ge 30, 3) := dk_162 0 30 (dk_at dksX3_loved_1 10 rfl rfl)
theorem dX3_loved_37 : decode cX3_loved 37 = .ok (.aload_n 0, 1) := dk_42 (dk_at dksX3_loved_1 13 rfl rfl)
theorem dX3_loved_38 : decode cX3_loved 38 = .ok (.iload_n 3, 1) := dk_29 (dk_at dksX3_loved_1 14 rfl rfl)
theorem dX3_loved_39 : decode cX3_loved 39 = .ok (.invokevirtual 478, 3) := dk_182 1 222 (dk_at dksX3_loved_1 15 rfl rfl)
theorem dX3_loved_42 : decode cX3_loved 42 = .ok (.istore 4, 2) := dk_54 4 (dk_at dksX3_loved_1 18 rfl rfl)
theorem dX3_loved_44 : decode cX3_loved 44 = .ok (.iload 4, 2) := dk_21 4 (dk_at dksX3_loved_1 20 rfl rfl)
theorem dX3_loved_46 : decode cX3_loved 46 = .ok (.iload_n 2, 1) := dk_28 (dk_at dksX3_loved_1 22 rfl rfl)
theorem dX3_loved_47 : decode cX3_loved 47 = .ok (.if_icmp .gt 6, 3) := dk_163 0 6 (dk_at dksX3_loved_2 0 rfl rfl)
theorem dX3_loved_50 : decode cX3_loved 50 = .ok (.goto 8, 3) := dk_167 0 8 (dk_at dksX3_loved_2 3 rfl rfl)
theorem dX3_loved_53 : decode cX3_loved 53 = .ok (.iload 4, 2) := dk_21 4 (dk_at dksX3_loved_2 6 rfl rfl)
theorem dX3_loved_55 : decode cX3_loved 55 = .ok (.istore_n 2, 1) := dk_61 (dk_at dksX3_loved_2 8 rfl rfl)
theorem dX3_loved_56 : decode cX3_loved 56 = .ok (.iload_n 3, 1) := dk_29 (dk_at dksX3_loved_2 9 rfl rfl)
theorem dX3_loved_57 : decode cX3_loved 57 = .ok (.istore_n 1, 1) := dk_60 (dk_at dksX3_loved_2 10 rfl rfl)
theorem dX3_loved_58 : decode cX3_loved 58 = .ok (.iinc 3 1, 3) := dk_132 3 1 (dk_at dksX3_loved_2 11 rfl rfl)
theorem dX3_loved_61 : decode cX3_loved 61 = .ok (.goto (-35), 3) := dk_167 255 221 (dk_at dksX3_loved_2 14 rfl rfl)
theorem dX3_loved_64 : decode cX3_loved 64 = .ok (.iload_n 1, 1) := dk_27 (dk_at dksX3_loved_2 17 rfl rfl)
theorem dX3_loved_65 : decode cX3_loved 65 = .ok (.ireturn, 1) := dk_172 (dk_at dksX3_loved_2 18 rfl rfl)
abbrev cX3_loversOf : ByteArray := prog_14_method_120_code
def yX3_loversOf : MethodName := ⟨RX3, "loversOf", "(I)I"⟩
def dkwX3_loversOf_1 : List UInt8 := [160, 0, 7, 4, 167, 0, 4, 3, 96, 61, 132, 3, 1, 167, 255, 225, 28, 172]
abbrev dktX3_loversOf_1 : List UInt8 := dkwX3_loversOf_1 ++ []
def dkwX3_loversOf_0 : List UInt8 := [3, 61, 3, 62, 29, 42, 180, 0, 7, 16, 97, 46, 162, 0, 26, 28, 42, 29, 182, 1, 212, 27]
abbrev dktX3_loversOf_0 : List UInt8 := dkwX3_loversOf_0 ++ dktX3_loversOf_1
theorem dksX3_loversOf_0 : cX3_loversOf.data.toList.drop 0 = dktX3_loversOf_0 := by decide +kernel
theorem dksX3_loversOf_1 : cX3_loversOf.data.toList.drop 22 = dktX3_loversOf_1 := dk_seg dksX3_loversOf_0 22 rfl rfl
theorem dX3_loversOf_0 : decode cX3_loversOf 0 = .ok (.iconst 0, 1) := dk_3 (dk_at dksX3_loversOf_0 0 rfl rfl)
theorem dX3_loversOf_1 : decode cX3_loversOf 1 = .ok (.istore_n 2, 1) := dk_61 (dk_at dksX3_loversOf_0 1 rfl rfl)
theorem dX3_loversOf_2 : decode cX3_loversOf 2 = .ok (.iconst 0, 1) := dk_3 (dk_at dksX3_loversOf_0 2 rfl rfl)
theorem dX3_loversOf_3 : decode cX3_loversOf 3 = .ok (.istore_n 3, 1) := dk_62 (dk_at dksX3_loversOf_0 3 rfl rfl)
theorem dX3_loversOf_4 : decode cX3_loversOf 4 = .ok (.iload_n 3, 1) := dk_29 (dk_at dksX3_loversOf_0 4 rfl rfl)
theorem dX3_loversOf_5 : decode cX3_loversOf 5 = .ok (.aload_n 0, 1) := dk_42 (dk_at dksX3_loversOf_0 5 rfl rfl)
theorem dX3_loversOf_6 : decode cX3_loversOf 6 = .ok (.getfield 7, 3) := dk_180 0 7 (dk_at dksX3_loversOf_0 6 rfl rfl)
theorem dX3_loversOf_9 : decode cX3_loversOf 9 = .ok (.bipush 97, 2) := dk_16 97 (dk_at dksX3_loversOf_0 9 rfl rfl)
theorem dX3_loversOf_11 : decode cX3_loversOf 11 = .ok (.iaload, 1) := dk_46 (dk_at dksX3_loversOf_0 11 rfl rfl)
theorem dX3_loversOf_12 : decode cX3_loversOf 12 = .ok (.if_icmp .ge 26, 3) := dk_162 0 26 (dk_at dksX3_loversOf_0 12 rfl rfl)
theorem dX3_loversOf_15 : decode cX3_loversOf 15 = .ok (.iload_n 2, 1) := dk_28 (dk_at dksX3_loversOf_0 15 rfl rfl)
theorem dX3_loversOf_16 : decode cX3_loversOf 16 = .ok (.aload_n 0, 1) := dk_42 (dk_at dksX3_loversOf_0 16 rfl rfl)
theorem dX3_loversOf_17 : decode cX3_loversOf 17 = .ok (.iload_n 3, 1) := dk_29 (dk_at dksX3_loversOf_0 17 rfl rfl)
theorem dX3_loversOf_18 : decode cX3_loversOf 18 = .ok (.invokevirtual 468, 3) := dk_182 1 212 (dk_at dksX3_loversOf_0 18 rfl rfl)
theorem dX3_loversOf_21 : decode cX3_loversOf 21 = .ok (.iload_n 1, 1) := dk_27 (dk_at dksX3_loversOf_0 21 rfl rfl)
theorem dX3_loversOf_22 : decode cX3_loversOf 22 = .ok (.if_icmp .ne 7, 3) := dk_160 0 7 (dk_at dksX3_loversOf_1 0 rfl rfl)
theorem dX3_loversOf_25 : decode cX3_loversOf 25 = .ok (.iconst 1, 1) := dk_4 (dk_at dksX3_loversOf_1 3 rfl rfl)
theorem dX3_loversOf_26 : decode cX3_loversOf 26 = .ok (.goto 4, 3) := dk_167 0 4 (dk_at dksX3_loversOf_1 4 rfl rfl)
theorem dX3_loversOf_29 : decode cX3_loversOf 29 = .ok (.iconst 0, 1) := dk_3 (dk_at dksX3_loversOf_1 7 rfl rfl)
theorem dX3_loversOf_30 : decode cX3_loversOf 30 = .ok (.iadd, 1) := dk_96 (dk_at dksX3_loversOf_1 8 rfl rfl)
theorem dX3_loversOf_31 : decode cX3_loversOf 31 = .ok (.istore_n 2, 1) := dk_61 (dk_at dksX3_loversOf_1 9 rfl rfl)
theorem dX3_loversOf_32 : decode cX3_loversOf 32 = .ok (.iinc 3 1, 3) := dk_132 3 1 (dk_at dksX3_loversOf_1 10 rfl rfl)
theorem dX3_loversOf_35 : decode cX3_loversOf 35 = .ok (.goto (-31), 3) := dk_167 255 225 (dk_at dksX3_loversOf_1 13 rfl rfl)
theorem dX3_loversOf_38 : decode cX3_loversOf 38 = .ok (.iload_n 2, 1) := dk_28 (dk_at dksX3_loversOf_1 16 rfl rfl)
theorem dX3_loversOf_39 : decode cX3_loversOf 39 = .ok (.ireturn, 1) := dk_172 (dk_at dksX3_loversOf_1 17 rfl rfl)
abbrev cX3_bestTool : ByteArray := prog_14_method_116_code
def yX3_bestTool : MethodName := ⟨RX3, "bestTool", "(I)I"⟩
def dkwX3_bestTool_2 : List UInt8 := [42, 28, 6, 182, 1, 57, 164, 0, 5, 29, 61, 132, 3, 1, 167, 255, 198, 28, 172]
abbrev dktX3_bestTool_2 : List UInt8 := dkwX3_bestTool_2 ++ []
def dkwX3_bestTool_1 : List UInt8 := [126, 154, 0, 34, 42, 29, 27, 182, 1, 105, 153, 0, 25, 28, 2, 159, 0, 18, 42, 29, 6, 182, 1, 57]
abbrev dktX3_bestTool_1 : List UInt8 := dkwX3_bestTool_1 ++ dktX3_bestTool_2
def dkwX3_bestTool_0 : List UInt8 := [2, 61, 3, 62, 29, 42, 180, 0, 7, 16, 96, 46, 162, 0, 53, 42, 180, 0, 61, 27, 46, 29, 122, 4]
abbrev dktX3_bestTool_0 : List UInt8 := dkwX3_bestTool_0 ++ dktX3_bestTool_1
theorem dksX3_bestTool_0 : cX3_bestTool.data.toList.drop 0 = dktX3_bestTool_0 := by decide +kernel
theorem dksX3_bestTool_1 : cX3_bestTool.data.toList.drop 24 = dktX3_bestTool_1 := dk_seg dksX3_bestTool_0 24 rfl rfl
theorem dksX3_bestTool_2 : cX3_bestTool.data.toList.drop 48 = dktX3_bestTool_2 := dk_seg dksX3_bestTool_1 24 rfl rfl
theorem dX3_bestTool_0 : decode cX3_bestTool 0 = .ok (.iconst (-1), 1) := dk_2 (dk_at dksX3_bestTool_0 0 rfl rfl)
theorem dX3_bestTool_1 : decode cX3_bestTool 1 = .ok (.istore_n 2, 1) := dk_61 (dk_at dksX3_bestTool_0 1 rfl rfl)
theorem dX3_bestTool_2 : decode cX3_bestTool 2 = .ok (.iconst 0, 1) := dk_3 (dk_at dksX3_bestTool_0 2 rfl rfl)
theorem dX3_bestTool_3 : decode cX3_bestTool 3 = .ok (.istore_n 3, 1) := dk_62 (dk_at dksX3_bestTool_0 3 rfl rfl)
theorem dX3_bestTool_4 : decode cX3_bestTool 4 = .ok (.iload_n 3, 1) := dk_29 (dk_at dksX3_bestTool_0 4 rfl rfl)
theorem dX3_bestTool_5 : decode cX3_bestTool 5 = .ok (.aload_n 0, 1) := dk_42 (dk_at dksX3_bestTool_0 5 rfl rfl)
theorem dX3_bestTool_6 : decode cX3_bestTool 6 = .ok (.getfield 7, 3) := dk_180 0 7 (dk_at dksX3_bestTool_0 6 rfl rfl)
theorem dX3_bestTool_9 : decode cX3_bestTool 9 = .ok (.bipush 96, 2) := dk_16 96 (dk_at dksX3_bestTool_0 9 rfl rfl)
theorem dX3_bestTool_11 : decode cX3_bestTool 11 = .ok (.iaload, 1) := dk_46 (dk_at dksX3_bestTool_0 11 rfl rfl)
theorem dX3_bestTool_12 : decode cX3_bestTool 12 = .ok (.if_icmp .ge 53, 3) := dk_162 0 53 (dk_at dksX3_bestTool_0 12 rfl rfl)
theorem dX3_bestTool_15 : decode cX3_bestTool 15 = .ok (.aload_n 0, 1) := dk_42 (dk_at dksX3_bestTool_0 15 rfl rfl)
theorem dX3_bestTool_16 : decode cX3_bestTool 16 = .ok (.getfield 61, 3) := dk_180 0 61 (dk_at dksX3_bestTool_0 16 rfl rfl)
theorem dX3_bestTool_19 : decode cX3_bestTool 19 = .ok (.iload_n 1, 1) := dk_27 (dk_at dksX3_bestTool_0 19 rfl rfl)
theorem dX3_bestTool_20 : decode cX3_bestTool 20 = .ok (.iaload, 1) := dk_46 (dk_at dksX3_bestTool_0 20 rfl rfl)
theorem dX3_bestTool_21 : decode cX3_bestTool 21 = .ok (.iload_n 3, 1) := dk_29 (dk_at dksX3_bestTool_0 21 rfl rfl)
theorem dX3_bestTool_22 : decode cX3_bestTool 22 = .ok (.ishr, 1) := dk_122 (dk_at dksX3_bestTool_0 22 rfl rfl)
theorem dX3_bestTool_23 : decode cX3_bestTool 23 = .ok (.iconst 1, 1) := dk_4 (dk_at dksX3_bestTool_0 23 rfl rfl)
theorem dX3_bestTool_24 : decode cX3_bestTool 24 = .ok (.iand, 1) := dk_126 (dk_at dksX3_bestTool_1 0 rfl rfl)
theorem dX3_bestTool_25 : decode cX3_bestTool 25 = .ok (.ifCond .ne 34, 3) := dk_154 0 34 (dk_at dksX3_bestTool_1 1 rfl rfl)
theorem dX3_bestTool_28 : decode cX3_bestTool 28 = .ok (.aload_n 0, 1) := dk_42 (dk_at dksX3_bestTool_1 4 rfl rfl)
theorem dX3_bestTool_29 : decode cX3_bestTool 29 = .ok (.iload_n 3, 1) := dk_29 (dk_at dksX3_bestTool_1 5 rfl rfl)
theorem dX3_bestTool_30 : decode cX3_bestTool 30 = .ok (.iload_n 1, 1) := dk_27 (dk_at dksX3_bestTool_1 6 rfl rfl)
theorem dX3_bestTool_31 : decode cX3_bestTool 31 = .ok (.invokevirtual 361, 3) := dk_182 1 105 (dk_at dksX3_bestTool_1 7 rfl rfl)
theorem dX3_bestTool_34 : decode cX3_bestTool 34 = .ok (.ifCond .eq 25, 3) := dk_153 0 25 (dk_at dksX3_bestTool_1 10 rfl rfl)
theorem dX3_bestTool_37 : decode cX3_bestTool 37 = .ok (.iload_n 2, 1) := dk_28 (dk_at dksX3_bestTool_1 13 rfl rfl)
theorem dX3_bestTool_38 : decode cX3_bestTool 38 = .ok (.iconst (-1), 1) := dk_2 (dk_at dksX3_bestTool_1 14 rfl rfl)
theorem dX3_bestTool_39 : decode cX3_bestTool 39 = .ok (.if_icmp .eq 18, 3) := dk_159 0 18 (dk_at dksX3_bestTool_1 15 rfl rfl)
theorem dX3_bestTool_42 : decode cX3_bestTool 42 = .ok (.aload_n 0, 1) := dk_42 (dk_at dksX3_bestTool_1 18 rfl rfl)
theorem dX3_bestTool_43 : decode cX3_bestTool 43 = .ok (.iload_n 3, 1) := dk_29 (dk_at dksX3_bestTool_1 19 rfl rfl)
theorem dX3_bestTool_44 : decode cX3_bestTool 44 = .ok (.iconst 3, 1) := dk_6 (dk_at dksX3_bestTool_1 20 rfl rfl)
theorem dX3_bestTool_45 : decode cX3_bestTool 45 = .ok (.invokevirtual 313, 3) := dk_182 1 57 (dk_at dksX3_bestTool_1 21 rfl rfl)
theorem dX3_bestTool_48 : decode cX3_bestTool 48 = .ok (.aload_n 0, 1) := dk_42 (dk_at dksX3_bestTool_2 0 rfl rfl)
theorem dX3_bestTool_49 : decode cX3_bestTool 49 = .ok (.iload_n 2, 1) := dk_28 (dk_at dksX3_bestTool_2 1 rfl rfl)
theorem dX3_bestTool_50 : decode cX3_bestTool 50 = .ok (.iconst 3, 1) := dk_6 (dk_at dksX3_bestTool_2 2 rfl rfl)
theorem dX3_bestTool_51 : decode cX3_bestTool 51 = .ok (.invokevirtual 313, 3) := dk_182 1 57 (dk_at dksX3_bestTool_2 3 rfl rfl)
theorem dX3_bestTool_54 : decode cX3_bestTool 54 = .ok (.if_icmp .le 5, 3) := dk_164 0 5 (dk_at dksX3_bestTool_2 6 rfl rfl)
theorem dX3_bestTool_57 : decode cX3_bestTool 57 = .ok (.iload_n 3, 1) := dk_29 (dk_at dksX3_bestTool_2 9 rfl rfl)
theorem dX3_bestTool_58 : decode cX3_bestTool 58 = .ok (.istore_n 2, 1) := dk_61 (dk_at dksX3_bestTool_2 10 rfl rfl)
theorem dX3_bestTool_59 : decode cX3_bestTool 59 = .ok (.iinc 3 1, 3) := dk_132 3 1 (dk_at dksX3_bestTool_2 11 rfl rfl)
theorem dX3_bestTool_62 : decode cX3_bestTool 62 = .ok (.goto (-58), 3) := dk_167 255 198 (dk_at dksX3_bestTool_2 14 rfl rfl)
theorem dX3_bestTool_65 : decode cX3_bestTool 65 = .ok (.iload_n 2, 1) := dk_28 (dk_at dksX3_bestTool_2 17 rfl rfl)
theorem dX3_bestTool_66 : decode cX3_bestTool 66 = .ok (.ireturn, 1) := dk_172 (dk_at dksX3_bestTool_2 18 rfl rfl)
abbrev cX3_seen : ByteArray := prog_14_method_123_code
def yX3_seen : MethodName := ⟨RX3, "seen", "(II)I"⟩
def dkwX3_seen_4 : List UInt8 := [4, 96, 79, 42, 180, 0, 7, 16, 104, 46, 172]
abbrev dktX3_seen_4 : List UInt8 := dkwX3_seen_4 ++ []
def dkwX3_seen_3 : List UInt8 := [16, 105, 5, 42, 180, 0, 7, 16, 104, 46, 104, 96, 4, 96, 28, 79, 42, 180, 0, 7, 16, 104, 92, 46]
abbrev dktX3_seen_3 : List UInt8 := dkwX3_seen_3 ++ dktX3_seen_4
def dkwX3_seen_2 : List UInt8 := [2, 172, 42, 180, 0, 7, 16, 105, 5, 42, 180, 0, 7, 16, 104, 46, 104, 96, 27, 79, 42, 180, 0, 7]
abbrev dktX3_seen_2 : List UInt8 := dkwX3_seen_2 ++ dktX3_seen_3
def dkwX3_seen_1 : List UInt8 := [28, 182, 1, 225, 153, 0, 20, 27, 28, 159, 0, 15, 42, 180, 0, 7, 16, 104, 46, 16, 12, 160, 0, 5]
abbrev dktX3_seen_1 : List UInt8 := dkwX3_seen_1 ++ dktX3_seen_2
def dkwX3_seen_0 : List UInt8 := [27, 2, 160, 0, 13, 42, 180, 0, 7, 16, 104, 3, 79, 3, 172, 42, 27, 182, 1, 225, 153, 0, 28, 42]
abbrev dktX3_seen_0 : List UInt8 := dkwX3_seen_0 ++ dktX3_seen_1
theorem dksX3_seen_0 : cX3_seen.data.toList.drop 0 = dktX3_seen_0 := by decide +kernel
theorem dksX3_seen_1 : cX3_seen.data.toList.drop 24 = dktX3_seen_1 := dk_seg dksX3_seen_0 24 rfl rfl
theorem dksX3_seen_2 : cX3_seen.data.toList.drop 48 = dktX3_seen_2 := dk_seg dksX3_seen_1 24 rfl rfl
theorem dksX3_seen_3 : cX3_seen.data.toList.drop 72 = dktX3_seen_3 := dk_seg dksX3_seen_2 24 rfl rfl
theorem dksX3_seen_4 : cX3_seen.data.toList.drop 96 = dktX3_seen_4 := dk_seg dksX3_seen_3 24 rfl rfl
theorem dX3_seen_0 : decode cX3_seen 0 = .ok (.iload_n 1, 1) := dk_27 (dk_at dksX3_seen_0 0 rfl rfl)
theorem dX3_seen_1 : decode cX3_seen 1 = .ok (.iconst (-1), 1) := dk_2 (dk_at dksX3_seen_0 1 rfl rfl)
theorem dX3_seen_2 : decode cX3_seen 2 = .ok (.if_icmp .ne 13, 3) := dk_160 0 13 (dk_at dksX3_seen_0 2 rfl rfl)
theorem dX3_seen_5 : decode cX3_seen 5 = .ok (.aload_n 0, 1) := dk_42 (dk_at dksX3_seen_0 5 rfl rfl)
theorem dX3_seen_6 : decode cX3_seen 6 = .ok (.getfield 7, 3) := dk_180 0 7 (dk_at dksX3_seen_0 6 rfl rfl)
theorem dX3_seen_9 : decode cX3_seen 9 = .ok (.bipush 104, 2) := dk_16 104 (dk_at dksX3_seen_0 9 rfl rfl)
theorem dX3_seen_11 : decode cX3_seen 11 = .ok (.iconst 0, 1) := dk_3 (dk_at dksX3_seen_0 11 rfl rfl)
theorem dX3_seen_12 : decode cX3_seen 12 = .ok (.iastore, 1) := dk_79 (dk_at dksX3_seen_0 12 rfl rfl)
theorem dX3_seen_13 : decode cX3_seen 13 = .ok (.iconst 0, 1) := dk_3 (dk_at dksX3_seen_0 13 rfl rfl)
theorem dX3_seen_14 : decode cX3_seen 14 = .ok (.ireturn, 1) := dk_172 (dk_at dksX3_seen_0 14 rfl rfl)
theorem dX3_seen_15 : decode cX3_seen 15 = .ok (.aload_n 0, 1) := dk_42 (dk_at dksX3_seen_0 15 rfl rfl)
theorem dX3_seen_16 : decode cX3_seen 16 = .ok (.iload_n 1, 1) := dk_27 (dk_at dksX3_seen_0 16 rfl rfl)
theorem dX3_seen_17 : decode cX3_seen 17 = .ok (.invokevirtual 481, 3) := dk_182 1 225 (dk_at dksX3_seen_0 17 rfl rfl)
theorem dX3_seen_20 : decode cX3_seen 20 = .ok (.ifCond .eq 28, 3) := dk_153 0 28 (dk_at dksX3_seen_0 20 rfl rfl)
theorem dX3_seen_23 : decode cX3_seen 23 = .ok (.aload_n 0, 1) := dk_42 (dk_at dksX3_seen_0 23 rfl rfl)
theorem dX3_seen_24 : decode cX3_seen 24 = .ok (.iload_n 2, 1) := dk_28 (dk_at dksX3_seen_1 0 rfl rfl)
theorem dX3_seen_25 : decode cX3_seen 25 = .ok (.invokevirtual 481, 3) := dk_182 1 225 (dk_at dksX3_seen_1 1 rfl rfl)
theorem dX3_seen_28 : decode cX3_seen 28 = .ok (.ifCond .eq 20, 3) := dk_153 0 20 (dk_at dksX3_seen_1 4 rfl rfl)
theorem dX3_seen_31 : decode cX3_seen 31 = .ok (.iload_n 1, 1) := dk_27 (dk_at dksX3_seen_1 7 rfl rfl)
theorem dX3_seen_32 : decode cX3_seen 32 = .ok (.iload_n 2, 1) := dk_28 (dk_at dksX3_seen_1 8 rfl rfl)
theorem dX3_seen_33 : decode cX3_seen 33 = .ok (.if_icmp .eq 15, 3) := dk_159 0 15 (dk_at dksX3_seen_1 9 rfl rfl)
theorem dX3_seen_36 : decode cX3_seen 36 = .ok (.aload_n 0, 1) := dk_42 (dk_at dksX3_seen_1 12 rfl rfl)
theorem dX3_seen_37 : decode cX3_seen 37 = .ok (.getfield 7, 3) := dk_180 0 7 (dk_at dksX3_seen_1 13 rfl rfl)
theorem dX3_seen_40 : decode cX3_seen 40 = .ok (.bipush 104, 2) := dk_16 104 (dk_at dksX3_seen_1 16 rfl rfl)
theorem dX3_seen_42 : decode cX3_seen 42 = .ok (.iaload, 1) := dk_46 (dk_at dksX3_seen_1 18 rfl rfl)
theorem dX3_seen_43 : decode cX3_seen 43 = .ok (.bipush 12, 2) := dk_16 12 (dk_at dksX3_seen_1 19 rfl rfl)
theorem dX3_seen_45 : decode cX3_seen 45 = .ok (.if_icmp .ne 5, 3) := dk_160 0 5 (dk_at dksX3_seen_1 21 rfl rfl)
theorem dX3_seen_48 : decode cX3_seen 48 = .ok (.iconst (-1), 1) := dk_2 (dk_at dksX3_seen_2 0 rfl rfl)
theorem dX3_seen_49 : decode cX3_seen 49 = .ok (.ireturn, 1) := dk_172 (dk_at dksX3_seen_2 1 rfl rfl)
theorem dX3_seen_50 : decode cX3_seen 50 = .ok (.aload_n 0, 1) := dk_42 (dk_at dksX3_seen_2 2 rfl rfl)
theorem dX3_seen_51 : decode cX3_seen 51 = .ok (.getfield 7, 3) := dk_180 0 7 (dk_at dksX3_seen_2 3 rfl rfl)
theorem dX3_seen_54 : decode cX3_seen 54 = .ok (.bipush 105, 2) := dk_16 105 (dk_at dksX3_seen_2 6 rfl rfl)
theorem dX3_seen_56 : decode cX3_seen 56 = .ok (.iconst 2, 1) := dk_5 (dk_at dksX3_seen_2 8 rfl rfl)
theorem dX3_seen_57 : decode cX3_seen 57 = .ok (.aload_n 0, 1) := dk_42 (dk_at dksX3_seen_2 9 rfl rfl)
theorem dX3_seen_58 : decode cX3_seen 58 = .ok (.getfield 7, 3) := dk_180 0 7 (dk_at dksX3_seen_2 10 rfl rfl)
theorem dX3_seen_61 : decode cX3_seen 61 = .ok (.bipush 104, 2) := dk_16 104 (dk_at dksX3_seen_2 13 rfl rfl)
theorem dX3_seen_63 : decode cX3_seen 63 = .ok (.iaload, 1) := dk_46 (dk_at dksX3_seen_2 15 rfl rfl)
theorem dX3_seen_64 : decode cX3_seen 64 = .ok (.imul, 1) := dk_104 (dk_at dksX3_seen_2 16 rfl rfl)
theorem dX3_seen_65 : decode cX3_seen 65 = .ok (.iadd, 1) := dk_96 (dk_at dksX3_seen_2 17 rfl rfl)
theorem dX3_seen_66 : decode cX3_seen 66 = .ok (.iload_n 1, 1) := dk_27 (dk_at dksX3_seen_2 18 rfl rfl)
theorem dX3_seen_67 : decode cX3_seen 67 = .ok (.iastore, 1) := dk_79 (dk_at dksX3_seen_2 19 rfl rfl)
theorem dX3_seen_68 : decode cX3_seen 68 = .ok (.aload_n 0, 1) := dk_42 (dk_at dksX3_seen_2 20 rfl rfl)
theorem dX3_seen_69 : decode cX3_seen 69 = .ok (.getfield 7, 3) := dk_180 0 7 (dk_at dksX3_seen_2 21 rfl rfl)
theorem dX3_seen_72 : decode cX3_seen 72 = .ok (.bipush 105, 2) := dk_16 105 (dk_at dksX3_seen_3 0 rfl rfl)
theorem dX3_seen_74 : decode cX3_seen 74 = .ok (.iconst 2, 1) := dk_5 (dk_at dksX3_seen_3 2 rfl rfl)
theorem dX3_seen_75 : decode cX3_seen 75 = .ok (.aload_n 0, 1) := dk_42 (dk_at dksX3_seen_3 3 rfl rfl)
theorem dX3_seen_76 : decode cX3_seen 76 = .ok (.getfield 7, 3) := dk_180 0 7 (dk_at dksX3_seen_3 4 rfl rfl)
theorem dX3_seen_79 : decode cX3_seen 79 = .ok (.bipush 104, 2) := dk_16 104 (dk_at dksX3_seen_3 7 rfl rfl)
theorem dX3_seen_81 : decode cX3_seen 81 = .ok (.iaload, 1) := dk_46 (dk_at dksX3_seen_3 9 rfl rfl)
theorem dX3_seen_82 : decode cX3_seen 82 = .ok (.imul, 1) := dk_104 (dk_at dksX3_seen_3 10 rfl rfl)
theorem dX3_seen_83 : decode cX3_seen 83 = .ok (.iadd, 1) := dk_96 (dk_at dksX3_seen_3 11 rfl rfl)
theorem dX3_seen_84 : decode cX3_seen 84 = .ok (.iconst 1, 1) := dk_4 (dk_at dksX3_seen_3 12 rfl rfl)
theorem dX3_seen_85 : decode cX3_seen 85 = .ok (.iadd, 1) := dk_96 (dk_at dksX3_seen_3 13 rfl rfl)
theorem dX3_seen_86 : decode cX3_seen 86 = .ok (.iload_n 2, 1) := dk_28 (dk_at dksX3_seen_3 14 rfl rfl)
theorem dX3_seen_87 : decode cX3_seen 87 = .ok (.iastore, 1) := dk_79 (dk_at dksX3_seen_3 15 rfl rfl)
theorem dX3_seen_88 : decode cX3_seen 88 = .ok (.aload_n 0, 1) := dk_42 (dk_at dksX3_seen_3 16 rfl rfl)
theorem dX3_seen_89 : decode cX3_seen 89 = .ok (.getfield 7, 3) := dk_180 0 7 (dk_at dksX3_seen_3 17 rfl rfl)
theorem dX3_seen_92 : decode cX3_seen 92 = .ok (.bipush 104, 2) := dk_16 104 (dk_at dksX3_seen_3 20 rfl rfl)
theorem dX3_seen_94 : decode cX3_seen 94 = .ok (.dup2, 1) := dk_92 (dk_at dksX3_seen_3 22 rfl rfl)
theorem dX3_seen_95 : decode cX3_seen 95 = .ok (.iaload, 1) := dk_46 (dk_at dksX3_seen_3 23 rfl rfl)
theorem dX3_seen_96 : decode cX3_seen 96 = .ok (.iconst 1, 1) := dk_4 (dk_at dksX3_seen_4 0 rfl rfl)
theorem dX3_seen_97 : decode cX3_seen 97 = .ok (.iadd, 1) := dk_96 (dk_at dksX3_seen_4 1 rfl rfl)
theorem dX3_seen_98 : decode cX3_seen 98 = .ok (.iastore, 1) := dk_79 (dk_at dksX3_seen_4 2 rfl rfl)
theorem dX3_seen_99 : decode cX3_seen 99 = .ok (.aload_n 0, 1) := dk_42 (dk_at dksX3_seen_4 3 rfl rfl)
theorem dX3_seen_100 : decode cX3_seen 100 = .ok (.getfield 7, 3) := dk_180 0 7 (dk_at dksX3_seen_4 4 rfl rfl)
theorem dX3_seen_103 : decode cX3_seen 103 = .ok (.bipush 104, 2) := dk_16 104 (dk_at dksX3_seen_4 7 rfl rfl)
theorem dX3_seen_105 : decode cX3_seen 105 = .ok (.iaload, 1) := dk_46 (dk_at dksX3_seen_4 9 rfl rfl)
theorem dX3_seen_106 : decode cX3_seen 106 = .ok (.ireturn, 1) := dk_172 (dk_at dksX3_seen_4 10 rfl rfl)
abbrev cX3_isWork : ByteArray := prog_14_method_8_code
def yX3_isWork : MethodName := ⟨RX3, "isWork", "(I)Z"⟩
def dkwX3_isWork_0 : List UInt8 := [27, 3, 42, 180, 0, 7, 16, 98, 46, 4, 100, 184, 0, 77, 172]
abbrev dktX3_isWork_0 : List UInt8 := dkwX3_isWork_0 ++ []
theorem dksX3_isWork_0 : cX3_isWork.data.toList.drop 0 = dktX3_isWork_0 := by decide +kernel
theorem dX3_isWork_0 : decode cX3_isWork 0 = .ok (.iload_n 1, 1) := dk_27 (dk_at dksX3_isWork_0 0 rfl rfl)
theorem dX3_isWork_1 : decode cX3_isWork 1 = .ok (.iconst 0, 1) := dk_3 (dk_at dksX3_isWork_0 1 rfl rfl)
theorem dX3_isWork_2 : decode cX3_isWork 2 = .ok (.aload_n 0, 1) := dk_42 (dk_at dksX3_isWork_0 2 rfl rfl)
theorem dX3_isWork_3 : decode cX3_isWork 3 = .ok (.getfield 7, 3) := dk_180 0 7 (dk_at dksX3_isWork_0 3 rfl rfl)
theorem dX3_isWork_6 : decode cX3_isWork 6 = .ok (.bipush 98, 2) := dk_16 98 (dk_at dksX3_isWork_0 6 rfl rfl)
theorem dX3_isWork_8 : decode cX3_isWork 8 = .ok (.iaload, 1) := dk_46 (dk_at dksX3_isWork_0 8 rfl rfl)
theorem dX3_isWork_9 : decode cX3_isWork 9 = .ok (.iconst 1, 1) := dk_4 (dk_at dksX3_isWork_0 9 rfl rfl)
theorem dX3_isWork_10 : decode cX3_isWork 10 = .ok (.isub, 1) := dk_100 (dk_at dksX3_isWork_0 10 rfl rfl)
theorem dX3_isWork_11 : decode cX3_isWork 11 = .ok (.invokestatic 77, 3) := dk_184 0 77 (dk_at dksX3_isWork_0 11 rfl rfl)
theorem dX3_isWork_14 : decode cX3_isWork 14 = .ok (.ireturn, 1) := dk_172 (dk_at dksX3_isWork_0 14 rfl rfl)
abbrev cX3_orders : ByteArray := prog_14_method_127_code
def yX3_orders : MethodName := ⟨RX3, "orders", "(I)I"⟩
def dkwX3_orders_3 : List UInt8 := [62, 28, 4, 29, 120, 128, 61, 132, 4, 1, 167, 255, 235, 29, 172]
abbrev dktX3_orders_3 : List UInt8 := dkwX3_orders_3 ++ []
def dkwX3_orders_2 : List UInt8 := [154, 0, 5, 2, 172, 3, 61, 2, 62, 16, 10, 54, 4, 21, 4, 27, 163, 0, 21, 42, 28, 182, 1, 234]
abbrev dktX3_orders_2 : List UInt8 := dkwX3_orders_2 ++ dktX3_orders_3
def dkwX3_orders_1 : List UInt8 := [172, 42, 182, 1, 231, 27, 154, 0, 10, 42, 180, 0, 67, 3, 46, 172, 42, 180, 0, 67, 3, 46]
abbrev dktX3_orders_1 : List UInt8 := dkwX3_orders_1 ++ dktX3_orders_2
def dkwX3_orders_0 : List UInt8 := [27, 153, 0, 24, 27, 16, 10, 16, 9, 42, 180, 0, 7, 16, 98, 46, 96, 184, 0, 77, 154, 0, 5, 2]
abbrev dktX3_orders_0 : List UInt8 := dkwX3_orders_0 ++ dktX3_orders_1
theorem dksX3_orders_0 : cX3_orders.data.toList.drop 0 = dktX3_orders_0 := by decide +kernel
theorem dksX3_orders_1 : cX3_orders.data.toList.drop 24 = dktX3_orders_1 := dk_seg dksX3_orders_0 24 rfl rfl
theorem dksX3_orders_2 : cX3_orders.data.toList.drop 46 = dktX3_orders_2 := dk_seg dksX3_orders_1 22 rfl rfl
theorem dksX3_orders_3 : cX3_orders.data.toList.drop 70 = dktX3_orders_3 := dk_seg dksX3_orders_2 24 rfl rfl
theorem dX3_orders_0 : decode cX3_orders 0 = .ok (.iload_n 1, 1) := dk_27 (dk_at dksX3_orders_0 0 rfl rfl)
theorem dX3_orders_1 : decode cX3_orders 1 = .ok (.ifCond .eq 24, 3) := dk_153 0 24 (dk_at dksX3_orders_0 1 rfl rfl)
theorem dX3_orders_4 : decode cX3_orders 4 = .ok (.iload_n 1, 1) := dk_27 (dk_at dksX3_orders_0 4 rfl rfl)
theorem dX3_orders_5 : decode cX3_orders 5 = .ok (.bipush 10, 2) := dk_16 10 (dk_at dksX3_orders_0 5 rfl rfl)
theorem dX3_orders_7 : decode cX3_orders 7 = .ok (.bipush 9, 2) := dk_16 9 (dk_at dksX3_orders_0 7 rfl rfl)
theorem dX3_orders_9 : decode cX3_orders 9 = .ok (.aload_n 0, 1) := dk_42 (dk_at dksX3_orders_0 9 rfl rfl)
theorem dX3_orders_10 : decode cX3_orders 10 = .ok (.getfield 7, 3) := dk_180 0 7 (dk_at dksX3_orders_0 10 rfl rfl)
theorem dX3_orders_13 : decode cX3_orders 13 = .ok (.bipush 98, 2) := dk_16 98 (dk_at dksX3_orders_0 13 rfl rfl)
theorem dX3_orders_15 : decode cX3_orders 15 = .ok (.iaload, 1) := dk_46 (dk_at dksX3_orders_0 15 rfl rfl)
theorem dX3_orders_16 : decode cX3_orders 16 = .ok (.iadd, 1) := dk_96 (dk_at dksX3_orders_0 16 rfl rfl)
theorem dX3_orders_17 : decode cX3_orders 17 = .ok (.invokestatic 77, 3) := dk_184 0 77 (dk_at dksX3_orders_0 17 rfl rfl)
theorem dX3_orders_20 : decode cX3_orders 20 = .ok (.ifCond .ne 5, 3) := dk_154 0 5 (dk_at dksX3_orders_0 20 rfl rfl)
theorem dX3_orders_23 : decode cX3_orders 23 = .ok (.iconst (-1), 1) := dk_2 (dk_at dksX3_orders_0 23 rfl rfl)
theorem dX3_orders_24 : decode cX3_orders 24 = .ok (.ireturn, 1) := dk_172 (dk_at dksX3_orders_1 0 rfl rfl)
theorem dX3_orders_25 : decode cX3_orders 25 = .ok (.aload_n 0, 1) := dk_42 (dk_at dksX3_orders_1 1 rfl rfl)
theorem dX3_orders_26 : decode cX3_orders 26 = .ok (.invokevirtual 487, 3) := dk_182 1 231 (dk_at dksX3_orders_1 2 rfl rfl)
theorem dX3_orders_29 : decode cX3_orders 29 = .ok (.iload_n 1, 1) := dk_27 (dk_at dksX3_orders_1 5 rfl rfl)
theorem dX3_orders_30 : decode cX3_orders 30 = .ok (.ifCond .ne 10, 3) := dk_154 0 10 (dk_at dksX3_orders_1 6 rfl rfl)
theorem dX3_orders_33 : decode cX3_orders 33 = .ok (.aload_n 0, 1) := dk_42 (dk_at dksX3_orders_1 9 rfl rfl)
theorem dX3_orders_34 : decode cX3_orders 34 = .ok (.getfield 67, 3) := dk_180 0 67 (dk_at dksX3_orders_1 10 rfl rfl)
theorem dX3_orders_37 : decode cX3_orders 37 = .ok (.iconst 0, 1) := dk_3 (dk_at dksX3_orders_1 13 rfl rfl)
theorem dX3_orders_38 : decode cX3_orders 38 = .ok (.iaload, 1) := dk_46 (dk_at dksX3_orders_1 14 rfl rfl)
theorem dX3_orders_39 : decode cX3_orders 39 = .ok (.ireturn, 1) := dk_172 (dk_at dksX3_orders_1 15 rfl rfl)
theorem dX3_orders_40 : decode cX3_orders 40 = .ok (.aload_n 0, 1) := dk_42 (dk_at dksX3_orders_1 16 rfl rfl)
theorem dX3_orders_41 : decode cX3_orders 41 = .ok (.getfield 67, 3) := dk_180 0 67 (dk_at dksX3_orders_1 17 rfl rfl)
theorem dX3_orders_44 : decode cX3_orders 44 = .ok (.iconst 0, 1) := dk_3 (dk_at dksX3_orders_1 20 rfl rfl)
theorem dX3_orders_45 : decode cX3_orders 45 = .ok (.iaload, 1) := dk_46 (dk_at dksX3_orders_1 21 rfl rfl)
theorem dX3_orders_46 : decode cX3_orders 46 = .ok (.ifCond .ne 5, 3) := dk_154 0 5 (dk_at dksX3_orders_2 0 rfl rfl)
theorem dX3_orders_49 : decode cX3_orders 49 = .ok (.iconst (-1), 1) := dk_2 (dk_at dksX3_orders_2 3 rfl rfl)
theorem dX3_orders_50 : decode cX3_orders 50 = .ok (.ireturn, 1) := dk_172 (dk_at dksX3_orders_2 4 rfl rfl)
theorem dX3_orders_51 : decode cX3_orders 51 = .ok (.iconst 0, 1) := dk_3 (dk_at dksX3_orders_2 5 rfl rfl)
theorem dX3_orders_52 : decode cX3_orders 52 = .ok (.istore_n 2, 1) := dk_61 (dk_at dksX3_orders_2 6 rfl rfl)
theorem dX3_orders_53 : decode cX3_orders 53 = .ok (.iconst (-1), 1) := dk_2 (dk_at dksX3_orders_2 7 rfl rfl)
theorem dX3_orders_54 : decode cX3_orders 54 = .ok (.istore_n 3, 1) := dk_62 (dk_at dksX3_orders_2 8 rfl rfl)
theorem dX3_orders_55 : decode cX3_orders 55 = .ok (.bipush 10, 2) := dk_16 10 (dk_at dksX3_orders_2 9 rfl rfl)
theorem dX3_orders_57 : decode cX3_orders 57 = .ok (.istore 4, 2) := dk_54 4 (dk_at dksX3_orders_2 11 rfl rfl)
theorem dX3_orders_59 : decode cX3_orders 59 = .ok (.iload 4, 2) := dk_21 4 (dk_at dksX3_orders_2 13 rfl rfl)
theorem dX3_orders_61 : decode cX3_orders 61 = .ok (.iload_n 1, 1) := dk_27 (dk_at dksX3_orders_2 15 rfl rfl)
theorem dX3_orders_62 : decode cX3_orders 62 = .ok (.if_icmp .gt 21, 3) := dk_163 0 21 (dk_at dksX3_orders_2 16 rfl rfl)
theorem dX3_orders_65 : decode cX3_orders 65 = .ok (.aload_n 0, 1) := dk_42 (dk_at dksX3_orders_2 19 rfl rfl)
theorem dX3_orders_66 : decode cX3_orders 66 = .ok (.iload_n 2, 1) := dk_28 (dk_at dksX3_orders_2 20 rfl rfl)
theorem dX3_orders_67 : decode cX3_orders 67 = .ok (.invokevirtual 490, 3) := dk_182 1 234 (dk_at dksX3_orders_2 21 rfl rfl)
theorem dX3_orders_70 : decode cX3_orders 70 = .ok (.istore_n 3, 1) := dk_62 (dk_at dksX3_orders_3 0 rfl rfl)
theorem dX3_orders_71 : decode cX3_orders 71 = .ok (.iload_n 2, 1) := dk_28 (dk_at dksX3_orders_3 1 rfl rfl)
theorem dX3_orders_72 : decode cX3_orders 72 = .ok (.iconst 1, 1) := dk_4 (dk_at dksX3_orders_3 2 rfl rfl)
theorem dX3_orders_73 : decode cX3_orders 73 = .ok (.iload_n 3, 1) := dk_29 (dk_at dksX3_orders_3 3 rfl rfl)
theorem dX3_orders_74 : decode cX3_orders 74 = .ok (.ishl, 1) := dk_120 (dk_at dksX3_orders_3 4 rfl rfl)
theorem dX3_orders_75 : decode cX3_orders 75 = .ok (.ior, 1) := dk_128 (dk_at dksX3_orders_3 5 rfl rfl)
theorem dX3_orders_76 : decode cX3_orders 76 = .ok (.istore_n 2, 1) := dk_61 (dk_at dksX3_orders_3 6 rfl rfl)
theorem dX3_orders_77 : decode cX3_orders 77 = .ok (.iinc 4 1, 3) := dk_132 4 1 (dk_at dksX3_orders_3 7 rfl rfl)
theorem dX3_orders_80 : decode cX3_orders 80 = .ok (.goto (-21), 3) := dk_167 255 235 (dk_at dksX3_orders_3 10 rfl rfl)
theorem dX3_orders_83 : decode cX3_orders 83 = .ok (.iload_n 3, 1) := dk_29 (dk_at dksX3_orders_3 13 rfl rfl)
theorem dX3_orders_84 : decode cX3_orders 84 = .ok (.ireturn, 1) := dk_172 (dk_at dksX3_orders_3 14 rfl rfl)
abbrev cX3_laysOrders : ByteArray := prog_14_method_124_code
def yX3_laysOrders : MethodName := ⟨RX3, "laysOrders", "()V"⟩
def dkwX3_laysOrders_7 : List UInt8 := [167, 255, 210, 132, 1, 255, 167, 255, 179, 177]
abbrev dktX3_laysOrders_7 : List UInt8 := dkwX3_laysOrders_7 ++ []
def dkwX3_laysOrders_6 : List UInt8 := [153, 0, 16, 42, 180, 0, 67, 27, 4, 28, 120, 128, 46, 167, 0, 4, 3, 96, 79, 132, 2, 1]
abbrev dktX3_laysOrders_6 : List UInt8 := dkwX3_laysOrders_6 ++ dktX3_laysOrders_7
def dkwX3_laysOrders_5 : List UInt8 := [180, 0, 7, 16, 98, 46, 162, 0, 41, 42, 180, 0, 67, 27, 92, 46, 42, 28, 27, 182, 1, 228]
abbrev dktX3_laysOrders_5 : List UInt8 := dkwX3_laysOrders_5 ++ dktX3_laysOrders_6
def dkwX3_laysOrders_4 : List UInt8 := [180, 0, 67, 27, 27, 42, 182, 1, 140, 160, 0, 7, 4, 167, 0, 4, 3, 79, 3, 61, 28, 42]
abbrev dktX3_laysOrders_4 : List UInt8 := dkwX3_laysOrders_4 ++ dktX3_laysOrders_5
def dkwX3_laysOrders_3 : List UInt8 := [104, 96, 46, 120, 128, 79, 132, 1, 1, 167, 255, 208, 42, 182, 1, 140, 60, 27, 155, 0, 79, 42]
abbrev dktX3_laysOrders_3 : List UInt8 := dkwX3_laysOrders_3 ++ dktX3_laysOrders_4
def dkwX3_laysOrders_2 : List UInt8 := [42, 180, 0, 7, 16, 105, 5, 27, 104, 96, 4, 96, 46, 92, 46, 4, 42, 180, 0, 7, 16, 105, 5, 27]
abbrev dktX3_laysOrders_2 : List UInt8 := dkwX3_laysOrders_2 ++ dktX3_laysOrders_3
def dkwX3_laysOrders_1 : List UInt8 := [79, 132, 1, 1, 167, 255, 230, 3, 60, 27, 42, 180, 0, 7, 16, 104, 46, 162, 0, 43, 42, 180, 0, 64]
abbrev dktX3_laysOrders_1 : List UInt8 := dkwX3_laysOrders_1 ++ dktX3_laysOrders_2
def dkwX3_laysOrders_0 : List UInt8 := [3, 60, 27, 42, 180, 0, 7, 16, 98, 46, 162, 0, 21, 42, 180, 0, 64, 27, 42, 27, 5, 182, 1, 81]
abbrev dktX3_laysOrders_0 : List UInt8 := dkwX3_laysOrders_0 ++ dktX3_laysOrders_1
theorem dksX3_laysOrders_0 : cX3_laysOrders.data.toList.drop 0 = dktX3_laysOrders_0 := by decide +kernel
theorem dksX3_laysOrders_1 : cX3_laysOrders.data.toList.drop 24 = dktX3_laysOrders_1 := dk_seg dksX3_laysOrders_0 24 rfl rfl
theorem dksX3_laysOrders_2 : cX3_laysOrders.data.toList.drop 48 = dktX3_laysOrders_2 := dk_seg dksX3_laysOrders_1 24 rfl rfl
theorem dksX3_laysOrders_3 : cX3_laysOrders.data.toList.drop 72 = dktX3_laysOrders_3 := dk_seg dksX3_laysOrders_2 24 rfl rfl
theorem dksX3_laysOrders_4 : cX3_laysOrders.data.toList.drop 94 = dktX3_laysOrders_4 := dk_seg dksX3_laysOrders_3 22 rfl rfl
theorem dksX3_laysOrders_5 : cX3_laysOrders.data.toList.drop 116 = dktX3_laysOrders_5 := dk_seg dksX3_laysOrders_4 22 rfl rfl
theorem dksX3_laysOrders_6 : cX3_laysOrders.data.toList.drop 138 = dktX3_laysOrders_6 := dk_seg dksX3_laysOrders_5 22 rfl rfl
theorem dksX3_laysOrders_7 : cX3_laysOrders.data.toList.drop 160 = dktX3_laysOrders_7 := dk_seg dksX3_laysOrders_6 22 rfl rfl
theorem dX3_laysOrders_0 : decode cX3_laysOrders 0 = .ok (.iconst 0, 1) := dk_3 (dk_at dksX3_laysOrders_0 0 rfl rfl)
theorem dX3_laysOrders_1 : decode cX3_laysOrders 1 = .ok (.istore_n 1, 1) := dk_60 (dk_at dksX3_laysOrders_0 1 rfl rfl)
theorem dX3_laysOrders_2 : decode cX3_laysOrders 2 = .ok (.iload_n 1, 1) := dk_27 (dk_at dksX3_laysOrders_0 2 rfl rfl)
theorem dX3_laysOrders_3 : decode cX3_laysOrders 3 = .ok (.aload_n 0, 1) := dk_42 (dk_at dksX3_laysOrders_0 3 rfl rfl)
theorem dX3_laysOrders_4 : decode cX3_laysOrders 4 = .ok (.getfield 7, 3) := dk_180 0 7 (dk_at dksX3_laysOrders_0 4 rfl rfl)
theorem dX3_laysOrders_7 : decode cX3_laysOrders 7 = .ok (.bipush 98, 2) := dk_16 98 (dk_at dksX3_laysOrders_0 7 rfl rfl)
theorem dX3_laysOrders_9 : decode cX3_laysOrders 9 = .ok (.iaload, 1) := dk_46 (dk_at dksX3_laysOrders_0 9 rfl rfl)
theorem dX3_laysOrders_10 : decode cX3_laysOrders 10 = .ok (.if_icmp .ge 21, 3) := dk_162 0 21 (dk_at dksX3_laysOrders_0 10 rfl rfl)
theorem dX3_laysOrders_13 : decode cX3_laysOrders 13 = .ok (.aload_n 0, 1) := dk_42 (dk_at dksX3_laysOrders_0 13 rfl rfl)
theorem dX3_laysOrders_14 : decode cX3_laysOrders 14 = .ok (.getfield 64, 3) := dk_180 0 64 (dk_at dksX3_laysOrders_0 14 rfl rfl)
theorem dX3_laysOrders_17 : decode cX3_laysOrders 17 = .ok (.iload_n 1, 1) := dk_27 (dk_at dksX3_laysOrders_0 17 rfl rfl)
theorem dX3_laysOrders_18 : decode cX3_laysOrders 18 = .ok (.aload_n 0, 1) := dk_42 (dk_at dksX3_laysOrders_0 18 rfl rfl)
theorem dX3_laysOrders_19 : decode cX3_laysOrders 19 = .ok (.iload_n 1, 1) := dk_27 (dk_at dksX3_laysOrders_0 19 rfl rfl)
theorem dX3_laysOrders_20 : decode cX3_laysOrders 20 = .ok (.iconst 2, 1) := dk_5 (dk_at dksX3_laysOrders_0 20 rfl rfl)
theorem dX3_laysOrders_21 : decode cX3_laysOrders 21 = .ok (.invokevirtual 337, 3) := dk_182 1 81 (dk_at dksX3_laysOrders_0 21 rfl rfl)
theorem dX3_laysOrders_24 : decode cX3_laysOrders 24 = .ok (.iastore, 1) := dk_79 (dk_at dksX3_laysOrders_1 0 rfl rfl)
theorem dX3_laysOrders_25 : decode cX3_laysOrders 25 = .ok (.iinc 1 1, 3) := dk_132 1 1 (dk_at dksX3_laysOrders_1 1 rfl rfl)
theorem dX3_laysOrders_28 : decode cX3_laysOrders 28 = .ok (.goto (-26), 3) := dk_167 255 230 (dk_at dksX3_laysOrders_1 4 rfl rfl)
theorem dX3_laysOrders_31 : decode cX3_laysOrders 31 = .ok (.iconst 0, 1) := dk_3 (dk_at dksX3_laysOrders_1 7 rfl rfl)
theorem dX3_laysOrders_32 : decode cX3_laysOrders 32 = .ok (.istore_n 1, 1) := dk_60 (dk_at dksX3_laysOrders_1 8 rfl rfl)
theorem dX3_laysOrders_33 : decode cX3_laysOrders 33 = .ok (.iload_n 1, 1) := dk_27 (dk_at dksX3_laysOrders_1 9 rfl rfl)
theorem dX3_laysOrders_34 : decode cX3_laysOrders 34 = .ok (.aload_n 0, 1) := dk_42 (dk_at dksX3_laysOrders_1 10 rfl rfl)
theorem dX3_laysOrders_35 : decode cX3_laysOrders 35 = .ok (.getfield 7, 3) := dk_180 0 7 (dk_at dksX3_laysOrders_1 11 rfl rfl)
theorem dX3_laysOrders_38 : decode cX3_laysOrders 38 = .ok (.bipush 104, 2) := dk_16 104 (dk_at dksX3_laysOrders_1 14 rfl rfl)
theorem dX3_laysOrders_40 : decode cX3_laysOrders 40 = .ok (.iaload, 1) := dk_46 (dk_at dksX3_laysOrders_1 16 rfl rfl)
theorem dX3_laysOrders_41 : decode cX3_laysOrders 41 = .ok (.if_icmp .ge 43, 3) := dk_162 0 43 (dk_at dksX3_laysOrders_1 17 rfl rfl)
theorem dX3_laysOrders_44 : decode cX3_laysOrders 44 = .ok (.aload_n 0, 1) := dk_42 (dk_at dksX3_laysOrders_1 20 rfl rfl)
theorem dX3_laysOrders_45 : decode cX3_laysOrders 45 = .ok (.getfield 64, 3) := dk_180 0 64 (dk_at dksX3_laysOrders_1 21 rfl rfl)
theorem dX3_laysOrders_48 : decode cX3_laysOrders 48 = .ok (.aload_n 0, 1) := dk_42 (dk_at dksX3_laysOrders_2 0 rfl rfl)
theorem dX3_laysOrders_49 : decode cX3_laysOrders 49 = .ok (.getfield 7, 3) := dk_180 0 7 (dk_at dksX3_laysOrders_2 1 rfl rfl)
theorem dX3_laysOrders_52 : decode cX3_laysOrders 52 = .ok (.bipush 105, 2) := dk_16 105 (dk_at dksX3_laysOrders_2 4 rfl rfl)
theorem dX3_laysOrders_54 : decode cX3_laysOrders 54 = .ok (.iconst 2, 1) := dk_5 (dk_at dksX3_laysOrders_2 6 rfl rfl)
theorem dX3_laysOrders_55 : decode cX3_laysOrders 55 = .ok (.iload_n 1, 1) := dk_27 (dk_at dksX3_laysOrders_2 7 rfl rfl)
theorem dX3_laysOrders_56 : decode cX3_laysOrders 56 = .ok (.imul, 1) := dk_104 (dk_at dksX3_laysOrders_2 8 rfl rfl)
theorem dX3_laysOrders_57 : decode cX3_laysOrders 57 = .ok (.iadd, 1) := dk_96 (dk_at dksX3_laysOrders_2 9 rfl rfl)
theorem dX3_laysOrders_58 : decode cX3_laysOrders 58 = .ok (.iconst 1, 1) := dk_4 (dk_at dksX3_laysOrders_2 10 rfl rfl)
theorem dX3_laysOrders_59 : decode cX3_laysOrders 59 = .ok (.iadd, 1) := dk_96 (dk_at dksX3_laysOrders_2 11 rfl rfl)
theorem dX3_laysOrders_60 : decode cX3_laysOrders 60 = .ok (.iaload, 1) := dk_46 (dk_at dksX3_laysOrders_2 12 rfl rfl)
theorem dX3_laysOrders_61 : decode cX3_laysOrders 61 = .ok (.dup2, 1) := dk_92 (dk_at dksX3_laysOrders_2 13 rfl rfl)
theorem dX3_laysOrders_62 : decode cX3_laysOrders 62 = .ok (.iaload, 1) := dk_46 (dk_at dksX3_laysOrders_2 14 rfl rfl)
theorem dX3_laysOrders_63 : decode cX3_laysOrders 63 = .ok (.iconst 1, 1) := dk_4 (dk_at dksX3_laysOrders_2 15 rfl rfl)
theorem dX3_laysOrders_64 : decode cX3_laysOrders 64 = .ok (.aload_n 0, 1) := dk_42 (dk_at dksX3_laysOrders_2 16 rfl rfl)
theorem dX3_laysOrders_65 : decode cX3_laysOrders 65 = .ok (.getfield 7, 3) := dk_180 0 7 (dk_at dksX3_laysOrders_2 17 rfl rfl)
theorem dX3_laysOrders_68 : decode cX3_laysOrders 68 = .ok (.bipush 105, 2) := dk_16 105 (dk_at dksX3_laysOrders_2 20 rfl rfl)
theorem dX3_laysOrders_70 : decode cX3_laysOrders 70 = .ok (.iconst 2, 1) := dk_5 (dk_at dksX3_laysOrders_2 22 rfl rfl)
theorem dX3_laysOrders_71 : decode cX3_laysOrders 71 = .ok (.iload_n 1, 1) := dk_27 (dk_at dksX3_laysOrders_2 23 rfl rfl)
theorem dX3_laysOrders_72 : decode cX3_laysOrders 72 = .ok (.imul, 1) := dk_104 (dk_at dksX3_laysOrders_3 0 rfl rfl)
theorem dX3_laysOrders_73 : decode cX3_laysOrders 73 = .ok (.iadd, 1) := dk_96 (dk_at dksX3_laysOrders_3 1 rfl rfl)
theorem dX3_laysOrders_74 : decode cX3_laysOrders 74 = .ok (.iaload, 1) := dk_46 (dk_at dksX3_laysOrders_3 2 rfl rfl)
theorem dX3_laysOrders_75 : decode cX3_laysOrders 75 = .ok (.ishl, 1) := dk_120 (dk_at dksX3_laysOrders_3 3 rfl rfl)
theorem dX3_laysOrders_76 : decode cX3_laysOrders 76 = .ok (.ior, 1) := dk_128 (dk_at dksX3_laysOrders_3 4 rfl rfl)
theorem dX3_laysOrders_77 : decode cX3_laysOrders 77 = .ok (.iastore, 1) := dk_79 (dk_at dksX3_laysOrders_3 5 rfl rfl)
theorem dX3_laysOrders_78 : decode cX3_laysOrders 78 = .ok (.iinc 1 1, 3) := dk_132 1 1 (dk_at dksX3_laysOrders_3 6 rfl rfl)
theorem dX3_laysOrders_81 : decode cX3_laysOrders 81 = .ok (.goto (-48), 3) := dk_167 255 208 (dk_at dksX3_laysOrders_3 9 rfl rfl)
theorem dX3_laysOrders_84 : decode cX3_laysOrders 84 = .ok (.aload_n 0, 1) := dk_42 (dk_at dksX3_laysOrders_3 12 rfl rfl)
theorem dX3_laysOrders_85 : decode cX3_laysOrders 85 = .ok (.invokevirtual 396, 3) := dk_182 1 140 (dk_at dksX3_laysOrders_3 13 rfl rfl)
theorem dX3_laysOrders_88 : decode cX3_laysOrders 88 = .ok (.istore_n 1, 1) := dk_60 (dk_at dksX3_laysOrders_3 16 rfl rfl)
theorem dX3_laysOrders_89 : decode cX3_laysOrders 89 = .ok (.iload_n 1, 1) := dk_27 (dk_at dksX3_laysOrders_3 17 rfl rfl)
theorem dX3_laysOrders_90 : decode cX3_laysOrders 90 = .ok (.ifCond .lt 79, 3) := dk_155 0 79 (dk_at dksX3_laysOrders_3 18 rfl rfl)
theorem dX3_laysOrders_93 : decode cX3_laysOrders 93 = .ok (.aload_n 0, 1) := dk_42 (dk_at dksX3_laysOrders_3 21 rfl rfl)
theorem dX3_laysOrders_94 : decode cX3_laysOrders 94 = .ok (.getfield 67, 3) := dk_180 0 67 (dk_at dksX3_laysOrders_4 0 rfl rfl)
theorem dX3_laysOrders_97 : decode cX3_laysOrders 97 = .ok (.iload_n 1, 1) := dk_27 (dk_at dksX3_laysOrders_4 3 rfl rfl)
theorem dX3_laysOrders_98 : decode cX3_laysOrders 98 = .ok (.iload_n 1, 1) := dk_27 (dk_at dksX3_laysOrders_4 4 rfl rfl)
theorem dX3_laysOrders_99 : decode cX3_laysOrders 99 = .ok (.aload_n 0, 1) := dk_42 (dk_at dksX3_laysOrders_4 5 rfl rfl)
theorem dX3_laysOrders_100 : decode cX3_laysOrders 100 = .ok (.invokevirtual 396, 3) := dk_182 1 140 (dk_at dksX3_laysOrders_4 6 rfl rfl)
theorem dX3_laysOrders_103 : decode cX3_laysOrders 103 = .ok (.if_icmp .ne 7, 3) := dk_160 0 7 (dk_at dksX3_laysOrders_4 9 rfl rfl)
theorem dX3_laysOrders_106 : decode cX3_laysOrders 106 = .ok (.iconst 1, 1) := dk_4 (dk_at dksX3_laysOrders_4 12 rfl rfl)
theorem dX3_laysOrders_107 : decode cX3_laysOrders 107 = .ok (.goto 4, 3) := dk_167 0 4 (dk_at dksX3_laysOrders_4 13 rfl rfl)
theorem dX3_laysOrders_110 : decode cX3_laysOrders 110 = .ok (.iconst 0, 1) := dk_3 (dk_at dksX3_laysOrders_4 16 rfl rfl)
theorem dX3_laysOrders_111 : decode cX3_laysOrders 111 = .ok (.iastore, 1) := dk_79 (dk_at dksX3_laysOrders_4 17 rfl rfl)
theorem dX3_laysOrders_112 : decode cX3_laysOrders 112 = .ok (.iconst 0, 1) := dk_3 (dk_at dksX3_laysOrders_4 18 rfl rfl)
theorem dX3_laysOrders_113 : decode cX3_laysOrders 113 = .ok (.istore_n 2, 1) := dk_61 (dk_at dksX3_laysOrders_4 19 rfl rfl)
theorem dX3_laysOrders_114 : decode cX3_laysOrders 114 = .ok (.iload_n 2, 1) := dk_28 (dk_at dksX3_laysOrders_4 20 rfl rfl)
theorem dX3_laysOrders_115 : decode cX3_laysOrders 115 = .ok (.aload_n 0, 1) := dk_42 (dk_at dksX3_laysOrders_4 21 rfl rfl)
theorem dX3_laysOrders_116 : decode cX3_laysOrders 116 = .ok (.getfield 7, 3) := dk_180 0 7 (dk_at dksX3_laysOrders_5 0 rfl rfl)
theorem dX3_laysOrders_119 : decode cX3_laysOrders 119 = .ok (.bipush 98, 2) := dk_16 98 (dk_at dksX3_laysOrders_5 3 rfl rfl)
theorem dX3_laysOrders_121 : decode cX3_laysOrders 121 = .ok (.iaload, 1) := dk_46 (dk_at dksX3_laysOrders_5 5 rfl rfl)
theorem dX3_laysOrders_122 : decode cX3_laysOrders 122 = .ok (.if_icmp .ge 41, 3) := dk_162 0 41 (dk_at dksX3_laysOrders_5 6 rfl rfl)
theorem dX3_laysOrders_125 : decode cX3_laysOrders 125 = .ok (.aload_n 0, 1) := dk_42 (dk_at dksX3_laysOrders_5 9 rfl rfl)
theorem dX3_laysOrders_126 : decode cX3_laysOrders 126 = .ok (.getfield 67, 3) := dk_180 0 67 (dk_at dksX3_laysOrders_5 10 rfl rfl)
theorem dX3_laysOrders_129 : decode cX3_laysOrders 129 = .ok (.iload_n 1, 1) := dk_27 (dk_at dksX3_laysOrders_5 13 rfl rfl)
theorem dX3_laysOrders_130 : decode cX3_laysOrders 130 = .ok (.dup2, 1) := dk_92 (dk_at dksX3_laysOrders_5 14 rfl rfl)
theorem dX3_laysOrders_131 : decode cX3_laysOrders 131 = .ok (.iaload, 1) := dk_46 (dk_at dksX3_laysOrders_5 15 rfl rfl)
theorem dX3_laysOrders_132 : decode cX3_laysOrders 132 = .ok (.aload_n 0, 1) := dk_42 (dk_at dksX3_laysOrders_5 16 rfl rfl)
theorem dX3_laysOrders_133 : decode cX3_laysOrders 133 = .ok (.iload_n 2, 1) := dk_28 (dk_at dksX3_laysOrders_5 17 rfl rfl)
theorem dX3_laysOrders_134 : decode cX3_laysOrders 134 = .ok (.iload_n 1, 1) := dk_27 (dk_at dksX3_laysOrders_5 18 rfl rfl)
theorem dX3_laysOrders_135 : decode cX3_laysOrders 135 = .ok (.invokevirtual 484, 3) := dk_182 1 228 (dk_at dksX3_laysOrders_5 19 rfl rfl)
theorem dX3_laysOrders_138 : decode cX3_laysOrders 138 = .ok (.ifCond .eq 16, 3) := dk_153 0 16 (dk_at dksX3_laysOrders_6 0 rfl rfl)
theorem dX3_laysOrders_141 : decode cX3_laysOrders 141 = .ok (.aload_n 0, 1) := dk_42 (dk_at dksX3_laysOrders_6 3 rfl rfl)
theorem dX3_laysOrders_142 : decode cX3_laysOrders 142 = .ok (.getfield 67, 3) := dk_180 0 67 (dk_at dksX3_laysOrders_6 4 rfl rfl)
theorem dX3_laysOrders_145 : decode cX3_laysOrders 145 = .ok (.iload_n 1, 1) := dk_27 (dk_at dksX3_laysOrders_6 7 rfl rfl)
theorem dX3_laysOrders_146 : decode cX3_laysOrders 146 = .ok (.iconst 1, 1) := dk_4 (dk_at dksX3_laysOrders_6 8 rfl rfl)
theorem dX3_laysOrders_147 : decode cX3_laysOrders 147 = .ok (.iload_n 2, 1) := dk_28 (dk_at dksX3_laysOrders_6 9 rfl rfl)
theorem dX3_laysOrders_148 : decode cX3_laysOrders 148 = .ok (.ishl, 1) := dk_120 (dk_at dksX3_laysOrders_6 10 rfl rfl)
theorem dX3_laysOrders_149 : decode cX3_laysOrders 149 = .ok (.ior, 1) := dk_128 (dk_at dksX3_laysOrders_6 11 rfl rfl)
theorem dX3_laysOrders_150 : decode cX3_laysOrders 150 = .ok (.iaload, 1) := dk_46 (dk_at dksX3_laysOrders_6 12 rfl rfl)
theorem dX3_laysOrders_151 : decode cX3_laysOrders 151 = .ok (.goto 4, 3) := dk_167 0 4 (dk_at dksX3_laysOrders_6 13 rfl rfl)
theorem dX3_laysOrders_154 : decode cX3_laysOrders 154 = .ok (.iconst 0, 1) := dk_3 (dk_at dksX3_laysOrders_6 16 rfl rfl)
theorem dX3_laysOrders_155 : decode cX3_laysOrders 155 = .ok (.iadd, 1) := dk_96 (dk_at dksX3_laysOrders_6 17 rfl rfl)
theorem dX3_laysOrders_156 : decode cX3_laysOrders 156 = .ok (.iastore, 1) := dk_79 (dk_at dksX3_laysOrders_6 18 rfl rfl)
theorem dX3_laysOrders_157 : decode cX3_laysOrders 157 = .ok (.iinc 2 1, 3) := dk_132 2 1 (dk_at dksX3_laysOrders_6 19 rfl rfl)
theorem dX3_laysOrders_160 : decode cX3_laysOrders 160 = .ok (.goto (-46), 3) := dk_167 255 210 (dk_at dksX3_laysOrders_7 0 rfl rfl)
theorem dX3_laysOrders_163 : decode cX3_laysOrders 163 = .ok (.iinc 1 (-1), 3) := dk_132 1 255 (dk_at dksX3_laysOrders_7 3 rfl rfl)
theorem dX3_laysOrders_166 : decode cX3_laysOrders 166 = .ok (.goto (-77), 3) := dk_167 255 179 (dk_at dksX3_laysOrders_7 6 rfl rfl)
theorem dX3_laysOrders_169 : decode cX3_laysOrders 169 = .ok (.return_, 1) := dk_177 (dk_at dksX3_laysOrders_7 9 rfl rfl)
abbrev cX3_canCome : ByteArray := prog_14_method_125_code
def yX3_canCome : MethodName := ⟨RX3, "canCome", "(II)Z"⟩
def dkwX3_canCome_1 : List UInt8 := [167, 0, 4, 3, 172]
abbrev dktX3_canCome_1 : List UInt8 := dkwX3_canCome_1 ++ []
def dkwX3_canCome_0 : List UInt8 := [28, 27, 122, 4, 126, 154, 0, 20, 42, 180, 0, 64, 27, 46, 28, 2, 130, 126, 154, 0, 7, 4]
abbrev dktX3_canCome_0 : List UInt8 := dkwX3_canCome_0 ++ dktX3_canCome_1
theorem dksX3_canCome_0 : cX3_canCome.data.toList.drop 0 = dktX3_canCome_0 := by decide +kernel
theorem dksX3_canCome_1 : cX3_canCome.data.toList.drop 22 = dktX3_canCome_1 := dk_seg dksX3_canCome_0 22 rfl rfl
theorem dX3_canCome_0 : decode cX3_canCome 0 = .ok (.iload_n 2, 1) := dk_28 (dk_at dksX3_canCome_0 0 rfl rfl)
theorem dX3_canCome_1 : decode cX3_canCome 1 = .ok (.iload_n 1, 1) := dk_27 (dk_at dksX3_canCome_0 1 rfl rfl)
theorem dX3_canCome_2 : decode cX3_canCome 2 = .ok (.ishr, 1) := dk_122 (dk_at dksX3_canCome_0 2 rfl rfl)
theorem dX3_canCome_3 : decode cX3_canCome 3 = .ok (.iconst 1, 1) := dk_4 (dk_at dksX3_canCome_0 3 rfl rfl)
theorem dX3_canCome_4 : decode cX3_canCome 4 = .ok (.iand, 1) := dk_126 (dk_at dksX3_canCome_0 4 rfl rfl)
theorem dX3_canCome_5 : decode cX3_canCome 5 = .ok (.ifCond .ne 20, 3) := dk_154 0 20 (dk_at dksX3_canCome_0 5 rfl rfl)
theorem dX3_canCome_8 : decode cX3_canCome 8 = .ok (.aload_n 0, 1) := dk_42 (dk_at dksX3_canCome_0 8 rfl rfl)
theorem dX3_canCome_9 : decode cX3_canCome 9 = .ok (.getfield 64, 3) := dk_180 0 64 (dk_at dksX3_canCome_0 9 rfl rfl)
theorem dX3_canCome_12 : decode cX3_canCome 12 = .ok (.iload_n 1, 1) := dk_27 (dk_at dksX3_canCome_0 12 rfl rfl)
theorem dX3_canCome_13 : decode cX3_canCome 13 = .ok (.iaload, 1) := dk_46 (dk_at dksX3_canCome_0 13 rfl rfl)
theorem dX3_canCome_14 : decode cX3_canCome 14 = .ok (.iload_n 2, 1) := dk_28 (dk_at dksX3_canCome_0 14 rfl rfl)
theorem dX3_canCome_15 : decode cX3_canCome 15 = .ok (.iconst (-1), 1) := dk_2 (dk_at dksX3_canCome_0 15 rfl rfl)
theorem dX3_canCome_16 : decode cX3_canCome 16 = .ok (.ixor, 1) := dk_130 (dk_at dksX3_canCome_0 16 rfl rfl)
theorem dX3_canCome_17 : decode cX3_canCome 17 = .ok (.iand, 1) := dk_126 (dk_at dksX3_canCome_0 17 rfl rfl)
theorem dX3_canCome_18 : decode cX3_canCome 18 = .ok (.ifCond .ne 7, 3) := dk_154 0 7 (dk_at dksX3_canCome_0 18 rfl rfl)
theorem dX3_canCome_21 : decode cX3_canCome 21 = .ok (.iconst 1, 1) := dk_4 (dk_at dksX3_canCome_0 21 rfl rfl)
theorem dX3_canCome_22 : decode cX3_canCome 22 = .ok (.goto 4, 3) := dk_167 0 4 (dk_at dksX3_canCome_1 0 rfl rfl)
theorem dX3_canCome_25 : decode cX3_canCome 25 = .ok (.iconst 0, 1) := dk_3 (dk_at dksX3_canCome_1 3 rfl rfl)
theorem dX3_canCome_26 : decode cX3_canCome 26 = .ok (.ireturn, 1) := dk_172 (dk_at dksX3_canCome_1 4 rfl rfl)
abbrev cX3_nextOf : ByteArray := prog_14_method_126_code
def yX3_nextOf : MethodName := ⟨RX3, "nextOf", "(I)I"⟩
def dkwX3_nextOf_1 : List UInt8 := [132, 2, 1, 167, 255, 231, 28, 172]
abbrev dktX3_nextOf_1 : List UInt8 := dkwX3_nextOf_1 ++ []
def dkwX3_nextOf_0 : List UInt8 := [3, 61, 42, 28, 27, 182, 1, 228, 153, 0, 16, 42, 180, 0, 67, 27, 4, 28, 120, 128, 46, 154, 0, 9]
abbrev dktX3_nextOf_0 : List UInt8 := dkwX3_nextOf_0 ++ dktX3_nextOf_1
theorem dksX3_nextOf_0 : cX3_nextOf.data.toList.drop 0 = dktX3_nextOf_0 := by decide +kernel
theorem dksX3_nextOf_1 : cX3_nextOf.data.toList.drop 24 = dktX3_nextOf_1 := dk_seg dksX3_nextOf_0 24 rfl rfl
theorem dX3_nextOf_0 : decode cX3_nextOf 0 = .ok (.iconst 0, 1) := dk_3 (dk_at dksX3_nextOf_0 0 rfl rfl)
theorem dX3_nextOf_1 : decode cX3_nextOf 1 = .ok (.istore_n 2, 1) := dk_61 (dk_at dksX3_nextOf_0 1 rfl rfl)
theorem dX3_nextOf_2 : decode cX3_nextOf 2 = .ok (.aload_n 0, 1) := dk_42 (dk_at dksX3_nextOf_0 2 rfl rfl)
theorem dX3_nextOf_3 : decode cX3_nextOf 3 = .ok (.iload_n 2, 1) := dk_28 (dk_at dksX3_nextOf_0 3 rfl rfl)
theorem dX3_nextOf_4 : decode cX3_nextOf 4 = .ok (.iload_n 1, 1) := dk_27 (dk_at dksX3_nextOf_0 4 rfl rfl)
theorem dX3_nextOf_5 : decode cX3_nextOf 5 = .ok (.invokevirtual 484, 3) := dk_182 1 228 (dk_at dksX3_nextOf_0 5 rfl rfl)
theorem dX3_nextOf_8 : decode cX3_nextOf 8 = .ok (.ifCond .eq 16, 3) := dk_153 0 16 (dk_at dksX3_nextOf_0 8 rfl rfl)
theorem dX3_nextOf_11 : decode cX3_nextOf 11 = .ok (.aload_n 0, 1) := dk_42 (dk_at dksX3_nextOf_0 11 rfl rfl)
theorem dX3_nextOf_12 : decode cX3_nextOf 12 = .ok (.getfield 67, 3) := dk_180 0 67 (dk_at dksX3_nextOf_0 12 rfl rfl)
theorem dX3_nextOf_15 : decode cX3_nextOf 15 = .ok (.iload_n 1, 1) := dk_27 (dk_at dksX3_nextOf_0 15 rfl rfl)
theorem dX3_nextOf_16 : decode cX3_nextOf 16 = .ok (.iconst 1, 1) := dk_4 (dk_at dksX3_nextOf_0 16 rfl rfl)
theorem dX3_nextOf_17 : decode cX3_nextOf 17 = .ok (.iload_n 2, 1) := dk_28 (dk_at dksX3_nextOf_0 17 rfl rfl)
theorem dX3_nextOf_18 : decode cX3_nextOf 18 = .ok (.ishl, 1) := dk_120 (dk_at dksX3_nextOf_0 18 rfl rfl)
theorem dX3_nextOf_19 : decode cX3_nextOf 19 = .ok (.ior, 1) := dk_128 (dk_at dksX3_nextOf_0 19 rfl rfl)
theorem dX3_nextOf_20 : decode cX3_nextOf 20 = .ok (.iaload, 1) := dk_46 (dk_at dksX3_nextOf_0 20 rfl rfl)
theorem dX3_nextOf_21 : decode cX3_nextOf 21 = .ok (.ifCond .ne 9, 3) := dk_154 0 9 (dk_at dksX3_nextOf_0 21 rfl rfl)
theorem dX3_nextOf_24 : decode cX3_nextOf 24 = .ok (.iinc 2 1, 3) := dk_132 2 1 (dk_at dksX3_nextOf_1 0 rfl rfl)
theorem dX3_nextOf_27 : decode cX3_nextOf 27 = .ok (.goto (-25), 3) := dk_167 255 231 (dk_at dksX3_nextOf_1 3 rfl rfl)
theorem dX3_nextOf_30 : decode cX3_nextOf 30 = .ok (.iload_n 2, 1) := dk_28 (dk_at dksX3_nextOf_1 6 rfl rfl)
theorem dX3_nextOf_31 : decode cX3_nextOf 31 = .ok (.ireturn, 1) := dk_172 (dk_at dksX3_nextOf_1 7 rfl rfl)
abbrev cX3_of : ByteArray := prog_14_method_129_code
def yX3_of : MethodName := ⟨RX3, "of", "(II)I"⟩
def dkwX3_of_3 : List UInt8 := [184, 0, 77, 153, 0, 12, 42, 27, 28, 182, 1, 57, 167, 0, 5, 16, 254, 172]
abbrev dktX3_of_3 : List UInt8 := dkwX3_of_3 ++ []
def dkwX3_of_2 : List UInt8 := [42, 27, 182, 1, 240, 172, 42, 27, 182, 1, 243, 172, 42, 27, 182, 1, 246, 172, 28, 3, 16, 8]
abbrev dktX3_of_2 : List UInt8 := dkwX3_of_2 ++ dktX3_of_3
def dkwX3_of_1 : List UInt8 := [170, 0, 0, 0, 0, 0, 0, 46, 0, 0, 0, 9, 0, 0, 0, 11, 0, 0, 0, 28, 0, 0, 0, 34, 0, 0, 0, 40]
abbrev dktX3_of_1 : List UInt8 := dkwX3_of_1 ++ dktX3_of_2
def dkwX3_of_0 : List UInt8 := [42, 27, 182, 0, 97, 154, 0, 6, 16, 254, 172, 28]
abbrev dktX3_of_0 : List UInt8 := dkwX3_of_0 ++ dktX3_of_1
theorem dksX3_of_0 : cX3_of.data.toList.drop 0 = dktX3_of_0 := by decide +kernel
theorem dksX3_of_1 : cX3_of.data.toList.drop 12 = dktX3_of_1 := dk_seg dksX3_of_0 12 rfl rfl
theorem dksX3_of_2 : cX3_of.data.toList.drop 40 = dktX3_of_2 := dk_seg dksX3_of_1 28 rfl rfl
theorem dksX3_of_3 : cX3_of.data.toList.drop 62 = dktX3_of_3 := dk_seg dksX3_of_2 22 rfl rfl
theorem dX3_of_0 : decode cX3_of 0 = .ok (.aload_n 0, 1) := dk_42 (dk_at dksX3_of_0 0 rfl rfl)
theorem dX3_of_1 : decode cX3_of 1 = .ok (.iload_n 1, 1) := dk_27 (dk_at dksX3_of_0 1 rfl rfl)
theorem dX3_of_2 : decode cX3_of 2 = .ok (.invokevirtual 97, 3) := dk_182 0 97 (dk_at dksX3_of_0 2 rfl rfl)
theorem dX3_of_5 : decode cX3_of 5 = .ok (.ifCond .ne 6, 3) := dk_154 0 6 (dk_at dksX3_of_0 5 rfl rfl)
theorem dX3_of_8 : decode cX3_of 8 = .ok (.bipush (-2), 2) := dk_16 254 (dk_at dksX3_of_0 8 rfl rfl)
theorem dX3_of_10 : decode cX3_of 10 = .ok (.ireturn, 1) := dk_172 (dk_at dksX3_of_0 10 rfl rfl)
theorem dX3_of_11 : decode cX3_of 11 = .ok (.iload_n 2, 1) := dk_28 (dk_at dksX3_of_0 11 rfl rfl)
theorem dX3_of_12 : decode cX3_of 12 = .ok (.tableswitch 46 9 11 #[28, 34, 40], 28) := by decide +kernel
theorem dX3_of_40 : decode cX3_of 40 = .ok (.aload_n 0, 1) := dk_42 (dk_at dksX3_of_2 0 rfl rfl)
theorem dX3_of_41 : decode cX3_of 41 = .ok (.iload_n 1, 1) := dk_27 (dk_at dksX3_of_2 1 rfl rfl)
theorem dX3_of_42 : decode cX3_of 42 = .ok (.invokevirtual 496, 3) := dk_182 1 240 (dk_at dksX3_of_2 2 rfl rfl)
theorem dX3_of_45 : decode cX3_of 45 = .ok (.ireturn, 1) := dk_172 (dk_at dksX3_of_2 5 rfl rfl)
theorem dX3_of_46 : decode cX3_of 46 = .ok (.aload_n 0, 1) := dk_42 (dk_at dksX3_of_2 6 rfl rfl)
theorem dX3_of_47 : decode cX3_of 47 = .ok (.iload_n 1, 1) := dk_27 (dk_at dksX3_of_2 7 rfl rfl)
theorem dX3_of_48 : decode cX3_of 48 = .ok (.invokevirtual 499, 3) := dk_182 1 243 (dk_at dksX3_of_2 8 rfl rfl)
theorem dX3_of_51 : decode cX3_of 51 = .ok (.ireturn, 1) := dk_172 (dk_at dksX3_of_2 11 rfl rfl)
theorem dX3_of_52 : decode cX3_of 52 = .ok (.aload_n 0, 1) := dk_42 (dk_at dksX3_of_2 12 rfl rfl)
theorem dX3_of_53 : decode cX3_of 53 = .ok (.iload_n 1, 1) := dk_27 (dk_at dksX3_of_2 13 rfl rfl)
theorem dX3_of_54 : decode cX3_of 54 = .ok (.invokevirtual 502, 3) := dk_182 1 246 (dk_at dksX3_of_2 14 rfl rfl)
theorem dX3_of_57 : decode cX3_of 57 = .ok (.ireturn, 1) := dk_172 (dk_at dksX3_of_2 17 rfl rfl)
theorem dX3_of_58 : decode cX3_of 58 = .ok (.iload_n 2, 1) := dk_28 (dk_at dksX3_of_2 18 rfl rfl)
theorem dX3_of_59 : decode cX3_of 59 = .ok (.iconst 0, 1) := dk_3 (dk_at dksX3_of_2 19 rfl rfl)
theorem dX3_of_60 : decode cX3_of 60 = .ok (.bipush 8, 2) := dk_16 8 (dk_at dksX3_of_2 20 rfl rfl)
theorem dX3_of_62 : decode cX3_of 62 = .ok (.invokestatic 77, 3) := dk_184 0 77 (dk_at dksX3_of_3 0 rfl rfl)
theorem dX3_of_65 : decode cX3_of 65 = .ok (.ifCond .eq 12, 3) := dk_153 0 12 (dk_at dksX3_of_3 3 rfl rfl)
theorem dX3_of_68 : decode cX3_of 68 = .ok (.aload_n 0, 1) := dk_42 (dk_at dksX3_of_3 6 rfl rfl)
theorem dX3_of_69 : decode cX3_of 69 = .ok (.iload_n 1, 1) := dk_27 (dk_at dksX3_of_3 7 rfl rfl)
theorem dX3_of_70 : decode cX3_of 70 = .ok (.iload_n 2, 1) := dk_28 (dk_at dksX3_of_3 8 rfl rfl)
theorem dX3_of_71 : decode cX3_of 71 = .ok (.invokevirtual 313, 3) := dk_182 1 57 (dk_at dksX3_of_3 9 rfl rfl)
theorem dX3_of_74 : decode cX3_of 74 = .ok (.goto 5, 3) := dk_167 0 5 (dk_at dksX3_of_3 12 rfl rfl)
theorem dX3_of_77 : decode cX3_of 77 = .ok (.bipush (-2), 2) := dk_16 254 (dk_at dksX3_of_3 15 rfl rfl)
theorem dX3_of_79 : decode cX3_of 79 = .ok (.ireturn, 1) := dk_172 (dk_at dksX3_of_3 17 rfl rfl)
abbrev cX3_swings : ByteArray := prog_14_method_114_code
def yX3_swings : MethodName := ⟨RX3, "swings", "(I)I"⟩
def dkwX3_swings_1 : List UInt8 := [153, 0, 7, 4, 167, 0, 4, 3, 96, 61, 132, 3, 1, 167, 255, 223, 28, 172]
abbrev dktX3_swings_1 : List UInt8 := dkwX3_swings_1 ++ []
def dkwX3_swings_0 : List UInt8 := [3, 61, 3, 62, 29, 4, 42, 180, 0, 7, 16, 96, 46, 120, 162, 0, 26, 28, 42, 27, 29, 182, 1, 206]
abbrev dktX3_swings_0 : List UInt8 := dkwX3_swings_0 ++ dktX3_swings_1
theorem dksX3_swings_0 : cX3_swings.data.toList.drop 0 = dktX3_swings_0 := by decide +kernel
theorem dksX3_swings_1 : cX3_swings.data.toList.drop 24 = dktX3_swings_1 := dk_seg dksX3_swings_0 24 rfl rfl
theorem dX3_swings_0 : decode cX3_swings 0 = .ok (.iconst 0, 1) := dk_3 (dk_at dksX3_swings_0 0 rfl rfl)
theorem dX3_swings_1 : decode cX3_swings 1 = .ok (.istore_n 2, 1) := dk_61 (dk_at dksX3_swings_0 1 rfl rfl)
theorem dX3_swings_2 : decode cX3_swings 2 = .ok (.iconst 0, 1) := dk_3 (dk_at dksX3_swings_0 2 rfl rfl)
theorem dX3_swings_3 : decode cX3_swings 3 = .ok (.istore_n 3, 1) := dk_62 (dk_at dksX3_swings_0 3 rfl rfl)
theorem dX3_swings_4 : decode cX3_swings 4 = .ok (.iload_n 3, 1) := dk_29 (dk_at dksX3_swings_0 4 rfl rfl)
theorem dX3_swings_5 : decode cX3_swings 5 = .ok (.iconst 1, 1) := dk_4 (dk_at dksX3_swings_0 5 rfl rfl)
theorem dX3_swings_6 : decode cX3_swings 6 = .ok (.aload_n 0, 1) := dk_42 (dk_at dksX3_swings_0 6 rfl rfl)
theorem dX3_swings_7 : decode cX3_swings 7 = .ok (.getfield 7, 3) := dk_180 0 7 (dk_at dksX3_swings_0 7 rfl rfl)
theorem dX3_swings_10 : decode cX3_swings 10 = .ok (.bipush 96, 2) := dk_16 96 (dk_at dksX3_swings_0 10 rfl rfl)
theorem dX3_swings_12 : decode cX3_swings 12 = .ok (.iaload, 1) := dk_46 (dk_at dksX3_swings_0 12 rfl rfl)
theorem dX3_swings_13 : decode cX3_swings 13 = .ok (.ishl, 1) := dk_120 (dk_at dksX3_swings_0 13 rfl rfl)
theorem dX3_swings_14 : decode cX3_swings 14 = .ok (.if_icmp .ge 26, 3) := dk_162 0 26 (dk_at dksX3_swings_0 14 rfl rfl)
theorem dX3_swings_17 : decode cX3_swings 17 = .ok (.iload_n 2, 1) := dk_28 (dk_at dksX3_swings_0 17 rfl rfl)
theorem dX3_swings_18 : decode cX3_swings 18 = .ok (.aload_n 0, 1) := dk_42 (dk_at dksX3_swings_0 18 rfl rfl)
theorem dX3_swings_19 : decode cX3_swings 19 = .ok (.iload_n 1, 1) := dk_27 (dk_at dksX3_swings_0 19 rfl rfl)
theorem dX3_swings_20 : decode cX3_swings 20 = .ok (.iload_n 3, 1) := dk_29 (dk_at dksX3_swings_0 20 rfl rfl)
theorem dX3_swings_21 : decode cX3_swings 21 = .ok (.invokevirtual 462, 3) := dk_182 1 206 (dk_at dksX3_swings_0 21 rfl rfl)
theorem dX3_swings_24 : decode cX3_swings 24 = .ok (.ifCond .eq 7, 3) := dk_153 0 7 (dk_at dksX3_swings_1 0 rfl rfl)
theorem dX3_swings_27 : decode cX3_swings 27 = .ok (.iconst 1, 1) := dk_4 (dk_at dksX3_swings_1 3 rfl rfl)
theorem dX3_swings_28 : decode cX3_swings 28 = .ok (.goto 4, 3) := dk_167 0 4 (dk_at dksX3_swings_1 4 rfl rfl)
theorem dX3_swings_31 : decode cX3_swings 31 = .ok (.iconst 0, 1) := dk_3 (dk_at dksX3_swings_1 7 rfl rfl)
theorem dX3_swings_32 : decode cX3_swings 32 = .ok (.iadd, 1) := dk_96 (dk_at dksX3_swings_1 8 rfl rfl)
theorem dX3_swings_33 : decode cX3_swings 33 = .ok (.istore_n 2, 1) := dk_61 (dk_at dksX3_swings_1 9 rfl rfl)
theorem dX3_swings_34 : decode cX3_swings 34 = .ok (.iinc 3 1, 3) := dk_132 3 1 (dk_at dksX3_swings_1 10 rfl rfl)
theorem dX3_swings_37 : decode cX3_swings 37 = .ok (.goto (-33), 3) := dk_167 255 223 (dk_at dksX3_swings_1 13 rfl rfl)
theorem dX3_swings_40 : decode cX3_swings 40 = .ok (.iload_n 2, 1) := dk_28 (dk_at dksX3_swings_1 16 rfl rfl)
theorem dX3_swings_41 : decode cX3_swings 41 = .ok (.ireturn, 1) := dk_172 (dk_at dksX3_swings_1 17 rfl rfl)
abbrev cX3_isSwing : ByteArray := prog_14_method_113_code
def yX3_isSwing : MethodName := ⟨RX3, "isSwing", "(II)Z"⟩
def dkwX3_isSwing_1 : List UInt8 := [182, 1, 200, 153, 0, 7, 4, 167, 0, 4, 3, 172]
abbrev dktX3_isSwing_1 : List UInt8 := dkwX3_isSwing_1 ++ []
def dkwX3_isSwing_0 : List UInt8 := [28, 27, 122, 4, 126, 154, 0, 27, 42, 28, 182, 1, 200, 154, 0, 19, 42, 28, 4, 27, 120, 128]
abbrev dktX3_isSwing_0 : List UInt8 := dkwX3_isSwing_0 ++ dktX3_isSwing_1
theorem dksX3_isSwing_0 : cX3_isSwing.data.toList.drop 0 = dktX3_isSwing_0 := by decide +kernel
theorem dksX3_isSwing_1 : cX3_isSwing.data.toList.drop 22 = dktX3_isSwing_1 := dk_seg dksX3_isSwing_0 22 rfl rfl
theorem dX3_isSwing_0 : decode cX3_isSwing 0 = .ok (.iload_n 2, 1) := dk_28 (dk_at dksX3_isSwing_0 0 rfl rfl)
theorem dX3_isSwing_1 : decode cX3_isSwing 1 = .ok (.iload_n 1, 1) := dk_27 (dk_at dksX3_isSwing_0 1 rfl rfl)
theorem dX3_isSwing_2 : decode cX3_isSwing 2 = .ok (.ishr, 1) := dk_122 (dk_at dksX3_isSwing_0 2 rfl rfl)
theorem dX3_isSwing_3 : decode cX3_isSwing 3 = .ok (.iconst 1, 1) := dk_4 (dk_at dksX3_isSwing_0 3 rfl rfl)
theorem dX3_isSwing_4 : decode cX3_isSwing 4 = .ok (.iand, 1) := dk_126 (dk_at dksX3_isSwing_0 4 rfl rfl)
theorem dX3_isSwing_5 : decode cX3_isSwing 5 = .ok (.ifCond .ne 27, 3) := dk_154 0 27 (dk_at dksX3_isSwing_0 5 rfl rfl)
theorem dX3_isSwing_8 : decode cX3_isSwing 8 = .ok (.aload_n 0, 1) := dk_42 (dk_at dksX3_isSwing_0 8 rfl rfl)
theorem dX3_isSwing_9 : decode cX3_isSwing 9 = .ok (.iload_n 2, 1) := dk_28 (dk_at dksX3_isSwing_0 9 rfl rfl)
theorem dX3_isSwing_10 : decode cX3_isSwing 10 = .ok (.invokevirtual 456, 3) := dk_182 1 200 (dk_at dksX3_isSwing_0 10 rfl rfl)
theorem dX3_isSwing_13 : decode cX3_isSwing 13 = .ok (.ifCond .ne 19, 3) := dk_154 0 19 (dk_at dksX3_isSwing_0 13 rfl rfl)
theorem dX3_isSwing_16 : decode cX3_isSwing 16 = .ok (.aload_n 0, 1) := dk_42 (dk_at dksX3_isSwing_0 16 rfl rfl)
theorem dX3_isSwing_17 : decode cX3_isSwing 17 = .ok (.iload_n 2, 1) := dk_28 (dk_at dksX3_isSwing_0 17 rfl rfl)
theorem dX3_isSwing_18 : decode cX3_isSwing 18 = .ok (.iconst 1, 1) := dk_4 (dk_at dksX3_isSwing_0 18 rfl rfl)
theorem dX3_isSwing_19 : decode cX3_isSwing 19 = .ok (.iload_n 1, 1) := dk_27 (dk_at dksX3_isSwing_0 19 rfl rfl)
theorem dX3_isSwing_20 : decode cX3_isSwing 20 = .ok (.ishl, 1) := dk_120 (dk_at dksX3_isSwing_0 20 rfl rfl)
theorem dX3_isSwing_21 : decode cX3_isSwing 21 = .ok (.ior, 1) := dk_128 (dk_at dksX3_isSwing_0 21 rfl rfl)
theorem dX3_isSwing_22 : decode cX3_isSwing 22 = .ok (.invokevirtual 456, 3) := dk_182 1 200 (dk_at dksX3_isSwing_1 0 rfl rfl)
theorem dX3_isSwing_25 : decode cX3_isSwing 25 = .ok (.ifCond .eq 7, 3) := dk_153 0 7 (dk_at dksX3_isSwing_1 3 rfl rfl)
theorem dX3_isSwing_28 : decode cX3_isSwing 28 = .ok (.iconst 1, 1) := dk_4 (dk_at dksX3_isSwing_1 6 rfl rfl)
theorem dX3_isSwing_29 : decode cX3_isSwing 29 = .ok (.goto 4, 3) := dk_167 0 4 (dk_at dksX3_isSwing_1 7 rfl rfl)
theorem dX3_isSwing_32 : decode cX3_isSwing 32 = .ok (.iconst 0, 1) := dk_3 (dk_at dksX3_isSwing_1 10 rfl rfl)
theorem dX3_isSwing_33 : decode cX3_isSwing 33 = .ok (.ireturn, 1) := dk_172 (dk_at dksX3_isSwing_1 11 rfl rfl)
abbrev cX3_power : ByteArray := prog_14_method_115_code
def yX3_power : MethodName := ⟨RX3, "power", "(I)I"⟩
def dkwX3_power_2 : List UInt8 := [184, 1, 203, 104, 167, 0, 4, 3, 96, 61, 132, 3, 1, 167, 255, 199, 28, 172]
abbrev dktX3_power_2 : List UInt8 := dkwX3_power_2 ++ []
def dkwX3_power_1 : List UInt8 := [153, 0, 31, 29, 184, 1, 146, 184, 1, 203, 42, 180, 0, 7, 16, 96, 46, 4, 100, 29, 184, 1, 146, 100]
abbrev dktX3_power_1 : List UInt8 := dkwX3_power_1 ++ dktX3_power_2
def dkwX3_power_0 : List UInt8 := [3, 61, 3, 62, 29, 4, 42, 180, 0, 7, 16, 96, 46, 120, 162, 0, 50, 28, 42, 27, 29, 182, 1, 206]
abbrev dktX3_power_0 : List UInt8 := dkwX3_power_0 ++ dktX3_power_1
theorem dksX3_power_0 : cX3_power.data.toList.drop 0 = dktX3_power_0 := by decide +kernel
theorem dksX3_power_1 : cX3_power.data.toList.drop 24 = dktX3_power_1 := dk_seg dksX3_power_0 24 rfl rfl
theorem dksX3_power_2 : cX3_power.data.toList.drop 48 = dktX3_power_2 := dk_seg dksX3_power_1 24 rfl rfl
theorem dX3_power_0 : decode cX3_power 0 = .ok (.iconst 0, 1) := dk_3 (dk_at dksX3_power_0 0 rfl rfl)
theorem dX3_power_1 : decode cX3_power 1 = .ok (.istore_n 2, 1) := dk_61 (dk_at dksX3_power_0 1 rfl rfl)
theorem dX3_power_2 : decode cX3_power 2 = .ok (.iconst 0, 1) := dk_3 (dk_at dksX3_power_0 2 rfl rfl)
theorem dX3_power_3 : decode cX3_power 3 = .ok (.istore_n 3, 1) := dk_62 (dk_at dksX3_power_0 3 rfl rfl)
theorem dX3_power_4 : decode cX3_power 4 = .ok (.iload_n 3, 1) := dk_29 (dk_at dksX3_power_0 4 rfl rfl)
theorem dX3_power_5 : decode cX3_power 5 = .ok (.iconst 1, 1) := dk_4 (dk_at dksX3_power_0 5 rfl rfl)
theorem dX3_power_6 : decode cX3_power 6 = .ok (.aload_n 0, 1) := dk_42 (dk_at dksX3_power_0 6 rfl rfl)
theorem dX3_power_7 : decode cX3_power 7 = .ok (.getfield 7, 3) := dk_180 0 7 (dk_at dksX3_power_0 7 rfl rfl)
theorem dX3_power_10 : decode cX3_power 10 = .ok (.bipush 96, 2) := dk_16 96 (dk_at dksX3_power_0 10 rfl rfl)
theorem dX3_power_12 : decode cX3_power 12 = .ok (.iaload, 1) := dk_46 (dk_at dksX3_power_0 12 rfl rfl)
theorem dX3_power_13 : decode cX3_power 13 = .ok (.ishl, 1) := dk_120 (dk_at dksX3_power_0 13 rfl rfl)
theorem dX3_power_14 : decode cX3_power 14 = .ok (.if_icmp .ge 50, 3) := dk_162 0 50 (dk_at dksX3_power_0 14 rfl rfl)
theorem dX3_power_17 : decode cX3_power 17 = .ok (.iload_n 2, 1) := dk_28 (dk_at dksX3_power_0 17 rfl rfl)
theorem dX3_power_18 : decode cX3_power 18 = .ok (.aload_n 0, 1) := dk_42 (dk_at dksX3_power_0 18 rfl rfl)
theorem dX3_power_19 : decode cX3_power 19 = .ok (.iload_n 1, 1) := dk_27 (dk_at dksX3_power_0 19 rfl rfl)
theorem dX3_power_20 : decode cX3_power 20 = .ok (.iload_n 3, 1) := dk_29 (dk_at dksX3_power_0 20 rfl rfl)
theorem dX3_power_21 : decode cX3_power 21 = .ok (.invokevirtual 462, 3) := dk_182 1 206 (dk_at dksX3_power_0 21 rfl rfl)
theorem dX3_power_24 : decode cX3_power 24 = .ok (.ifCond .eq 31, 3) := dk_153 0 31 (dk_at dksX3_power_1 0 rfl rfl)
theorem dX3_power_27 : decode cX3_power 27 = .ok (.iload_n 3, 1) := dk_29 (dk_at dksX3_power_1 3 rfl rfl)
theorem dX3_power_28 : decode cX3_power 28 = .ok (.invokestatic 402, 3) := dk_184 1 146 (dk_at dksX3_power_1 4 rfl rfl)
theorem dX3_power_31 : decode cX3_power 31 = .ok (.invokestatic 459, 3) := dk_184 1 203 (dk_at dksX3_power_1 7 rfl rfl)
theorem dX3_power_34 : decode cX3_power 34 = .ok (.aload_n 0, 1) := dk_42 (dk_at dksX3_power_1 10 rfl rfl)
theorem dX3_power_35 : decode cX3_power 35 = .ok (.getfield 7, 3) := dk_180 0 7 (dk_at dksX3_power_1 11 rfl rfl)
theorem dX3_power_38 : decode cX3_power 38 = .ok (.bipush 96, 2) := dk_16 96 (dk_at dksX3_power_1 14 rfl rfl)
theorem dX3_power_40 : decode cX3_power 40 = .ok (.iaload, 1) := dk_46 (dk_at dksX3_power_1 16 rfl rfl)
theorem dX3_power_41 : decode cX3_power 41 = .ok (.iconst 1, 1) := dk_4 (dk_at dksX3_power_1 17 rfl rfl)
theorem dX3_power_42 : decode cX3_power 42 = .ok (.isub, 1) := dk_100 (dk_at dksX3_power_1 18 rfl rfl)
theorem dX3_power_43 : decode cX3_power 43 = .ok (.iload_n 3, 1) := dk_29 (dk_at dksX3_power_1 19 rfl rfl)
theorem dX3_power_44 : decode cX3_power 44 = .ok (.invokestatic 402, 3) := dk_184 1 146 (dk_at dksX3_power_1 20 rfl rfl)
theorem dX3_power_47 : decode cX3_power 47 = .ok (.isub, 1) := dk_100 (dk_at dksX3_power_1 23 rfl rfl)
theorem dX3_power_48 : decode cX3_power 48 = .ok (.invokestatic 459, 3) := dk_184 1 203 (dk_at dksX3_power_2 0 rfl rfl)
theorem dX3_power_51 : decode cX3_power 51 = .ok (.imul, 1) := dk_104 (dk_at dksX3_power_2 3 rfl rfl)
theorem dX3_power_52 : decode cX3_power 52 = .ok (.goto 4, 3) := dk_167 0 4 (dk_at dksX3_power_2 4 rfl rfl)
theorem dX3_power_55 : decode cX3_power 55 = .ok (.iconst 0, 1) := dk_3 (dk_at dksX3_power_2 7 rfl rfl)
theorem dX3_power_56 : decode cX3_power 56 = .ok (.iadd, 1) := dk_96 (dk_at dksX3_power_2 8 rfl rfl)
theorem dX3_power_57 : decode cX3_power 57 = .ok (.istore_n 2, 1) := dk_61 (dk_at dksX3_power_2 9 rfl rfl)
theorem dX3_power_58 : decode cX3_power 58 = .ok (.iinc 3 1, 3) := dk_132 3 1 (dk_at dksX3_power_2 10 rfl rfl)
theorem dX3_power_61 : decode cX3_power 61 = .ok (.goto (-57), 3) := dk_167 255 199 (dk_at dksX3_power_2 13 rfl rfl)
theorem dX3_power_64 : decode cX3_power 64 = .ok (.iload_n 2, 1) := dk_28 (dk_at dksX3_power_2 16 rfl rfl)
theorem dX3_power_65 : decode cX3_power 65 = .ok (.ireturn, 1) := dk_172 (dk_at dksX3_power_2 17 rfl rfl)
abbrev cX3_orders1 : ByteArray := prog_14_method_112_code
def yX3_orders1 : MethodName := ⟨RX3, "orders1", "(I)I"⟩
def dkwX3_orders1_0 : List UInt8 := [26, 5, 162, 0, 7, 4, 167, 0, 11, 26, 26, 4, 100, 184, 1, 203, 104, 172]
abbrev dktX3_orders1_0 : List UInt8 := dkwX3_orders1_0 ++ []
theorem dksX3_orders1_0 : cX3_orders1.data.toList.drop 0 = dktX3_orders1_0 := by decide +kernel
theorem dX3_orders1_0 : decode cX3_orders1 0 = .ok (.iload_n 0, 1) := dk_26 (dk_at dksX3_orders1_0 0 rfl rfl)
theorem dX3_orders1_1 : decode cX3_orders1 1 = .ok (.iconst 2, 1) := dk_5 (dk_at dksX3_orders1_0 1 rfl rfl)
theorem dX3_orders1_2 : decode cX3_orders1 2 = .ok (.if_icmp .ge 7, 3) := dk_162 0 7 (dk_at dksX3_orders1_0 2 rfl rfl)
theorem dX3_orders1_5 : decode cX3_orders1 5 = .ok (.iconst 1, 1) := dk_4 (dk_at dksX3_orders1_0 5 rfl rfl)
theorem dX3_orders1_6 : decode cX3_orders1 6 = .ok (.goto 11, 3) := dk_167 0 11 (dk_at dksX3_orders1_0 6 rfl rfl)
theorem dX3_orders1_9 : decode cX3_orders1 9 = .ok (.iload_n 0, 1) := dk_26 (dk_at dksX3_orders1_0 9 rfl rfl)
theorem dX3_orders1_10 : decode cX3_orders1 10 = .ok (.iload_n 0, 1) := dk_26 (dk_at dksX3_orders1_0 10 rfl rfl)
theorem dX3_orders1_11 : decode cX3_orders1 11 = .ok (.iconst 1, 1) := dk_4 (dk_at dksX3_orders1_0 11 rfl rfl)
theorem dX3_orders1_12 : decode cX3_orders1 12 = .ok (.isub, 1) := dk_100 (dk_at dksX3_orders1_0 12 rfl rfl)
theorem dX3_orders1_13 : decode cX3_orders1 13 = .ok (.invokestatic 459, 3) := dk_184 1 203 (dk_at dksX3_orders1_0 13 rfl rfl)
theorem dX3_orders1_16 : decode cX3_orders1 16 = .ok (.imul, 1) := dk_104 (dk_at dksX3_orders1_0 16 rfl rfl)
theorem dX3_orders1_17 : decode cX3_orders1 17 = .ok (.ireturn, 1) := dk_172 (dk_at dksX3_orders1_0 17 rfl rfl)
abbrev cX3_mateOf : ByteArray := prog_14_method_128_code
def yX3_mateOf : MethodName := ⟨RX3, "mateOf", "(I)I"⟩
def dkwX3_mateOf_0 : List UInt8 := [42, 182, 1, 237, 42, 180, 0, 58, 27, 46, 172]
abbrev dktX3_mateOf_0 : List UInt8 := dkwX3_mateOf_0 ++ []
theorem dksX3_mateOf_0 : cX3_mateOf.data.toList.drop 0 = dktX3_mateOf_0 := by decide +kernel
theorem dX3_mateOf_0 : decode cX3_mateOf 0 = .ok (.aload_n 0, 1) := dk_42 (dk_at dksX3_mateOf_0 0 rfl rfl)
theorem dX3_mateOf_1 : decode cX3_mateOf 1 = .ok (.invokevirtual 493, 3) := dk_182 1 237 (dk_at dksX3_mateOf_0 1 rfl rfl)
theorem dX3_mateOf_4 : decode cX3_mateOf 4 = .ok (.aload_n 0, 1) := dk_42 (dk_at dksX3_mateOf_0 4 rfl rfl)
theorem dX3_mateOf_5 : decode cX3_mateOf 5 = .ok (.getfield 58, 3) := dk_180 0 58 (dk_at dksX3_mateOf_0 5 rfl rfl)
theorem dX3_mateOf_8 : decode cX3_mateOf 8 = .ok (.iload_n 1, 1) := dk_27 (dk_at dksX3_mateOf_0 8 rfl rfl)
theorem dX3_mateOf_9 : decode cX3_mateOf 9 = .ok (.iaload, 1) := dk_46 (dk_at dksX3_mateOf_0 9 rfl rfl)
theorem dX3_mateOf_10 : decode cX3_mateOf 10 = .ok (.ireturn, 1) := dk_172 (dk_at dksX3_mateOf_0 10 rfl rfl)
abbrev cX3_laysMates : ByteArray := prog_14_method_119_code
def yX3_laysMates : MethodName := ⟨RX3, "laysMates", "()V"⟩
def dkwX3_laysMates_2 : List UInt8 := [16, 97, 46, 162, 0, 14, 42, 27, 182, 1, 218, 132, 1, 1, 167, 255, 237, 177]
abbrev dktX3_laysMates_2 : List UInt8 := dkwX3_laysMates_2 ++ []
def dkwX3_laysMates_1 : List UInt8 := [7, 162, 0, 16, 42, 180, 0, 61, 27, 3, 79, 132, 1, 1, 167, 255, 241, 3, 60, 27, 42, 180, 0, 7]
abbrev dktX3_laysMates_1 : List UInt8 := dkwX3_laysMates_1 ++ dktX3_laysMates_2
def dkwX3_laysMates_0 : List UInt8 := [3, 60, 27, 16, 8, 162, 0, 16, 42, 180, 0, 58, 27, 2, 79, 132, 1, 1, 167, 255, 240, 3, 60, 27]
abbrev dktX3_laysMates_0 : List UInt8 := dkwX3_laysMates_0 ++ dktX3_laysMates_1
theorem dksX3_laysMates_0 : cX3_laysMates.data.toList.drop 0 = dktX3_laysMates_0 := by decide +kernel
theorem dksX3_laysMates_1 : cX3_laysMates.data.toList.drop 24 = dktX3_laysMates_1 := dk_seg dksX3_laysMates_0 24 rfl rfl
theorem dksX3_laysMates_2 : cX3_laysMates.data.toList.drop 48 = dktX3_laysMates_2 := dk_seg dksX3_laysMates_1 24 rfl rfl
theorem dX3_laysMates_0 : decode cX3_laysMates 0 = .ok (.iconst 0, 1) := dk_3 (dk_at dksX3_laysMates_0 0 rfl rfl)
theorem dX3_laysMates_1 : decode cX3_laysMates 1 = .ok (.istore_n 1, 1) := dk_60 (dk_at dksX3_laysMates_0 1 rfl rfl)
theorem dX3_laysMates_2 : decode cX3_laysMates 2 = .ok (.iload_n 1, 1) := dk_27 (dk_at dksX3_laysMates_0 2 rfl rfl)
theorem dX3_laysMates_3 : decode cX3_laysMates 3 = .ok (.bipush 8, 2) := dk_16 8 (dk_at dksX3_laysMates_0 3 rfl rfl)
theorem dX3_laysMates_5 : decode cX3_laysMates 5 = .ok (.if_icmp .ge 16, 3) := dk_162 0 16 (dk_at dksX3_laysMates_0 5 rfl rfl)
theorem dX3_laysMates_8 : decode cX3_laysMates 8 = .ok (.aload_n 0, 1) := dk_42 (dk_at dksX3_laysMates_0 8 rfl rfl)
theorem dX3_laysMates_9 : decode cX3_laysMates 9 = .ok (.getfield 58, 3) := dk_180 0 58 (dk_at dksX3_laysMates_0 9 rfl rfl)
theorem dX3_laysMates_12 : decode cX3_laysMates 12 = .ok (.iload_n 1, 1) := dk_27 (dk_at dksX3_laysMates_0 12 rfl rfl)
theorem dX3_laysMates_13 : decode cX3_laysMates 13 = .ok (.iconst (-1), 1) := dk_2 (dk_at dksX3_laysMates_0 13 rfl rfl)
theorem dX3_laysMates_14 : decode cX3_laysMates 14 = .ok (.iastore, 1) := dk_79 (dk_at dksX3_laysMates_0 14 rfl rfl)
theorem dX3_laysMates_15 : decode cX3_laysMates 15 = .ok (.iinc 1 1, 3) := dk_132 1 1 (dk_at dksX3_laysMates_0 15 rfl rfl)
theorem dX3_laysMates_18 : decode cX3_laysMates 18 = .ok (.goto (-16), 3) := dk_167 255 240 (dk_at dksX3_laysMates_0 18 rfl rfl)
theorem dX3_laysMates_21 : decode cX3_laysMates 21 = .ok (.iconst 0, 1) := dk_3 (dk_at dksX3_laysMates_0 21 rfl rfl)
theorem dX3_laysMates_22 : decode cX3_laysMates 22 = .ok (.istore_n 1, 1) := dk_60 (dk_at dksX3_laysMates_0 22 rfl rfl)
theorem dX3_laysMates_23 : decode cX3_laysMates 23 = .ok (.iload_n 1, 1) := dk_27 (dk_at dksX3_laysMates_0 23 rfl rfl)
theorem dX3_laysMates_24 : decode cX3_laysMates 24 = .ok (.iconst 4, 1) := dk_7 (dk_at dksX3_laysMates_1 0 rfl rfl)
theorem dX3_laysMates_25 : decode cX3_laysMates 25 = .ok (.if_icmp .ge 16, 3) := dk_162 0 16 (dk_at dksX3_laysMates_1 1 rfl rfl)
theorem dX3_laysMates_28 : decode cX3_laysMates 28 = .ok (.aload_n 0, 1) := dk_42 (dk_at dksX3_laysMates_1 4 rfl rfl)
theorem dX3_laysMates_29 : decode cX3_laysMates 29 = .ok (.getfield 61, 3) := dk_180 0 61 (dk_at dksX3_laysMates_1 5 rfl rfl)
theorem dX3_laysMates_32 : decode cX3_laysMates 32 = .ok (.iload_n 1, 1) := dk_27 (dk_at dksX3_laysMates_1 8 rfl rfl)
theorem dX3_laysMates_33 : decode cX3_laysMates 33 = .ok (.iconst 0, 1) := dk_3 (dk_at dksX3_laysMates_1 9 rfl rfl)
theorem dX3_laysMates_34 : decode cX3_laysMates 34 = .ok (.iastore, 1) := dk_79 (dk_at dksX3_laysMates_1 10 rfl rfl)
theorem dX3_laysMates_35 : decode cX3_laysMates 35 = .ok (.iinc 1 1, 3) := dk_132 1 1 (dk_at dksX3_laysMates_1 11 rfl rfl)
theorem dX3_laysMates_38 : decode cX3_laysMates 38 = .ok (.goto (-15), 3) := dk_167 255 241 (dk_at dksX3_laysMates_1 14 rfl rfl)
theorem dX3_laysMates_41 : decode cX3_laysMates 41 = .ok (.iconst 0, 1) := dk_3 (dk_at dksX3_laysMates_1 17 rfl rfl)
theorem dX3_laysMates_42 : decode cX3_laysMates 42 = .ok (.istore_n 1, 1) := dk_60 (dk_at dksX3_laysMates_1 18 rfl rfl)
theorem dX3_laysMates_43 : decode cX3_laysMates 43 = .ok (.iload_n 1, 1) := dk_27 (dk_at dksX3_laysMates_1 19 rfl rfl)
theorem dX3_laysMates_44 : decode cX3_laysMates 44 = .ok (.aload_n 0, 1) := dk_42 (dk_at dksX3_laysMates_1 20 rfl rfl)
theorem dX3_laysMates_45 : decode cX3_laysMates 45 = .ok (.getfield 7, 3) := dk_180 0 7 (dk_at dksX3_laysMates_1 21 rfl rfl)
theorem dX3_laysMates_48 : decode cX3_laysMates 48 = .ok (.bipush 97, 2) := dk_16 97 (dk_at dksX3_laysMates_2 0 rfl rfl)
theorem dX3_laysMates_50 : decode cX3_laysMates 50 = .ok (.iaload, 1) := dk_46 (dk_at dksX3_laysMates_2 2 rfl rfl)
theorem dX3_laysMates_51 : decode cX3_laysMates 51 = .ok (.if_icmp .ge 14, 3) := dk_162 0 14 (dk_at dksX3_laysMates_2 3 rfl rfl)
theorem dX3_laysMates_54 : decode cX3_laysMates 54 = .ok (.aload_n 0, 1) := dk_42 (dk_at dksX3_laysMates_2 6 rfl rfl)
theorem dX3_laysMates_55 : decode cX3_laysMates 55 = .ok (.iload_n 1, 1) := dk_27 (dk_at dksX3_laysMates_2 7 rfl rfl)
theorem dX3_laysMates_56 : decode cX3_laysMates 56 = .ok (.invokevirtual 474, 3) := dk_182 1 218 (dk_at dksX3_laysMates_2 8 rfl rfl)
theorem dX3_laysMates_59 : decode cX3_laysMates 59 = .ok (.iinc 1 1, 3) := dk_132 1 1 (dk_at dksX3_laysMates_2 11 rfl rfl)
theorem dX3_laysMates_62 : decode cX3_laysMates 62 = .ok (.goto (-19), 3) := dk_167 255 237 (dk_at dksX3_laysMates_2 14 rfl rfl)
theorem dX3_laysMates_65 : decode cX3_laysMates 65 = .ok (.return_, 1) := dk_177 (dk_at dksX3_laysMates_2 17 rfl rfl)
abbrev cX3_asksFor : ByteArray := prog_14_method_118_code
def yX3_asksFor : MethodName := ⟨RX3, "asksFor", "(I)V"⟩
def dkwX3_asksFor_2 : List UInt8 := [21, 4, 182, 1, 215, 153, 0, 13, 42, 180, 0, 58, 29, 28, 79, 21, 4, 61, 167, 255, 192, 177]
abbrev dktX3_asksFor_2 : List UInt8 := dkwX3_asksFor_2 ++ []
def dkwX3_asksFor_1 : List UInt8 := [92, 46, 4, 29, 120, 128, 79, 42, 180, 0, 58, 29, 46, 54, 4, 21, 4, 2, 159, 0, 14, 42, 29, 28]
abbrev dktX3_asksFor_1 : List UInt8 := dkwX3_asksFor_1 ++ dktX3_asksFor_2
def dkwX3_asksFor_0 : List UInt8 := [27, 61, 28, 2, 159, 0, 65, 42, 28, 182, 1, 212, 62, 29, 2, 160, 0, 4, 177, 42, 180, 0, 61, 28]
abbrev dktX3_asksFor_0 : List UInt8 := dkwX3_asksFor_0 ++ dktX3_asksFor_1
theorem dksX3_asksFor_0 : cX3_asksFor.data.toList.drop 0 = dktX3_asksFor_0 := by decide +kernel
theorem dksX3_asksFor_1 : cX3_asksFor.data.toList.drop 24 = dktX3_asksFor_1 := dk_seg dksX3_asksFor_0 24 rfl rfl
theorem dksX3_asksFor_2 : cX3_asksFor.data.toList.drop 48 = dktX3_asksFor_2 := dk_seg dksX3_asksFor_1 24 rfl rfl
theorem dX3_asksFor_0 : decode cX3_asksFor 0 = .ok (.iload_n 1, 1) := dk_27 (dk_at dksX3_asksFor_0 0 rfl rfl)
theorem dX3_asksFor_1 : decode cX3_asksFor 1 = .ok (.istore_n 2, 1) := dk_61 (dk_at dksX3_asksFor_0 1 rfl rfl)
theorem dX3_asksFor_2 : decode cX3_asksFor 2 = .ok (.iload_n 2, 1) := dk_28 (dk_at dksX3_asksFor_0 2 rfl rfl)
theorem dX3_asksFor_3 : decode cX3_asksFor 3 = .ok (.iconst (-1), 1) := dk_2 (dk_at dksX3_asksFor_0 3 rfl rfl)
theorem dX3_asksFor_4 : decode cX3_asksFor 4 = .ok (.if_icmp .eq 65, 3) := dk_159 0 65 (dk_at dksX3_asksFor_0 4 rfl rfl)
theorem dX3_asksFor_7 : decode cX3_asksFor 7 = .ok (.aload_n 0, 1) := dk_42 (dk_at dksX3_asksFor_0 7 rfl rfl)
theorem dX3_asksFor_8 : decode cX3_asksFor 8 = .ok (.iload_n 2, 1) := dk_28 (dk_at dksX3_asksFor_0 8 rfl rfl)
theorem dX3_asksFor_9 : decode cX3_asksFor 9 = .ok (.invokevirtual 468, 3) := dk_182 1 212 (dk_at dksX3_asksFor_0 9 rfl rfl)
theorem dX3_asksFor_12 : decode cX3_asksFor 12 = .ok (.istore_n 3, 1) := dk_62 (dk_at dksX3_asksFor_0 12 rfl rfl)
theorem dX3_asksFor_13 : decode cX3_asksFor 13 = .ok (.iload_n 3, 1) := dk_29 (dk_at dksX3_asksFor_0 13 rfl rfl)
theorem dX3_asksFor_14 : decode cX3_asksFor 14 = .ok (.iconst (-1), 1) := dk_2 (dk_at dksX3_asksFor_0 14 rfl rfl)
theorem dX3_asksFor_15 : decode cX3_asksFor 15 = .ok (.if_icmp .ne 4, 3) := dk_160 0 4 (dk_at dksX3_asksFor_0 15 rfl rfl)
theorem dX3_asksFor_18 : decode cX3_asksFor 18 = .ok (.return_, 1) := dk_177 (dk_at dksX3_asksFor_0 18 rfl rfl)
theorem dX3_asksFor_19 : decode cX3_asksFor 19 = .ok (.aload_n 0, 1) := dk_42 (dk_at dksX3_asksFor_0 19 rfl rfl)
theorem dX3_asksFor_20 : decode cX3_asksFor 20 = .ok (.getfield 61, 3) := dk_180 0 61 (dk_at dksX3_asksFor_0 20 rfl rfl)
theorem dX3_asksFor_23 : decode cX3_asksFor 23 = .ok (.iload_n 2, 1) := dk_28 (dk_at dksX3_asksFor_0 23 rfl rfl)
theorem dX3_asksFor_24 : decode cX3_asksFor 24 = .ok (.dup2, 1) := dk_92 (dk_at dksX3_asksFor_1 0 rfl rfl)
theorem dX3_asksFor_25 : decode cX3_asksFor 25 = .ok (.iaload, 1) := dk_46 (dk_at dksX3_asksFor_1 1 rfl rfl)
theorem dX3_asksFor_26 : decode cX3_asksFor 26 = .ok (.iconst 1, 1) := dk_4 (dk_at dksX3_asksFor_1 2 rfl rfl)
theorem dX3_asksFor_27 : decode cX3_asksFor 27 = .ok (.iload_n 3, 1) := dk_29 (dk_at dksX3_asksFor_1 3 rfl rfl)
theorem dX3_asksFor_28 : decode cX3_asksFor 28 = .ok (.ishl, 1) := dk_120 (dk_at dksX3_asksFor_1 4 rfl rfl)
theorem dX3_asksFor_29 : decode cX3_asksFor 29 = .ok (.ior, 1) := dk_128 (dk_at dksX3_asksFor_1 5 rfl rfl)
theorem dX3_asksFor_30 : decode cX3_asksFor 30 = .ok (.iastore, 1) := dk_79 (dk_at dksX3_asksFor_1 6 rfl rfl)
theorem dX3_asksFor_31 : decode cX3_asksFor 31 = .ok (.aload_n 0, 1) := dk_42 (dk_at dksX3_asksFor_1 7 rfl rfl)
theorem dX3_asksFor_32 : decode cX3_asksFor 32 = .ok (.getfield 58, 3) := dk_180 0 58 (dk_at dksX3_asksFor_1 8 rfl rfl)
theorem dX3_asksFor_35 : decode cX3_asksFor 35 = .ok (.iload_n 3, 1) := dk_29 (dk_at dksX3_asksFor_1 11 rfl rfl)
theorem dX3_asksFor_36 : decode cX3_asksFor 36 = .ok (.iaload, 1) := dk_46 (dk_at dksX3_asksFor_1 12 rfl rfl)
theorem dX3_asksFor_37 : decode cX3_asksFor 37 = .ok (.istore 4, 2) := dk_54 4 (dk_at dksX3_asksFor_1 13 rfl rfl)
theorem dX3_asksFor_39 : decode cX3_asksFor 39 = .ok (.iload 4, 2) := dk_21 4 (dk_at dksX3_asksFor_1 15 rfl rfl)
theorem dX3_asksFor_41 : decode cX3_asksFor 41 = .ok (.iconst (-1), 1) := dk_2 (dk_at dksX3_asksFor_1 17 rfl rfl)
theorem dX3_asksFor_42 : decode cX3_asksFor 42 = .ok (.if_icmp .eq 14, 3) := dk_159 0 14 (dk_at dksX3_asksFor_1 18 rfl rfl)
theorem dX3_asksFor_45 : decode cX3_asksFor 45 = .ok (.aload_n 0, 1) := dk_42 (dk_at dksX3_asksFor_1 21 rfl rfl)
theorem dX3_asksFor_46 : decode cX3_asksFor 46 = .ok (.iload_n 3, 1) := dk_29 (dk_at dksX3_asksFor_1 22 rfl rfl)
theorem dX3_asksFor_47 : decode cX3_asksFor 47 = .ok (.iload_n 2, 1) := dk_28 (dk_at dksX3_asksFor_1 23 rfl rfl)
theorem dX3_asksFor_48 : decode cX3_asksFor 48 = .ok (.iload 4, 2) := dk_21 4 (dk_at dksX3_asksFor_2 0 rfl rfl)
theorem dX3_asksFor_50 : decode cX3_asksFor 50 = .ok (.invokevirtual 471, 3) := dk_182 1 215 (dk_at dksX3_asksFor_2 2 rfl rfl)
theorem dX3_asksFor_53 : decode cX3_asksFor 53 = .ok (.ifCond .eq 13, 3) := dk_153 0 13 (dk_at dksX3_asksFor_2 5 rfl rfl)
theorem dX3_asksFor_56 : decode cX3_asksFor 56 = .ok (.aload_n 0, 1) := dk_42 (dk_at dksX3_asksFor_2 8 rfl rfl)
theorem dX3_asksFor_57 : decode cX3_asksFor 57 = .ok (.getfield 58, 3) := dk_180 0 58 (dk_at dksX3_asksFor_2 9 rfl rfl)
theorem dX3_asksFor_60 : decode cX3_asksFor 60 = .ok (.iload_n 3, 1) := dk_29 (dk_at dksX3_asksFor_2 12 rfl rfl)
theorem dX3_asksFor_61 : decode cX3_asksFor 61 = .ok (.iload_n 2, 1) := dk_28 (dk_at dksX3_asksFor_2 13 rfl rfl)
theorem dX3_asksFor_62 : decode cX3_asksFor 62 = .ok (.iastore, 1) := dk_79 (dk_at dksX3_asksFor_2 14 rfl rfl)
theorem dX3_asksFor_63 : decode cX3_asksFor 63 = .ok (.iload 4, 2) := dk_21 4 (dk_at dksX3_asksFor_2 15 rfl rfl)
theorem dX3_asksFor_65 : decode cX3_asksFor 65 = .ok (.istore_n 2, 1) := dk_61 (dk_at dksX3_asksFor_2 17 rfl rfl)
theorem dX3_asksFor_66 : decode cX3_asksFor 66 = .ok (.goto (-64), 3) := dk_167 255 192 (dk_at dksX3_asksFor_2 18 rfl rfl)
theorem dX3_asksFor_69 : decode cX3_asksFor 69 = .ok (.return_, 1) := dk_177 (dk_at dksX3_asksFor_2 21 rfl rfl)
abbrev cX3_isRather : ByteArray := prog_14_method_117_code
def yX3_isRather : MethodName := ⟨RX3, "isRather", "(III)Z"⟩
def dkwX3_isRather_1 : List UInt8 := [21, 4, 21, 5, 160, 0, 12, 28, 29, 162, 0, 7, 4, 167, 0, 4, 3, 172]
abbrev dktX3_isRather_1 : List UInt8 := dkwX3_isRather_1 ++ []
def dkwX3_isRather_0 : List UInt8 := [42, 27, 28, 182, 1, 209, 54, 4, 42, 27, 29, 182, 1, 209, 54, 5, 21, 4, 21, 5, 163, 0, 15]
abbrev dktX3_isRather_0 : List UInt8 := dkwX3_isRather_0 ++ dktX3_isRather_1
theorem dksX3_isRather_0 : cX3_isRather.data.toList.drop 0 = dktX3_isRather_0 := by decide +kernel
theorem dksX3_isRather_1 : cX3_isRather.data.toList.drop 23 = dktX3_isRather_1 := dk_seg dksX3_isRather_0 23 rfl rfl
theorem dX3_isRather_0 : decode cX3_isRather 0 = .ok (.aload_n 0, 1) := dk_42 (dk_at dksX3_isRather_0 0 rfl rfl)
theorem dX3_isRather_1 : decode cX3_isRather 1 = .ok (.iload_n 1, 1) := dk_27 (dk_at dksX3_isRather_0 1 rfl rfl)
theorem dX3_isRather_2 : decode cX3_isRather 2 = .ok (.iload_n 2, 1) := dk_28 (dk_at dksX3_isRather_0 2 rfl rfl)
theorem dX3_isRather_3 : decode cX3_isRather 3 = .ok (.invokevirtual 465, 3) := dk_182 1 209 (dk_at dksX3_isRather_0 3 rfl rfl)
theorem dX3_isRather_6 : decode cX3_isRather 6 = .ok (.istore 4, 2) := dk_54 4 (dk_at dksX3_isRather_0 6 rfl rfl)
theorem dX3_isRather_8 : decode cX3_isRather 8 = .ok (.aload_n 0, 1) := dk_42 (dk_at dksX3_isRather_0 8 rfl rfl)
theorem dX3_isRather_9 : decode cX3_isRather 9 = .ok (.iload_n 1, 1) := dk_27 (dk_at dksX3_isRather_0 9 rfl rfl)
theorem dX3_isRather_10 : decode cX3_isRather 10 = .ok (.iload_n 3, 1) := dk_29 (dk_at dksX3_isRather_0 10 rfl rfl)
theorem dX3_isRather_11 : decode cX3_isRather 11 = .ok (.invokevirtual 465, 3) := dk_182 1 209 (dk_at dksX3_isRather_0 11 rfl rfl)
theorem dX3_isRather_14 : decode cX3_isRather 14 = .ok (.istore 5, 2) := dk_54 5 (dk_at dksX3_isRather_0 14 rfl rfl)
theorem dX3_isRather_16 : decode cX3_isRather 16 = .ok (.iload 4, 2) := dk_21 4 (dk_at dksX3_isRather_0 16 rfl rfl)
theorem dX3_isRather_18 : decode cX3_isRather 18 = .ok (.iload 5, 2) := dk_21 5 (dk_at dksX3_isRather_0 18 rfl rfl)
theorem dX3_isRather_20 : decode cX3_isRather 20 = .ok (.if_icmp .gt 15, 3) := dk_163 0 15 (dk_at dksX3_isRather_0 20 rfl rfl)
theorem dX3_isRather_23 : decode cX3_isRather 23 = .ok (.iload 4, 2) := dk_21 4 (dk_at dksX3_isRather_1 0 rfl rfl)
theorem dX3_isRather_25 : decode cX3_isRather 25 = .ok (.iload 5, 2) := dk_21 5 (dk_at dksX3_isRather_1 2 rfl rfl)
theorem dX3_isRather_27 : decode cX3_isRather 27 = .ok (.if_icmp .ne 12, 3) := dk_160 0 12 (dk_at dksX3_isRather_1 4 rfl rfl)
theorem dX3_isRather_30 : decode cX3_isRather 30 = .ok (.iload_n 2, 1) := dk_28 (dk_at dksX3_isRather_1 7 rfl rfl)
theorem dX3_isRather_31 : decode cX3_isRather 31 = .ok (.iload_n 3, 1) := dk_29 (dk_at dksX3_isRather_1 8 rfl rfl)
theorem dX3_isRather_32 : decode cX3_isRather 32 = .ok (.if_icmp .ge 7, 3) := dk_162 0 7 (dk_at dksX3_isRather_1 9 rfl rfl)
theorem dX3_isRather_35 : decode cX3_isRather 35 = .ok (.iconst 1, 1) := dk_4 (dk_at dksX3_isRather_1 12 rfl rfl)
theorem dX3_isRather_36 : decode cX3_isRather 36 = .ok (.goto 4, 3) := dk_167 0 4 (dk_at dksX3_isRather_1 13 rfl rfl)
theorem dX3_isRather_39 : decode cX3_isRather 39 = .ok (.iconst 0, 1) := dk_3 (dk_at dksX3_isRather_1 16 rfl rfl)
theorem dX3_isRather_40 : decode cX3_isRather 40 = .ok (.ireturn, 1) := dk_172 (dk_at dksX3_isRather_1 17 rfl rfl)
abbrev cX3_likeOf : ByteArray := prog_14_method_65_code
def yX3_likeOf : MethodName := ⟨RX3, "likeOf", "(II)I"⟩
def dkwX3_likeOf_0 : List UInt8 := [42, 27, 28, 182, 1, 60, 42, 16, 24, 3, 17, 252, 25, 17, 3, 231, 182, 1, 77, 172]
abbrev dktX3_likeOf_0 : List UInt8 := dkwX3_likeOf_0 ++ []
theorem dksX3_likeOf_0 : cX3_likeOf.data.toList.drop 0 = dktX3_likeOf_0 := by decide +kernel
theorem dX3_likeOf_0 : decode cX3_likeOf 0 = .ok (.aload_n 0, 1) := dk_42 (dk_at dksX3_likeOf_0 0 rfl rfl)
theorem dX3_likeOf_1 : decode cX3_likeOf 1 = .ok (.iload_n 1, 1) := dk_27 (dk_at dksX3_likeOf_0 1 rfl rfl)
theorem dX3_likeOf_2 : decode cX3_likeOf 2 = .ok (.iload_n 2, 1) := dk_28 (dk_at dksX3_likeOf_0 2 rfl rfl)
theorem dX3_likeOf_3 : decode cX3_likeOf 3 = .ok (.invokevirtual 316, 3) := dk_182 1 60 (dk_at dksX3_likeOf_0 3 rfl rfl)
theorem dX3_likeOf_6 : decode cX3_likeOf 6 = .ok (.aload_n 0, 1) := dk_42 (dk_at dksX3_likeOf_0 6 rfl rfl)
theorem dX3_likeOf_7 : decode cX3_likeOf 7 = .ok (.bipush 24, 2) := dk_16 24 (dk_at dksX3_likeOf_0 7 rfl rfl)
theorem dX3_likeOf_9 : decode cX3_likeOf 9 = .ok (.iconst 0, 1) := dk_3 (dk_at dksX3_likeOf_0 9 rfl rfl)
theorem dX3_likeOf_10 : decode cX3_likeOf 10 = .ok (.sipush (-999), 3) := dk_17 252 25 (dk_at dksX3_likeOf_0 10 rfl rfl)
theorem dX3_likeOf_13 : decode cX3_likeOf 13 = .ok (.sipush 999, 3) := dk_17 3 231 (dk_at dksX3_likeOf_0 13 rfl rfl)
theorem dX3_likeOf_16 : decode cX3_likeOf 16 = .ok (.invokevirtual 333, 3) := dk_182 1 77 (dk_at dksX3_likeOf_0 16 rfl rfl)
theorem dX3_likeOf_19 : decode cX3_likeOf 19 = .ok (.ireturn, 1) := dk_172 (dk_at dksX3_likeOf_0 19 rfl rfl)
abbrev cX3_at : ByteArray := prog_14_method_130_code
def yX3_at : MethodName := ⟨RX3, "at", "(II)I"⟩
def dkwX3_at_1 : List UInt8 := [162, 0, 10, 42, 27, 28, 182, 1, 54, 172, 42, 182, 1, 237, 42, 27, 182, 1, 249, 172]
abbrev dktX3_at_1 : List UInt8 := dkwX3_at_1 ++ []
def dkwX3_at_0 : List UInt8 := [42, 27, 182, 0, 101, 153, 0, 12, 28, 3, 5, 184, 0, 77, 154, 0, 6, 16, 254, 172, 28, 5]
abbrev dktX3_at_0 : List UInt8 := dkwX3_at_0 ++ dktX3_at_1
theorem dksX3_at_0 : cX3_at.data.toList.drop 0 = dktX3_at_0 := by decide +kernel
theorem dksX3_at_1 : cX3_at.data.toList.drop 22 = dktX3_at_1 := dk_seg dksX3_at_0 22 rfl rfl
theorem dX3_at_0 : decode cX3_at 0 = .ok (.aload_n 0, 1) := dk_42 (dk_at dksX3_at_0 0 rfl rfl)
theorem dX3_at_1 : decode cX3_at 1 = .ok (.iload_n 1, 1) := dk_27 (dk_at dksX3_at_0 1 rfl rfl)
theorem dX3_at_2 : decode cX3_at 2 = .ok (.invokevirtual 101, 3) := dk_182 0 101 (dk_at dksX3_at_0 2 rfl rfl)
theorem dX3_at_5 : decode cX3_at 5 = .ok (.ifCond .eq 12, 3) := dk_153 0 12 (dk_at dksX3_at_0 5 rfl rfl)
theorem dX3_at_8 : decode cX3_at 8 = .ok (.iload_n 2, 1) := dk_28 (dk_at dksX3_at_0 8 rfl rfl)
theorem dX3_at_9 : decode cX3_at 9 = .ok (.iconst 0, 1) := dk_3 (dk_at dksX3_at_0 9 rfl rfl)
theorem dX3_at_10 : decode cX3_at 10 = .ok (.iconst 2, 1) := dk_5 (dk_at dksX3_at_0 10 rfl rfl)
theorem dX3_at_11 : decode cX3_at 11 = .ok (.invokestatic 77, 3) := dk_184 0 77 (dk_at dksX3_at_0 11 rfl rfl)
theorem dX3_at_14 : decode cX3_at 14 = .ok (.ifCond .ne 6, 3) := dk_154 0 6 (dk_at dksX3_at_0 14 rfl rfl)
theorem dX3_at_17 : decode cX3_at 17 = .ok (.bipush (-2), 2) := dk_16 254 (dk_at dksX3_at_0 17 rfl rfl)
theorem dX3_at_19 : decode cX3_at 19 = .ok (.ireturn, 1) := dk_172 (dk_at dksX3_at_0 19 rfl rfl)
theorem dX3_at_20 : decode cX3_at 20 = .ok (.iload_n 2, 1) := dk_28 (dk_at dksX3_at_0 20 rfl rfl)
theorem dX3_at_21 : decode cX3_at 21 = .ok (.iconst 2, 1) := dk_5 (dk_at dksX3_at_0 21 rfl rfl)
theorem dX3_at_22 : decode cX3_at 22 = .ok (.if_icmp .ge 10, 3) := dk_162 0 10 (dk_at dksX3_at_1 0 rfl rfl)
theorem dX3_at_25 : decode cX3_at 25 = .ok (.aload_n 0, 1) := dk_42 (dk_at dksX3_at_1 3 rfl rfl)
theorem dX3_at_26 : decode cX3_at 26 = .ok (.iload_n 1, 1) := dk_27 (dk_at dksX3_at_1 4 rfl rfl)
theorem dX3_at_27 : decode cX3_at 27 = .ok (.iload_n 2, 1) := dk_28 (dk_at dksX3_at_1 5 rfl rfl)
theorem dX3_at_28 : decode cX3_at 28 = .ok (.invokevirtual 310, 3) := dk_182 1 54 (dk_at dksX3_at_1 6 rfl rfl)
theorem dX3_at_31 : decode cX3_at 31 = .ok (.ireturn, 1) := dk_172 (dk_at dksX3_at_1 9 rfl rfl)
theorem dX3_at_32 : decode cX3_at 32 = .ok (.aload_n 0, 1) := dk_42 (dk_at dksX3_at_1 10 rfl rfl)
theorem dX3_at_33 : decode cX3_at 33 = .ok (.invokevirtual 493, 3) := dk_182 1 237 (dk_at dksX3_at_1 11 rfl rfl)
theorem dX3_at_36 : decode cX3_at 36 = .ok (.aload_n 0, 1) := dk_42 (dk_at dksX3_at_1 14 rfl rfl)
theorem dX3_at_37 : decode cX3_at 37 = .ok (.iload_n 1, 1) := dk_27 (dk_at dksX3_at_1 15 rfl rfl)
theorem dX3_at_38 : decode cX3_at 38 = .ok (.invokevirtual 505, 3) := dk_182 1 249 (dk_at dksX3_at_1 16 rfl rfl)
theorem dX3_at_41 : decode cX3_at 41 = .ok (.ireturn, 1) := dk_172 (dk_at dksX3_at_1 19 rfl rfl)
abbrev cX3_toolOf : ByteArray := prog_14_method_122_code
def yX3_toolOf : MethodName := ⟨RX3, "toolOf", "(I)I"⟩
def dkwX3_toolOf_1 : List UInt8 := [172, 132, 2, 1, 167, 255, 230, 2, 172]
abbrev dktX3_toolOf_1 : List UInt8 := dkwX3_toolOf_1 ++ []
def dkwX3_toolOf_0 : List UInt8 := [3, 61, 28, 42, 180, 0, 7, 16, 96, 46, 162, 0, 21, 42, 180, 0, 58, 28, 46, 27, 160, 0, 5, 28]
abbrev dktX3_toolOf_0 : List UInt8 := dkwX3_toolOf_0 ++ dktX3_toolOf_1
theorem dksX3_toolOf_0 : cX3_toolOf.data.toList.drop 0 = dktX3_toolOf_0 := by decide +kernel
theorem dksX3_toolOf_1 : cX3_toolOf.data.toList.drop 24 = dktX3_toolOf_1 := dk_seg dksX3_toolOf_0 24 rfl rfl
theorem dX3_toolOf_0 : decode cX3_toolOf 0 = .ok (.iconst 0, 1) := dk_3 (dk_at dksX3_toolOf_0 0 rfl rfl)
theorem dX3_toolOf_1 : decode cX3_toolOf 1 = .ok (.istore_n 2, 1) := dk_61 (dk_at dksX3_toolOf_0 1 rfl rfl)
theorem dX3_toolOf_2 : decode cX3_toolOf 2 = .ok (.iload_n 2, 1) := dk_28 (dk_at dksX3_toolOf_0 2 rfl rfl)
theorem dX3_toolOf_3 : decode cX3_toolOf 3 = .ok (.aload_n 0, 1) := dk_42 (dk_at dksX3_toolOf_0 3 rfl rfl)
theorem dX3_toolOf_4 : decode cX3_toolOf 4 = .ok (.getfield 7, 3) := dk_180 0 7 (dk_at dksX3_toolOf_0 4 rfl rfl)
theorem dX3_toolOf_7 : decode cX3_toolOf 7 = .ok (.bipush 96, 2) := dk_16 96 (dk_at dksX3_toolOf_0 7 rfl rfl)
theorem dX3_toolOf_9 : decode cX3_toolOf 9 = .ok (.iaload, 1) := dk_46 (dk_at dksX3_toolOf_0 9 rfl rfl)
theorem dX3_toolOf_10 : decode cX3_toolOf 10 = .ok (.if_icmp .ge 21, 3) := dk_162 0 21 (dk_at dksX3_toolOf_0 10 rfl rfl)
theorem dX3_toolOf_13 : decode cX3_toolOf 13 = .ok (.aload_n 0, 1) := dk_42 (dk_at dksX3_toolOf_0 13 rfl rfl)
theorem dX3_toolOf_14 : decode cX3_toolOf 14 = .ok (.getfield 58, 3) := dk_180 0 58 (dk_at dksX3_toolOf_0 14 rfl rfl)
theorem dX3_toolOf_17 : decode cX3_toolOf 17 = .ok (.iload_n 2, 1) := dk_28 (dk_at dksX3_toolOf_0 17 rfl rfl)
theorem dX3_toolOf_18 : decode cX3_toolOf 18 = .ok (.iaload, 1) := dk_46 (dk_at dksX3_toolOf_0 18 rfl rfl)
theorem dX3_toolOf_19 : decode cX3_toolOf 19 = .ok (.iload_n 1, 1) := dk_27 (dk_at dksX3_toolOf_0 19 rfl rfl)
theorem dX3_toolOf_20 : decode cX3_toolOf 20 = .ok (.if_icmp .ne 5, 3) := dk_160 0 5 (dk_at dksX3_toolOf_0 20 rfl rfl)
theorem dX3_toolOf_23 : decode cX3_toolOf 23 = .ok (.iload_n 2, 1) := dk_28 (dk_at dksX3_toolOf_0 23 rfl rfl)
theorem dX3_toolOf_24 : decode cX3_toolOf 24 = .ok (.ireturn, 1) := dk_172 (dk_at dksX3_toolOf_1 0 rfl rfl)
theorem dX3_toolOf_25 : decode cX3_toolOf 25 = .ok (.iinc 2 1, 3) := dk_132 2 1 (dk_at dksX3_toolOf_1 1 rfl rfl)
theorem dX3_toolOf_28 : decode cX3_toolOf 28 = .ok (.goto (-26), 3) := dk_167 255 230 (dk_at dksX3_toolOf_1 4 rfl rfl)
theorem dX3_toolOf_31 : decode cX3_toolOf 31 = .ok (.iconst (-1), 1) := dk_2 (dk_at dksX3_toolOf_1 7 rfl rfl)
theorem dX3_toolOf_32 : decode cX3_toolOf 32 = .ok (.ireturn, 1) := dk_172 (dk_at dksX3_toolOf_1 8 rfl rfl)
abbrev cX3_work : ByteArray := prog_14_method_131_code
def yX3_work : MethodName := ⟨RX3, "work", "(II)I"⟩
def dkwX3_work_5 : List UInt8 := [7, 112, 172, 28, 3, 5, 184, 0, 77, 153, 0, 12, 42, 27, 28, 182, 1, 81, 167, 0, 5, 16, 254, 172]
abbrev dktX3_work_5 : List UInt8 := dkwX3_work_5 ++ []
def dkwX3_work_4 : List UInt8 := [172, 29, 2, 160, 0, 7, 2, 167, 0, 6, 29, 7, 108, 172, 29, 2, 160, 0, 7, 2, 167, 0, 6, 29]
abbrev dktX3_work_4 : List UInt8 := dkwX3_work_4 ++ dktX3_work_5
def dkwX3_work_3 : List UInt8 := [42, 27, 182, 1, 84, 153, 0, 7, 4, 167, 0, 4, 3, 172, 42, 42, 27, 3, 182, 1, 81, 182, 1, 161]
abbrev dktX3_work_3 : List UInt8 := dkwX3_work_3 ++ dktX3_work_4
def dkwX3_work_2 : List UInt8 := [42, 180, 0, 7, 16, 8, 27, 96, 46, 172, 42, 27, 182, 1, 102, 153, 0, 7, 4, 167, 0, 4, 3, 172]
abbrev dktX3_work_2 : List UInt8 := dkwX3_work_2 ++ dktX3_work_3
def dkwX3_work_1 : List UInt8 := [170, 0, 0, 0, 112, 0, 0, 0, 3, 0, 0, 0, 8, 0, 0, 0, 37, 0, 0, 0, 47, 0, 0, 0, 61, 0, 0, 0, 75, 0, 0, 0, 86, 0, 0, 0, 99]
abbrev dktX3_work_1 : List UInt8 := dkwX3_work_1 ++ dktX3_work_2
def dkwX3_work_0 : List UInt8 := [42, 27, 182, 1, 225, 154, 0, 6, 16, 254, 172, 42, 42, 27, 3, 182, 1, 81, 182, 1, 252, 62, 28]
abbrev dktX3_work_0 : List UInt8 := dkwX3_work_0 ++ dktX3_work_1
theorem dksX3_work_0 : cX3_work.data.toList.drop 0 = dktX3_work_0 := by decide +kernel
theorem dksX3_work_1 : cX3_work.data.toList.drop 23 = dktX3_work_1 := dk_seg dksX3_work_0 23 rfl rfl
theorem dksX3_work_2 : cX3_work.data.toList.drop 60 = dktX3_work_2 := dk_seg dksX3_work_1 37 rfl rfl
theorem dksX3_work_3 : cX3_work.data.toList.drop 84 = dktX3_work_3 := dk_seg dksX3_work_2 24 rfl rfl
theorem dksX3_work_4 : cX3_work.data.toList.drop 108 = dktX3_work_4 := dk_seg dksX3_work_3 24 rfl rfl
theorem dksX3_work_5 : cX3_work.data.toList.drop 132 = dktX3_work_5 := dk_seg dksX3_work_4 24 rfl rfl
theorem dX3_work_0 : decode cX3_work 0 = .ok (.aload_n 0, 1) := dk_42 (dk_at dksX3_work_0 0 rfl rfl)
theorem dX3_work_1 : decode cX3_work 1 = .ok (.iload_n 1, 1) := dk_27 (dk_at dksX3_work_0 1 rfl rfl)
theorem dX3_work_2 : decode cX3_work 2 = .ok (.invokevirtual 481, 3) := dk_182 1 225 (dk_at dksX3_work_0 2 rfl rfl)
theorem dX3_work_5 : decode cX3_work 5 = .ok (.ifCond .ne 6, 3) := dk_154 0 6 (dk_at dksX3_work_0 5 rfl rfl)
theorem dX3_work_8 : decode cX3_work 8 = .ok (.bipush (-2), 2) := dk_16 254 (dk_at dksX3_work_0 8 rfl rfl)
theorem dX3_work_10 : decode cX3_work 10 = .ok (.ireturn, 1) := dk_172 (dk_at dksX3_work_0 10 rfl rfl)
theorem dX3_work_11 : decode cX3_work 11 = .ok (.aload_n 0, 1) := dk_42 (dk_at dksX3_work_0 11 rfl rfl)
theorem dX3_work_12 : decode cX3_work 12 = .ok (.aload_n 0, 1) := dk_42 (dk_at dksX3_work_0 12 rfl rfl)
theorem dX3_work_13 : decode cX3_work 13 = .ok (.iload_n 1, 1) := dk_27 (dk_at dksX3_work_0 13 rfl rfl)
theorem dX3_work_14 : decode cX3_work 14 = .ok (.iconst 0, 1) := dk_3 (dk_at dksX3_work_0 14 rfl rfl)
theorem dX3_work_15 : decode cX3_work 15 = .ok (.invokevirtual 337, 3) := dk_182 1 81 (dk_at dksX3_work_0 15 rfl rfl)
theorem dX3_work_18 : decode cX3_work 18 = .ok (.invokevirtual 508, 3) := dk_182 1 252 (dk_at dksX3_work_0 18 rfl rfl)
theorem dX3_work_21 : decode cX3_work 21 = .ok (.istore_n 3, 1) := dk_62 (dk_at dksX3_work_0 21 rfl rfl)
theorem dX3_work_22 : decode cX3_work 22 = .ok (.iload_n 2, 1) := dk_28 (dk_at dksX3_work_0 22 rfl rfl)
theorem dX3_work_23 : decode cX3_work 23 = .ok (.tableswitch 112 3 8 #[37, 47, 61, 75, 86, 99], 37) := by decide +kernel
theorem dX3_work_60 : decode cX3_work 60 = .ok (.aload_n 0, 1) := dk_42 (dk_at dksX3_work_2 0 rfl rfl)
theorem dX3_work_61 : decode cX3_work 61 = .ok (.getfield 7, 3) := dk_180 0 7 (dk_at dksX3_work_2 1 rfl rfl)
theorem dX3_work_64 : decode cX3_work 64 = .ok (.bipush 8, 2) := dk_16 8 (dk_at dksX3_work_2 4 rfl rfl)
theorem dX3_work_66 : decode cX3_work 66 = .ok (.iload_n 1, 1) := dk_27 (dk_at dksX3_work_2 6 rfl rfl)
theorem dX3_work_67 : decode cX3_work 67 = .ok (.iadd, 1) := dk_96 (dk_at dksX3_work_2 7 rfl rfl)
theorem dX3_work_68 : decode cX3_work 68 = .ok (.iaload, 1) := dk_46 (dk_at dksX3_work_2 8 rfl rfl)
theorem dX3_work_69 : decode cX3_work 69 = .ok (.ireturn, 1) := dk_172 (dk_at dksX3_work_2 9 rfl rfl)
theorem dX3_work_70 : decode cX3_work 70 = .ok (.aload_n 0, 1) := dk_42 (dk_at dksX3_work_2 10 rfl rfl)
theorem dX3_work_71 : decode cX3_work 71 = .ok (.iload_n 1, 1) := dk_27 (dk_at dksX3_work_2 11 rfl rfl)
theorem dX3_work_72 : decode cX3_work 72 = .ok (.invokevirtual 358, 3) := dk_182 1 102 (dk_at dksX3_work_2 12 rfl rfl)
theorem dX3_work_75 : decode cX3_work 75 = .ok (.ifCond .eq 7, 3) := dk_153 0 7 (dk_at dksX3_work_2 15 rfl rfl)
theorem dX3_work_78 : decode cX3_work 78 = .ok (.iconst 1, 1) := dk_4 (dk_at dksX3_work_2 18 rfl rfl)
theorem dX3_work_79 : decode cX3_work 79 = .ok (.goto 4, 3) := dk_167 0 4 (dk_at dksX3_work_2 19 rfl rfl)
theorem dX3_work_82 : decode cX3_work 82 = .ok (.iconst 0, 1) := dk_3 (dk_at dksX3_work_2 22 rfl rfl)
theorem dX3_work_83 : decode cX3_work 83 = .ok (.ireturn, 1) := dk_172 (dk_at dksX3_work_2 23 rfl rfl)
theorem dX3_work_84 : decode cX3_work 84 = .ok (.aload_n 0, 1) := dk_42 (dk_at dksX3_work_3 0 rfl rfl)
theorem dX3_work_85 : decode cX3_work 85 = .ok (.iload_n 1, 1) := dk_27 (dk_at dksX3_work_3 1 rfl rfl)
theorem dX3_work_86 : decode cX3_work 86 = .ok (.invokevirtual 340, 3) := dk_182 1 84 (dk_at dksX3_work_3 2 rfl rfl)
theorem dX3_work_89 : decode cX3_work 89 = .ok (.ifCond .eq 7, 3) := dk_153 0 7 (dk_at dksX3_work_3 5 rfl rfl)
theorem dX3_work_92 : decode cX3_work 92 = .ok (.iconst 1, 1) := dk_4 (dk_at dksX3_work_3 8 rfl rfl)
theorem dX3_work_93 : decode cX3_work 93 = .ok (.goto 4, 3) := dk_167 0 4 (dk_at dksX3_work_3 9 rfl rfl)
theorem dX3_work_96 : decode cX3_work 96 = .ok (.iconst 0, 1) := dk_3 (dk_at dksX3_work_3 12 rfl rfl)
theorem dX3_work_97 : decode cX3_work 97 = .ok (.ireturn, 1) := dk_172 (dk_at dksX3_work_3 13 rfl rfl)
theorem dX3_work_98 : decode cX3_work 98 = .ok (.aload_n 0, 1) := dk_42 (dk_at dksX3_work_3 14 rfl rfl)
theorem dX3_work_99 : decode cX3_work 99 = .ok (.aload_n 0, 1) := dk_42 (dk_at dksX3_work_3 15 rfl rfl)
theorem dX3_work_100 : decode cX3_work 100 = .ok (.iload_n 1, 1) := dk_27 (dk_at dksX3_work_3 16 rfl rfl)
theorem dX3_work_101 : decode cX3_work 101 = .ok (.iconst 0, 1) := dk_3 (dk_at dksX3_work_3 17 rfl rfl)
theorem dX3_work_102 : decode cX3_work 102 = .ok (.invokevirtual 337, 3) := dk_182 1 81 (dk_at dksX3_work_3 18 rfl rfl)
theorem dX3_work_105 : decode cX3_work 105 = .ok (.invokevirtual 417, 3) := dk_182 1 161 (dk_at dksX3_work_3 21 rfl rfl)
theorem dX3_work_108 : decode cX3_work 108 = .ok (.ireturn, 1) := dk_172 (dk_at dksX3_work_4 0 rfl rfl)
theorem dX3_work_109 : decode cX3_work 109 = .ok (.iload_n 3, 1) := dk_29 (dk_at dksX3_work_4 1 rfl rfl)
theorem dX3_work_110 : decode cX3_work 110 = .ok (.iconst (-1), 1) := dk_2 (dk_at dksX3_work_4 2 rfl rfl)
theorem dX3_work_111 : decode cX3_work 111 = .ok (.if_icmp .ne 7, 3) := dk_160 0 7 (dk_at dksX3_work_4 3 rfl rfl)
theorem dX3_work_114 : decode cX3_work 114 = .ok (.iconst (-1), 1) := dk_2 (dk_at dksX3_work_4 6 rfl rfl)
theorem dX3_work_115 : decode cX3_work 115 = .ok (.goto 6, 3) := dk_167 0 6 (dk_at dksX3_work_4 7 rfl rfl)
theorem dX3_work_118 : decode cX3_work 118 = .ok (.iload_n 3, 1) := dk_29 (dk_at dksX3_work_4 10 rfl rfl)
theorem dX3_work_119 : decode cX3_work 119 = .ok (.iconst 4, 1) := dk_7 (dk_at dksX3_work_4 11 rfl rfl)
theorem dX3_work_120 : decode cX3_work 120 = .ok (.idiv, 1) := dk_108 (dk_at dksX3_work_4 12 rfl rfl)
theorem dX3_work_121 : decode cX3_work 121 = .ok (.ireturn, 1) := dk_172 (dk_at dksX3_work_4 13 rfl rfl)
theorem dX3_work_122 : decode cX3_work 122 = .ok (.iload_n 3, 1) := dk_29 (dk_at dksX3_work_4 14 rfl rfl)
theorem dX3_work_123 : decode cX3_work 123 = .ok (.iconst (-1), 1) := dk_2 (dk_at dksX3_work_4 15 rfl rfl)
theorem dX3_work_124 : decode cX3_work 124 = .ok (.if_icmp .ne 7, 3) := dk_160 0 7 (dk_at dksX3_work_4 16 rfl rfl)
theorem dX3_work_127 : decode cX3_work 127 = .ok (.iconst (-1), 1) := dk_2 (dk_at dksX3_work_4 19 rfl rfl)
theorem dX3_work_128 : decode cX3_work 128 = .ok (.goto 6, 3) := dk_167 0 6 (dk_at dksX3_work_4 20 rfl rfl)
theorem dX3_work_131 : decode cX3_work 131 = .ok (.iload_n 3, 1) := dk_29 (dk_at dksX3_work_4 23 rfl rfl)
theorem dX3_work_132 : decode cX3_work 132 = .ok (.iconst 4, 1) := dk_7 (dk_at dksX3_work_5 0 rfl rfl)
theorem dX3_work_133 : decode cX3_work 133 = .ok (.irem, 1) := dk_112 (dk_at dksX3_work_5 1 rfl rfl)
theorem dX3_work_134 : decode cX3_work 134 = .ok (.ireturn, 1) := dk_172 (dk_at dksX3_work_5 2 rfl rfl)
theorem dX3_work_135 : decode cX3_work 135 = .ok (.iload_n 2, 1) := dk_28 (dk_at dksX3_work_5 3 rfl rfl)
theorem dX3_work_136 : decode cX3_work 136 = .ok (.iconst 0, 1) := dk_3 (dk_at dksX3_work_5 4 rfl rfl)
theorem dX3_work_137 : decode cX3_work 137 = .ok (.iconst 2, 1) := dk_5 (dk_at dksX3_work_5 5 rfl rfl)
theorem dX3_work_138 : decode cX3_work 138 = .ok (.invokestatic 77, 3) := dk_184 0 77 (dk_at dksX3_work_5 6 rfl rfl)
theorem dX3_work_141 : decode cX3_work 141 = .ok (.ifCond .eq 12, 3) := dk_153 0 12 (dk_at dksX3_work_5 9 rfl rfl)
theorem dX3_work_144 : decode cX3_work 144 = .ok (.aload_n 0, 1) := dk_42 (dk_at dksX3_work_5 12 rfl rfl)
theorem dX3_work_145 : decode cX3_work 145 = .ok (.iload_n 1, 1) := dk_27 (dk_at dksX3_work_5 13 rfl rfl)
theorem dX3_work_146 : decode cX3_work 146 = .ok (.iload_n 2, 1) := dk_28 (dk_at dksX3_work_5 14 rfl rfl)
theorem dX3_work_147 : decode cX3_work 147 = .ok (.invokevirtual 337, 3) := dk_182 1 81 (dk_at dksX3_work_5 15 rfl rfl)
theorem dX3_work_150 : decode cX3_work 150 = .ok (.goto 5, 3) := dk_167 0 5 (dk_at dksX3_work_5 18 rfl rfl)
theorem dX3_work_153 : decode cX3_work 153 = .ok (.bipush (-2), 2) := dk_16 254 (dk_at dksX3_work_5 21 rfl rfl)
theorem dX3_work_155 : decode cX3_work 155 = .ok (.ireturn, 1) := dk_172 (dk_at dksX3_work_5 23 rfl rfl)
abbrev cX3_firstHands : ByteArray := prog_14_method_88_code
def yX3_firstHands : MethodName := ⟨RX3, "firstHands", "(I)I"⟩
def dkwX3_firstHands_2 : List UInt8 := [104, 29, 96, 172, 132, 3, 1, 167, 255, 217, 132, 2, 1, 167, 255, 198, 2, 172]
abbrev dktX3_firstHands_2 : List UInt8 := dkwX3_firstHands_2 ++ []
def dkwX3_firstHands_1 : List UInt8 := [162, 0, 34, 42, 28, 3, 182, 1, 57, 27, 160, 0, 18, 42, 28, 29, 182, 1, 105, 153, 0, 9, 7, 28]
abbrev dktX3_firstHands_1 : List UInt8 := dkwX3_firstHands_1 ++ dktX3_firstHands_2
def dkwX3_firstHands_0 : List UInt8 := [3, 61, 28, 42, 180, 0, 7, 16, 96, 46, 162, 0, 53, 3, 62, 29, 42, 180, 0, 7, 16, 97, 46]
abbrev dktX3_firstHands_0 : List UInt8 := dkwX3_firstHands_0 ++ dktX3_firstHands_1
theorem dksX3_firstHands_0 : cX3_firstHands.data.toList.drop 0 = dktX3_firstHands_0 := by decide +kernel
theorem dksX3_firstHands_1 : cX3_firstHands.data.toList.drop 23 = dktX3_firstHands_1 := dk_seg dksX3_firstHands_0 23 rfl rfl
theorem dksX3_firstHands_2 : cX3_firstHands.data.toList.drop 47 = dktX3_firstHands_2 := dk_seg dksX3_firstHands_1 24 rfl rfl
theorem dX3_firstHands_0 : decode cX3_firstHands 0 = .ok (.iconst 0, 1) := dk_3 (dk_at dksX3_firstHands_0 0 rfl rfl)
theorem dX3_firstHands_1 : decode cX3_firstHands 1 = .ok (.istore_n 2, 1) := dk_61 (dk_at dksX3_firstHands_0 1 rfl rfl)
theorem dX3_firstHands_2 : decode cX3_firstHands 2 = .ok (.iload_n 2, 1) := dk_28 (dk_at dksX3_firstHands_0 2 rfl rfl)
theorem dX3_firstHands_3 : decode cX3_firstHands 3 = .ok (.aload_n 0, 1) := dk_42 (dk_at dksX3_firstHands_0 3 rfl rfl)
theorem dX3_firstHands_4 : decode cX3_firstHands 4 = .ok (.getfield 7, 3) := dk_180 0 7 (dk_at dksX3_firstHands_0 4 rfl rfl)
theorem dX3_firstHands_7 : decode cX3_firstHands 7 = .ok (.bipush 96, 2) := dk_16 96 (dk_at dksX3_firstHands_0 7 rfl rfl)
theorem dX3_firstHands_9 : decode cX3_firstHands 9 = .ok (.iaload, 1) := dk_46 (dk_at dksX3_firstHands_0 9 rfl rfl)
theorem dX3_firstHands_10 : decode cX3_firstHands 10 = .ok (.if_icmp .ge 53, 3) := dk_162 0 53 (dk_at dksX3_firstHands_0 10 rfl rfl)
theorem dX3_firstHands_13 : decode cX3_firstHands 13 = .ok (.iconst 0, 1) := dk_3 (dk_at dksX3_firstHands_0 13 rfl rfl)
theorem dX3_firstHands_14 : decode cX3_firstHands 14 = .ok (.istore_n 3, 1) := dk_62 (dk_at dksX3_firstHands_0 14 rfl rfl)
theorem dX3_firstHands_15 : decode cX3_firstHands 15 = .ok (.iload_n 3, 1) := dk_29 (dk_at dksX3_firstHands_0 15 rfl rfl)
theorem dX3_firstHands_16 : decode cX3_firstHands 16 = .ok (.aload_n 0, 1) := dk_42 (dk_at dksX3_firstHands_0 16 rfl rfl)
theorem dX3_firstHands_17 : decode cX3_firstHands 17 = .ok (.getfield 7, 3) := dk_180 0 7 (dk_at dksX3_firstHands_0 17 rfl rfl)
theorem dX3_firstHands_20 : decode cX3_firstHands 20 = .ok (.bipush 97, 2) := dk_16 97 (dk_at dksX3_firstHands_0 20 rfl rfl)
theorem dX3_firstHands_22 : decode cX3_firstHands 22 = .ok (.iaload, 1) := dk_46 (dk_at dksX3_firstHands_0 22 rfl rfl)
theorem dX3_firstHands_23 : decode cX3_firstHands 23 = .ok (.if_icmp .ge 34, 3) := dk_162 0 34 (dk_at dksX3_firstHands_1 0 rfl rfl)
theorem dX3_firstHands_26 : decode cX3_firstHands 26 = .ok (.aload_n 0, 1) := dk_42 (dk_at dksX3_firstHands_1 3 rfl rfl)
theorem dX3_firstHands_27 : decode cX3_firstHands 27 = .ok (.iload_n 2, 1) := dk_28 (dk_at dksX3_firstHands_1 4 rfl rfl)
theorem dX3_firstHands_28 : decode cX3_firstHands 28 = .ok (.iconst 0, 1) := dk_3 (dk_at dksX3_firstHands_1 5 rfl rfl)
theorem dX3_firstHands_29 : decode cX3_firstHands 29 = .ok (.invokevirtual 313, 3) := dk_182 1 57 (dk_at dksX3_firstHands_1 6 rfl rfl)
theorem dX3_firstHands_32 : decode cX3_firstHands 32 = .ok (.iload_n 1, 1) := dk_27 (dk_at dksX3_firstHands_1 9 rfl rfl)
theorem dX3_firstHands_33 : decode cX3_firstHands 33 = .ok (.if_icmp .ne 18, 3) := dk_160 0 18 (dk_at dksX3_firstHands_1 10 rfl rfl)
theorem dX3_firstHands_36 : decode cX3_firstHands 36 = .ok (.aload_n 0, 1) := dk_42 (dk_at dksX3_firstHands_1 13 rfl rfl)
theorem dX3_firstHands_37 : decode cX3_firstHands 37 = .ok (.iload_n 2, 1) := dk_28 (dk_at dksX3_firstHands_1 14 rfl rfl)
theorem dX3_firstHands_38 : decode cX3_firstHands 38 = .ok (.iload_n 3, 1) := dk_29 (dk_at dksX3_firstHands_1 15 rfl rfl)
theorem dX3_firstHands_39 : decode cX3_firstHands 39 = .ok (.invokevirtual 361, 3) := dk_182 1 105 (dk_at dksX3_firstHands_1 16 rfl rfl)
theorem dX3_firstHands_42 : decode cX3_firstHands 42 = .ok (.ifCond .eq 9, 3) := dk_153 0 9 (dk_at dksX3_firstHands_1 19 rfl rfl)
theorem dX3_firstHands_45 : decode cX3_firstHands 45 = .ok (.iconst 4, 1) := dk_7 (dk_at dksX3_firstHands_1 22 rfl rfl)
theorem dX3_firstHands_46 : decode cX3_firstHands 46 = .ok (.iload_n 2, 1) := dk_28 (dk_at dksX3_firstHands_1 23 rfl rfl)
theorem dX3_firstHands_47 : decode cX3_firstHands 47 = .ok (.imul, 1) := dk_104 (dk_at dksX3_firstHands_2 0 rfl rfl)
theorem dX3_firstHands_48 : decode cX3_firstHands 48 = .ok (.iload_n 3, 1) := dk_29 (dk_at dksX3_firstHands_2 1 rfl rfl)
theorem dX3_firstHands_49 : decode cX3_firstHands 49 = .ok (.iadd, 1) := dk_96 (dk_at dksX3_firstHands_2 2 rfl rfl)
theorem dX3_firstHands_50 : decode cX3_firstHands 50 = .ok (.ireturn, 1) := dk_172 (dk_at dksX3_firstHands_2 3 rfl rfl)
theorem dX3_firstHands_51 : decode cX3_firstHands 51 = .ok (.iinc 3 1, 3) := dk_132 3 1 (dk_at dksX3_firstHands_2 4 rfl rfl)
theorem dX3_firstHands_54 : decode cX3_firstHands 54 = .ok (.goto (-39), 3) := dk_167 255 217 (dk_at dksX3_firstHands_2 7 rfl rfl)
theorem dX3_firstHands_57 : decode cX3_firstHands 57 = .ok (.iinc 2 1, 3) := dk_132 2 1 (dk_at dksX3_firstHands_2 10 rfl rfl)
theorem dX3_firstHands_60 : decode cX3_firstHands 60 = .ok (.goto (-58), 3) := dk_167 255 198 (dk_at dksX3_firstHands_2 13 rfl rfl)
theorem dX3_firstHands_63 : decode cX3_firstHands 63 = .ok (.iconst (-1), 1) := dk_2 (dk_at dksX3_firstHands_2 16 rfl rfl)
theorem dX3_firstHands_64 : decode cX3_firstHands 64 = .ok (.ireturn, 1) := dk_172 (dk_at dksX3_firstHands_2 17 rfl rfl)
abbrev cX3_serves : ByteArray := prog_14_method_132_code
def yX3_serves : MethodName := ⟨RX3, "serves", "(II)I"⟩
def dkwX3_serves_1 : List UInt8 := [182, 1, 105, 153, 0, 7, 4, 167, 0, 4, 3, 172]
abbrev dktX3_serves_1 : List UInt8 := dkwX3_serves_1 ++ []
def dkwX3_serves_0 : List UInt8 := [42, 27, 182, 0, 97, 153, 0, 11, 42, 28, 182, 0, 101, 154, 0, 7, 2, 167, 0, 17, 42, 27, 28]
abbrev dktX3_serves_0 : List UInt8 := dkwX3_serves_0 ++ dktX3_serves_1
theorem dksX3_serves_0 : cX3_serves.data.toList.drop 0 = dktX3_serves_0 := by decide +kernel
theorem dksX3_serves_1 : cX3_serves.data.toList.drop 23 = dktX3_serves_1 := dk_seg dksX3_serves_0 23 rfl rfl
theorem dX3_serves_0 : decode cX3_serves 0 = .ok (.aload_n 0, 1) := dk_42 (dk_at dksX3_serves_0 0 rfl rfl)
theorem dX3_serves_1 : decode cX3_serves 1 = .ok (.iload_n 1, 1) := dk_27 (dk_at dksX3_serves_0 1 rfl rfl)
theorem dX3_serves_2 : decode cX3_serves 2 = .ok (.invokevirtual 97, 3) := dk_182 0 97 (dk_at dksX3_serves_0 2 rfl rfl)
theorem dX3_serves_5 : decode cX3_serves 5 = .ok (.ifCond .eq 11, 3) := dk_153 0 11 (dk_at dksX3_serves_0 5 rfl rfl)
theorem dX3_serves_8 : decode cX3_serves 8 = .ok (.aload_n 0, 1) := dk_42 (dk_at dksX3_serves_0 8 rfl rfl)
theorem dX3_serves_9 : decode cX3_serves 9 = .ok (.iload_n 2, 1) := dk_28 (dk_at dksX3_serves_0 9 rfl rfl)
theorem dX3_serves_10 : decode cX3_serves 10 = .ok (.invokevirtual 101, 3) := dk_182 0 101 (dk_at dksX3_serves_0 10 rfl rfl)
theorem dX3_serves_13 : decode cX3_serves 13 = .ok (.ifCond .ne 7, 3) := dk_154 0 7 (dk_at dksX3_serves_0 13 rfl rfl)
theorem dX3_serves_16 : decode cX3_serves 16 = .ok (.iconst (-1), 1) := dk_2 (dk_at dksX3_serves_0 16 rfl rfl)
theorem dX3_serves_17 : decode cX3_serves 17 = .ok (.goto 17, 3) := dk_167 0 17 (dk_at dksX3_serves_0 17 rfl rfl)
theorem dX3_serves_20 : decode cX3_serves 20 = .ok (.aload_n 0, 1) := dk_42 (dk_at dksX3_serves_0 20 rfl rfl)
theorem dX3_serves_21 : decode cX3_serves 21 = .ok (.iload_n 1, 1) := dk_27 (dk_at dksX3_serves_0 21 rfl rfl)
theorem dX3_serves_22 : decode cX3_serves 22 = .ok (.iload_n 2, 1) := dk_28 (dk_at dksX3_serves_0 22 rfl rfl)
theorem dX3_serves_23 : decode cX3_serves 23 = .ok (.invokevirtual 361, 3) := dk_182 1 105 (dk_at dksX3_serves_1 0 rfl rfl)
theorem dX3_serves_26 : decode cX3_serves 26 = .ok (.ifCond .eq 7, 3) := dk_153 0 7 (dk_at dksX3_serves_1 3 rfl rfl)
theorem dX3_serves_29 : decode cX3_serves 29 = .ok (.iconst 1, 1) := dk_4 (dk_at dksX3_serves_1 6 rfl rfl)
theorem dX3_serves_30 : decode cX3_serves 30 = .ok (.goto 4, 3) := dk_167 0 4 (dk_at dksX3_serves_1 7 rfl rfl)
theorem dX3_serves_33 : decode cX3_serves 33 = .ok (.iconst 0, 1) := dk_3 (dk_at dksX3_serves_1 10 rfl rfl)
theorem dX3_serves_34 : decode cX3_serves 34 = .ok (.ireturn, 1) := dk_172 (dk_at dksX3_serves_1 11 rfl rfl)
abbrev cX3_tells : ByteArray := prog_14_method_133_code
def yX3_tells : MethodName := ⟨RX3, "tells", "(III)I"⟩
def dkwX3_tells_2 : List UInt8 := [160, 0, 12, 42, 27, 28, 182, 1, 96, 167, 0, 9, 42, 27, 28, 182, 1, 209, 172]
abbrev dktX3_tells_2 : List UInt8 := dkwX3_tells_2 ++ []
def dkwX3_tells_1 : List UInt8 := [154, 0, 7, 17, 252, 24, 172, 29, 154, 0, 12, 42, 27, 28, 182, 1, 93, 167, 0, 23, 29, 4]
abbrev dktX3_tells_1 : List UInt8 := dkwX3_tells_1 ++ dktX3_tells_2
def dkwX3_tells_0 : List UInt8 := [42, 27, 182, 0, 97, 153, 0, 20, 42, 28, 182, 0, 101, 153, 0, 12, 29, 3, 5, 184, 0, 77]
abbrev dktX3_tells_0 : List UInt8 := dkwX3_tells_0 ++ dktX3_tells_1
theorem dksX3_tells_0 : cX3_tells.data.toList.drop 0 = dktX3_tells_0 := by decide +kernel
theorem dksX3_tells_1 : cX3_tells.data.toList.drop 22 = dktX3_tells_1 := dk_seg dksX3_tells_0 22 rfl rfl
theorem dksX3_tells_2 : cX3_tells.data.toList.drop 44 = dktX3_tells_2 := dk_seg dksX3_tells_1 22 rfl rfl
theorem dX3_tells_0 : decode cX3_tells 0 = .ok (.aload_n 0, 1) := dk_42 (dk_at dksX3_tells_0 0 rfl rfl)
theorem dX3_tells_1 : decode cX3_tells 1 = .ok (.iload_n 1, 1) := dk_27 (dk_at dksX3_tells_0 1 rfl rfl)
theorem dX3_tells_2 : decode cX3_tells 2 = .ok (.invokevirtual 97, 3) := dk_182 0 97 (dk_at dksX3_tells_0 2 rfl rfl)
theorem dX3_tells_5 : decode cX3_tells 5 = .ok (.ifCond .eq 20, 3) := dk_153 0 20 (dk_at dksX3_tells_0 5 rfl rfl)
theorem dX3_tells_8 : decode cX3_tells 8 = .ok (.aload_n 0, 1) := dk_42 (dk_at dksX3_tells_0 8 rfl rfl)
theorem dX3_tells_9 : decode cX3_tells 9 = .ok (.iload_n 2, 1) := dk_28 (dk_at dksX3_tells_0 9 rfl rfl)
theorem dX3_tells_10 : decode cX3_tells 10 = .ok (.invokevirtual 101, 3) := dk_182 0 101 (dk_at dksX3_tells_0 10 rfl rfl)
theorem dX3_tells_13 : decode cX3_tells 13 = .ok (.ifCond .eq 12, 3) := dk_153 0 12 (dk_at dksX3_tells_0 13 rfl rfl)
theorem dX3_tells_16 : decode cX3_tells 16 = .ok (.iload_n 3, 1) := dk_29 (dk_at dksX3_tells_0 16 rfl rfl)
theorem dX3_tells_17 : decode cX3_tells 17 = .ok (.iconst 0, 1) := dk_3 (dk_at dksX3_tells_0 17 rfl rfl)
theorem dX3_tells_18 : decode cX3_tells 18 = .ok (.iconst 2, 1) := dk_5 (dk_at dksX3_tells_0 18 rfl rfl)
theorem dX3_tells_19 : decode cX3_tells 19 = .ok (.invokestatic 77, 3) := dk_184 0 77 (dk_at dksX3_tells_0 19 rfl rfl)
theorem dX3_tells_22 : decode cX3_tells 22 = .ok (.ifCond .ne 7, 3) := dk_154 0 7 (dk_at dksX3_tells_1 0 rfl rfl)
theorem dX3_tells_25 : decode cX3_tells 25 = .ok (.sipush (-1000), 3) := dk_17 252 24 (dk_at dksX3_tells_1 3 rfl rfl)
theorem dX3_tells_28 : decode cX3_tells 28 = .ok (.ireturn, 1) := dk_172 (dk_at dksX3_tells_1 6 rfl rfl)
theorem dX3_tells_29 : decode cX3_tells 29 = .ok (.iload_n 3, 1) := dk_29 (dk_at dksX3_tells_1 7 rfl rfl)
theorem dX3_tells_30 : decode cX3_tells 30 = .ok (.ifCond .ne 12, 3) := dk_154 0 12 (dk_at dksX3_tells_1 8 rfl rfl)
theorem dX3_tells_33 : decode cX3_tells 33 = .ok (.aload_n 0, 1) := dk_42 (dk_at dksX3_tells_1 11 rfl rfl)
theorem dX3_tells_34 : decode cX3_tells 34 = .ok (.iload_n 1, 1) := dk_27 (dk_at dksX3_tells_1 12 rfl rfl)
theorem dX3_tells_35 : decode cX3_tells 35 = .ok (.iload_n 2, 1) := dk_28 (dk_at dksX3_tells_1 13 rfl rfl)
theorem dX3_tells_36 : decode cX3_tells 36 = .ok (.invokevirtual 349, 3) := dk_182 1 93 (dk_at dksX3_tells_1 14 rfl rfl)
theorem dX3_tells_39 : decode cX3_tells 39 = .ok (.goto 23, 3) := dk_167 0 23 (dk_at dksX3_tells_1 17 rfl rfl)
theorem dX3_tells_42 : decode cX3_tells 42 = .ok (.iload_n 3, 1) := dk_29 (dk_at dksX3_tells_1 20 rfl rfl)
theorem dX3_tells_43 : decode cX3_tells 43 = .ok (.iconst 1, 1) := dk_4 (dk_at dksX3_tells_1 21 rfl rfl)
theorem dX3_tells_44 : decode cX3_tells 44 = .ok (.if_icmp .ne 12, 3) := dk_160 0 12 (dk_at dksX3_tells_2 0 rfl rfl)
theorem dX3_tells_47 : decode cX3_tells 47 = .ok (.aload_n 0, 1) := dk_42 (dk_at dksX3_tells_2 3 rfl rfl)
theorem dX3_tells_48 : decode cX3_tells 48 = .ok (.iload_n 1, 1) := dk_27 (dk_at dksX3_tells_2 4 rfl rfl)
theorem dX3_tells_49 : decode cX3_tells 49 = .ok (.iload_n 2, 1) := dk_28 (dk_at dksX3_tells_2 5 rfl rfl)
theorem dX3_tells_50 : decode cX3_tells 50 = .ok (.invokevirtual 352, 3) := dk_182 1 96 (dk_at dksX3_tells_2 6 rfl rfl)
theorem dX3_tells_53 : decode cX3_tells 53 = .ok (.goto 9, 3) := dk_167 0 9 (dk_at dksX3_tells_2 9 rfl rfl)
theorem dX3_tells_56 : decode cX3_tells 56 = .ok (.aload_n 0, 1) := dk_42 (dk_at dksX3_tells_2 12 rfl rfl)
theorem dX3_tells_57 : decode cX3_tells 57 = .ok (.iload_n 1, 1) := dk_27 (dk_at dksX3_tells_2 13 rfl rfl)
theorem dX3_tells_58 : decode cX3_tells 58 = .ok (.iload_n 2, 1) := dk_28 (dk_at dksX3_tells_2 14 rfl rfl)
theorem dX3_tells_59 : decode cX3_tells 59 = .ok (.invokevirtual 465, 3) := dk_182 1 209 (dk_at dksX3_tells_2 15 rfl rfl)
theorem dX3_tells_62 : decode cX3_tells 62 = .ok (.ireturn, 1) := dk_172 (dk_at dksX3_tells_2 18 rfl rfl)
abbrev cX3_book : ByteArray := prog_14_method_134_code
def yX3_book : MethodName := ⟨RX3, "book", "(II)I"⟩
def dkwX3_book_1 : List UInt8 := [153, 0, 20, 42, 180, 0, 7, 17, 7, 242, 7, 27, 104, 96, 28, 96, 46, 167, 0, 4, 2, 172]
abbrev dktX3_book_1 : List UInt8 := dkwX3_book_1 ++ []
def dkwX3_book_0 : List UInt8 := [27, 3, 42, 180, 0, 7, 5, 46, 4, 100, 184, 0, 77, 153, 0, 29, 28, 3, 6, 184, 0, 77]
abbrev dktX3_book_0 : List UInt8 := dkwX3_book_0 ++ dktX3_book_1
theorem dksX3_book_0 : cX3_book.data.toList.drop 0 = dktX3_book_0 := by decide +kernel
theorem dksX3_book_1 : cX3_book.data.toList.drop 22 = dktX3_book_1 := dk_seg dksX3_book_0 22 rfl rfl
theorem dX3_book_0 : decode cX3_book 0 = .ok (.iload_n 1, 1) := dk_27 (dk_at dksX3_book_0 0 rfl rfl)
theorem dX3_book_1 : decode cX3_book 1 = .ok (.iconst 0, 1) := dk_3 (dk_at dksX3_book_0 1 rfl rfl)
theorem dX3_book_2 : decode cX3_book 2 = .ok (.aload_n 0, 1) := dk_42 (dk_at dksX3_book_0 2 rfl rfl)
theorem dX3_book_3 : decode cX3_book 3 = .ok (.getfield 7, 3) := dk_180 0 7 (dk_at dksX3_book_0 3 rfl rfl)
theorem dX3_book_6 : decode cX3_book 6 = .ok (.iconst 2, 1) := dk_5 (dk_at dksX3_book_0 6 rfl rfl)
theorem dX3_book_7 : decode cX3_book 7 = .ok (.iaload, 1) := dk_46 (dk_at dksX3_book_0 7 rfl rfl)
theorem dX3_book_8 : decode cX3_book 8 = .ok (.iconst 1, 1) := dk_4 (dk_at dksX3_book_0 8 rfl rfl)
theorem dX3_book_9 : decode cX3_book 9 = .ok (.isub, 1) := dk_100 (dk_at dksX3_book_0 9 rfl rfl)
theorem dX3_book_10 : decode cX3_book 10 = .ok (.invokestatic 77, 3) := dk_184 0 77 (dk_at dksX3_book_0 10 rfl rfl)
theorem dX3_book_13 : decode cX3_book 13 = .ok (.ifCond .eq 29, 3) := dk_153 0 29 (dk_at dksX3_book_0 13 rfl rfl)
theorem dX3_book_16 : decode cX3_book 16 = .ok (.iload_n 2, 1) := dk_28 (dk_at dksX3_book_0 16 rfl rfl)
theorem dX3_book_17 : decode cX3_book 17 = .ok (.iconst 0, 1) := dk_3 (dk_at dksX3_book_0 17 rfl rfl)
theorem dX3_book_18 : decode cX3_book 18 = .ok (.iconst 3, 1) := dk_6 (dk_at dksX3_book_0 18 rfl rfl)
theorem dX3_book_19 : decode cX3_book 19 = .ok (.invokestatic 77, 3) := dk_184 0 77 (dk_at dksX3_book_0 19 rfl rfl)
theorem dX3_book_22 : decode cX3_book 22 = .ok (.ifCond .eq 20, 3) := dk_153 0 20 (dk_at dksX3_book_1 0 rfl rfl)
theorem dX3_book_25 : decode cX3_book 25 = .ok (.aload_n 0, 1) := dk_42 (dk_at dksX3_book_1 3 rfl rfl)
theorem dX3_book_26 : decode cX3_book 26 = .ok (.getfield 7, 3) := dk_180 0 7 (dk_at dksX3_book_1 4 rfl rfl)
theorem dX3_book_29 : decode cX3_book 29 = .ok (.sipush 2034, 3) := dk_17 7 242 (dk_at dksX3_book_1 7 rfl rfl)
theorem dX3_book_32 : decode cX3_book 32 = .ok (.iconst 4, 1) := dk_7 (dk_at dksX3_book_1 10 rfl rfl)
theorem dX3_book_33 : decode cX3_book 33 = .ok (.iload_n 1, 1) := dk_27 (dk_at dksX3_book_1 11 rfl rfl)
theorem dX3_book_34 : decode cX3_book 34 = .ok (.imul, 1) := dk_104 (dk_at dksX3_book_1 12 rfl rfl)
theorem dX3_book_35 : decode cX3_book 35 = .ok (.iadd, 1) := dk_96 (dk_at dksX3_book_1 13 rfl rfl)
theorem dX3_book_36 : decode cX3_book 36 = .ok (.iload_n 2, 1) := dk_28 (dk_at dksX3_book_1 14 rfl rfl)
theorem dX3_book_37 : decode cX3_book 37 = .ok (.iadd, 1) := dk_96 (dk_at dksX3_book_1 15 rfl rfl)
theorem dX3_book_38 : decode cX3_book 38 = .ok (.iaload, 1) := dk_46 (dk_at dksX3_book_1 16 rfl rfl)
theorem dX3_book_39 : decode cX3_book 39 = .ok (.goto 4, 3) := dk_167 0 4 (dk_at dksX3_book_1 17 rfl rfl)
theorem dX3_book_42 : decode cX3_book 42 = .ok (.iconst (-1), 1) := dk_2 (dk_at dksX3_book_1 20 rfl rfl)
theorem dX3_book_43 : decode cX3_book 43 = .ok (.ireturn, 1) := dk_172 (dk_at dksX3_book_1 21 rfl rfl)
abbrev cX3_image : ByteArray := prog_14_method_135_code
def yX3_image : MethodName := ⟨RX3, "image", "(Z)Z"⟩
def dkwX3_image_3 : List UInt8 := [181, 1, 255, 4, 172]
abbrev dktX3_image_3 : List UInt8 := dkwX3_image_3 ++ []
def dkwX3_image_2 : List UInt8 := [180, 0, 13, 28, 46, 79, 132, 2, 1, 167, 255, 215, 27, 154, 0, 7, 42, 182, 0, 84, 42, 4]
abbrev dktX3_image_2 : List UInt8 := dkwX3_image_2 ++ dktX3_image_3
def dkwX3_image_1 : List UInt8 := [153, 0, 18, 42, 180, 0, 13, 28, 42, 180, 0, 7, 28, 46, 79, 167, 0, 15, 42, 180, 0, 7, 28, 42]
abbrev dktX3_image_1 : List UInt8 := dkwX3_image_1 ++ dktX3_image_2
def dkwX3_image_0 : List UInt8 := [27, 154, 0, 12, 42, 180, 1, 255, 154, 0, 5, 3, 172, 3, 61, 28, 17, 11, 18, 162, 0, 40, 27]
abbrev dktX3_image_0 : List UInt8 := dkwX3_image_0 ++ dktX3_image_1
theorem dksX3_image_0 : cX3_image.data.toList.drop 0 = dktX3_image_0 := by decide +kernel
theorem dksX3_image_1 : cX3_image.data.toList.drop 23 = dktX3_image_1 := dk_seg dksX3_image_0 23 rfl rfl
theorem dksX3_image_2 : cX3_image.data.toList.drop 47 = dktX3_image_2 := dk_seg dksX3_image_1 24 rfl rfl
theorem dksX3_image_3 : cX3_image.data.toList.drop 69 = dktX3_image_3 := dk_seg dksX3_image_2 22 rfl rfl
theorem dX3_image_0 : decode cX3_image 0 = .ok (.iload_n 1, 1) := dk_27 (dk_at dksX3_image_0 0 rfl rfl)
theorem dX3_image_1 : decode cX3_image 1 = .ok (.ifCond .ne 12, 3) := dk_154 0 12 (dk_at dksX3_image_0 1 rfl rfl)
theorem dX3_image_4 : decode cX3_image 4 = .ok (.aload_n 0, 1) := dk_42 (dk_at dksX3_image_0 4 rfl rfl)
theorem dX3_image_5 : decode cX3_image 5 = .ok (.getfield 511, 3) := dk_180 1 255 (dk_at dksX3_image_0 5 rfl rfl)
theorem dX3_image_8 : decode cX3_image 8 = .ok (.ifCond .ne 5, 3) := dk_154 0 5 (dk_at dksX3_image_0 8 rfl rfl)
theorem dX3_image_11 : decode cX3_image 11 = .ok (.iconst 0, 1) := dk_3 (dk_at dksX3_image_0 11 rfl rfl)
theorem dX3_image_12 : decode cX3_image 12 = .ok (.ireturn, 1) := dk_172 (dk_at dksX3_image_0 12 rfl rfl)
theorem dX3_image_13 : decode cX3_image 13 = .ok (.iconst 0, 1) := dk_3 (dk_at dksX3_image_0 13 rfl rfl)
theorem dX3_image_14 : decode cX3_image 14 = .ok (.istore_n 2, 1) := dk_61 (dk_at dksX3_image_0 14 rfl rfl)
theorem dX3_image_15 : decode cX3_image 15 = .ok (.iload_n 2, 1) := dk_28 (dk_at dksX3_image_0 15 rfl rfl)
theorem dX3_image_16 : decode cX3_image 16 = .ok (.sipush 2834, 3) := dk_17 11 18 (dk_at dksX3_image_0 16 rfl rfl)
theorem dX3_image_19 : decode cX3_image 19 = .ok (.if_icmp .ge 40, 3) := dk_162 0 40 (dk_at dksX3_image_0 19 rfl rfl)
theorem dX3_image_22 : decode cX3_image 22 = .ok (.iload_n 1, 1) := dk_27 (dk_at dksX3_image_0 22 rfl rfl)
theorem dX3_image_23 : decode cX3_image 23 = .ok (.ifCond .eq 18, 3) := dk_153 0 18 (dk_at dksX3_image_1 0 rfl rfl)
theorem dX3_image_26 : decode cX3_image 26 = .ok (.aload_n 0, 1) := dk_42 (dk_at dksX3_image_1 3 rfl rfl)
theorem dX3_image_27 : decode cX3_image 27 = .ok (.getfield 13, 3) := dk_180 0 13 (dk_at dksX3_image_1 4 rfl rfl)
theorem dX3_image_30 : decode cX3_image 30 = .ok (.iload_n 2, 1) := dk_28 (dk_at dksX3_image_1 7 rfl rfl)
theorem dX3_image_31 : decode cX3_image 31 = .ok (.aload_n 0, 1) := dk_42 (dk_at dksX3_image_1 8 rfl rfl)
theorem dX3_image_32 : decode cX3_image 32 = .ok (.getfield 7, 3) := dk_180 0 7 (dk_at dksX3_image_1 9 rfl rfl)
theorem dX3_image_35 : decode cX3_image 35 = .ok (.iload_n 2, 1) := dk_28 (dk_at dksX3_image_1 12 rfl rfl)
theorem dX3_image_36 : decode cX3_image 36 = .ok (.iaload, 1) := dk_46 (dk_at dksX3_image_1 13 rfl rfl)
theorem dX3_image_37 : decode cX3_image 37 = .ok (.iastore, 1) := dk_79 (dk_at dksX3_image_1 14 rfl rfl)
theorem dX3_image_38 : decode cX3_image 38 = .ok (.goto 15, 3) := dk_167 0 15 (dk_at dksX3_image_1 15 rfl rfl)
theorem dX3_image_41 : decode cX3_image 41 = .ok (.aload_n 0, 1) := dk_42 (dk_at dksX3_image_1 18 rfl rfl)
theorem dX3_image_42 : decode cX3_image 42 = .ok (.getfield 7, 3) := dk_180 0 7 (dk_at dksX3_image_1 19 rfl rfl)
theorem dX3_image_45 : decode cX3_image 45 = .ok (.iload_n 2, 1) := dk_28 (dk_at dksX3_image_1 22 rfl rfl)
theorem dX3_image_46 : decode cX3_image 46 = .ok (.aload_n 0, 1) := dk_42 (dk_at dksX3_image_1 23 rfl rfl)
theorem dX3_image_47 : decode cX3_image 47 = .ok (.getfield 13, 3) := dk_180 0 13 (dk_at dksX3_image_2 0 rfl rfl)
theorem dX3_image_50 : decode cX3_image 50 = .ok (.iload_n 2, 1) := dk_28 (dk_at dksX3_image_2 3 rfl rfl)
theorem dX3_image_51 : decode cX3_image 51 = .ok (.iaload, 1) := dk_46 (dk_at dksX3_image_2 4 rfl rfl)
theorem dX3_image_52 : decode cX3_image 52 = .ok (.iastore, 1) := dk_79 (dk_at dksX3_image_2 5 rfl rfl)
theorem dX3_image_53 : decode cX3_image 53 = .ok (.iinc 2 1, 3) := dk_132 2 1 (dk_at dksX3_image_2 6 rfl rfl)
theorem dX3_image_56 : decode cX3_image 56 = .ok (.goto (-41), 3) := dk_167 255 215 (dk_at dksX3_image_2 9 rfl rfl)
theorem dX3_image_59 : decode cX3_image 59 = .ok (.iload_n 1, 1) := dk_27 (dk_at dksX3_image_2 12 rfl rfl)
theorem dX3_image_60 : decode cX3_image 60 = .ok (.ifCond .ne 7, 3) := dk_154 0 7 (dk_at dksX3_image_2 13 rfl rfl)
theorem dX3_image_63 : decode cX3_image 63 = .ok (.aload_n 0, 1) := dk_42 (dk_at dksX3_image_2 16 rfl rfl)
theorem dX3_image_64 : decode cX3_image 64 = .ok (.invokevirtual 84, 3) := dk_182 0 84 (dk_at dksX3_image_2 17 rfl rfl)
theorem dX3_image_67 : decode cX3_image 67 = .ok (.aload_n 0, 1) := dk_42 (dk_at dksX3_image_2 20 rfl rfl)
theorem dX3_image_68 : decode cX3_image 68 = .ok (.iconst 1, 1) := dk_4 (dk_at dksX3_image_2 21 rfl rfl)
theorem dX3_image_69 : decode cX3_image 69 = .ok (.putfield 511, 3) := dk_181 1 255 (dk_at dksX3_image_3 0 rfl rfl)
theorem dX3_image_72 : decode cX3_image 72 = .ok (.iconst 1, 1) := dk_4 (dk_at dksX3_image_3 3 rfl rfl)
theorem dX3_image_73 : decode cX3_image 73 = .ok (.ireturn, 1) := dk_172 (dk_at dksX3_image_3 4 rfl rfl)
abbrev cX3_look : ByteArray := prog_14_method_136_code
def yX3_look : MethodName := ⟨RX3, "look", "(I)I"⟩
def dkwX3_look_7 : List UInt8 := [180, 0, 7, 7, 27, 96, 16, 20, 100, 46, 167, 0, 4, 2, 172]
abbrev dktX3_look_7 : List UInt8 := dkwX3_look_7 ++ []
def dkwX3_look_6 : List UInt8 := [16, 102, 46, 172, 42, 180, 0, 7, 16, 103, 46, 172, 27, 16, 20, 16, 23, 184, 0, 77, 153, 0, 17, 42]
abbrev dktX3_look_6 : List UInt8 := dkwX3_look_6 ++ dktX3_look_7
def dkwX3_look_5 : List UInt8 := [180, 0, 7, 16, 99, 46, 172, 42, 180, 0, 81, 172, 42, 180, 0, 7, 16, 104, 46, 172, 42, 180, 0, 7]
abbrev dktX3_look_5 : List UInt8 := dkwX3_look_5 ++ dktX3_look_6
def dkwX3_look_4 : List UInt8 := [180, 0, 7, 6, 46, 172, 42, 180, 0, 7, 16, 100, 46, 172, 42, 180, 0, 7, 16, 101, 46, 172, 42]
abbrev dktX3_look_4 : List UInt8 := dkwX3_look_4 ++ dktX3_look_5
def dkwX3_look_3 : List UInt8 := [42, 180, 0, 7, 3, 46, 172, 42, 180, 0, 7, 4, 46, 172, 42, 180, 0, 7, 5, 46, 172, 42]
abbrev dktX3_look_3 : List UInt8 := dkwX3_look_3 ++ dktX3_look_4
def dkwX3_look_2 : List UInt8 := [42, 180, 0, 7, 16, 96, 46, 172, 42, 180, 0, 7, 16, 97, 46, 172, 42, 180, 0, 7, 16, 98, 46, 172]
abbrev dktX3_look_2 : List UInt8 := dkwX3_look_2 ++ dktX3_look_3
def dkwX3_look_1 : List UInt8 := [170, 0, 0, 0, 0, 0, 176, 0, 0, 0, 0, 0, 0, 0, 13, 0, 0, 0, 71, 0, 0, 0, 79, 0, 0, 0, 87, 0, 0, 0, 95, 0, 0, 0, 102, 0, 0, 0, 109, 0, 0, 0, 116, 0, 0, 0, 123, 0, 0, 0, 131, 0, 0, 0, 139, 0, 0, 0, 147, 0, 0, 0, 152, 0, 0, 0, 160, 0, 0, 0, 168]
abbrev dktX3_look_1 : List UInt8 := dkwX3_look_1 ++ dktX3_look_2
def dkwX3_look_0 : List UInt8 := [27]
abbrev dktX3_look_0 : List UInt8 := dkwX3_look_0 ++ dktX3_look_1
theorem dksX3_look_0 : cX3_look.data.toList.drop 0 = dktX3_look_0 := by decide +kernel
theorem dksX3_look_1 : cX3_look.data.toList.drop 1 = dktX3_look_1 := dk_seg dksX3_look_0 1 rfl rfl
theorem dksX3_look_2 : cX3_look.data.toList.drop 72 = dktX3_look_2 := dk_seg dksX3_look_1 71 rfl rfl
theorem dksX3_look_3 : cX3_look.data.toList.drop 96 = dktX3_look_3 := dk_seg dksX3_look_2 24 rfl rfl
theorem dksX3_look_4 : cX3_look.data.toList.drop 118 = dktX3_look_4 := dk_seg dksX3_look_3 22 rfl rfl
theorem dksX3_look_5 : cX3_look.data.toList.drop 141 = dktX3_look_5 := dk_seg dksX3_look_4 23 rfl rfl
theorem dksX3_look_6 : cX3_look.data.toList.drop 165 = dktX3_look_6 := dk_seg dksX3_look_5 24 rfl rfl
theorem dksX3_look_7 : cX3_look.data.toList.drop 189 = dktX3_look_7 := dk_seg dksX3_look_6 24 rfl rfl
theorem dX3_look_0 : decode cX3_look 0 = .ok (.iload_n 1, 1) := dk_27 (dk_at dksX3_look_0 0 rfl rfl)
theorem dX3_look_1 : decode cX3_look 1 = .ok (.tableswitch 176 0 13 #[71, 79, 87, 95, 102, 109, 116, 123, 131, 139, 147, 152, 160, 168], 71) := by decide +kernel
theorem dX3_look_72 : decode cX3_look 72 = .ok (.aload_n 0, 1) := dk_42 (dk_at dksX3_look_2 0 rfl rfl)
theorem dX3_look_73 : decode cX3_look 73 = .ok (.getfield 7, 3) := dk_180 0 7 (dk_at dksX3_look_2 1 rfl rfl)
theorem dX3_look_76 : decode cX3_look 76 = .ok (.bipush 96, 2) := dk_16 96 (dk_at dksX3_look_2 4 rfl rfl)
theorem dX3_look_78 : decode cX3_look 78 = .ok (.iaload, 1) := dk_46 (dk_at dksX3_look_2 6 rfl rfl)
theorem dX3_look_79 : decode cX3_look 79 = .ok (.ireturn, 1) := dk_172 (dk_at dksX3_look_2 7 rfl rfl)
theorem dX3_look_80 : decode cX3_look 80 = .ok (.aload_n 0, 1) := dk_42 (dk_at dksX3_look_2 8 rfl rfl)
theorem dX3_look_81 : decode cX3_look 81 = .ok (.getfield 7, 3) := dk_180 0 7 (dk_at dksX3_look_2 9 rfl rfl)
theorem dX3_look_84 : decode cX3_look 84 = .ok (.bipush 97, 2) := dk_16 97 (dk_at dksX3_look_2 12 rfl rfl)
theorem dX3_look_86 : decode cX3_look 86 = .ok (.iaload, 1) := dk_46 (dk_at dksX3_look_2 14 rfl rfl)
theorem dX3_look_87 : decode cX3_look 87 = .ok (.ireturn, 1) := dk_172 (dk_at dksX3_look_2 15 rfl rfl)
theorem dX3_look_88 : decode cX3_look 88 = .ok (.aload_n 0, 1) := dk_42 (dk_at dksX3_look_2 16 rfl rfl)
theorem dX3_look_89 : decode cX3_look 89 = .ok (.getfield 7, 3) := dk_180 0 7 (dk_at dksX3_look_2 17 rfl rfl)
theorem dX3_look_92 : decode cX3_look 92 = .ok (.bipush 98, 2) := dk_16 98 (dk_at dksX3_look_2 20 rfl rfl)
theorem dX3_look_94 : decode cX3_look 94 = .ok (.iaload, 1) := dk_46 (dk_at dksX3_look_2 22 rfl rfl)
theorem dX3_look_95 : decode cX3_look 95 = .ok (.ireturn, 1) := dk_172 (dk_at dksX3_look_2 23 rfl rfl)
theorem dX3_look_96 : decode cX3_look 96 = .ok (.aload_n 0, 1) := dk_42 (dk_at dksX3_look_3 0 rfl rfl)
theorem dX3_look_97 : decode cX3_look 97 = .ok (.getfield 7, 3) := dk_180 0 7 (dk_at dksX3_look_3 1 rfl rfl)
theorem dX3_look_100 : decode cX3_look 100 = .ok (.iconst 0, 1) := dk_3 (dk_at dksX3_look_3 4 rfl rfl)
theorem dX3_look_101 : decode cX3_look 101 = .ok (.iaload, 1) := dk_46 (dk_at dksX3_look_3 5 rfl rfl)
theorem dX3_look_102 : decode cX3_look 102 = .ok (.ireturn, 1) := dk_172 (dk_at dksX3_look_3 6 rfl rfl)
theorem dX3_look_103 : decode cX3_look 103 = .ok (.aload_n 0, 1) := dk_42 (dk_at dksX3_look_3 7 rfl rfl)
theorem dX3_look_104 : decode cX3_look 104 = .ok (.getfield 7, 3) := dk_180 0 7 (dk_at dksX3_look_3 8 rfl rfl)
theorem dX3_look_107 : decode cX3_look 107 = .ok (.iconst 1, 1) := dk_4 (dk_at dksX3_look_3 11 rfl rfl)
theorem dX3_look_108 : decode cX3_look 108 = .ok (.iaload, 1) := dk_46 (dk_at dksX3_look_3 12 rfl rfl)
theorem dX3_look_109 : decode cX3_look 109 = .ok (.ireturn, 1) := dk_172 (dk_at dksX3_look_3 13 rfl rfl)
theorem dX3_look_110 : decode cX3_look 110 = .ok (.aload_n 0, 1) := dk_42 (dk_at dksX3_look_3 14 rfl rfl)
theorem dX3_look_111 : decode cX3_look 111 = .ok (.getfield 7, 3) := dk_180 0 7 (dk_at dksX3_look_3 15 rfl rfl)
theorem dX3_look_114 : decode cX3_look 114 = .ok (.iconst 2, 1) := dk_5 (dk_at dksX3_look_3 18 rfl rfl)
theorem dX3_look_115 : decode cX3_look 115 = .ok (.iaload, 1) := dk_46 (dk_at dksX3_look_3 19 rfl rfl)
theorem dX3_look_116 : decode cX3_look 116 = .ok (.ireturn, 1) := dk_172 (dk_at dksX3_look_3 20 rfl rfl)
theorem dX3_look_117 : decode cX3_look 117 = .ok (.aload_n 0, 1) := dk_42 (dk_at dksX3_look_3 21 rfl rfl)
theorem dX3_look_118 : decode cX3_look 118 = .ok (.getfield 7, 3) := dk_180 0 7 (dk_at dksX3_look_4 0 rfl rfl)
theorem dX3_look_121 : decode cX3_look 121 = .ok (.iconst 3, 1) := dk_6 (dk_at dksX3_look_4 3 rfl rfl)
theorem dX3_look_122 : decode cX3_look 122 = .ok (.iaload, 1) := dk_46 (dk_at dksX3_look_4 4 rfl rfl)
theorem dX3_look_123 : decode cX3_look 123 = .ok (.ireturn, 1) := dk_172 (dk_at dksX3_look_4 5 rfl rfl)
theorem dX3_look_124 : decode cX3_look 124 = .ok (.aload_n 0, 1) := dk_42 (dk_at dksX3_look_4 6 rfl rfl)
theorem dX3_look_125 : decode cX3_look 125 = .ok (.getfield 7, 3) := dk_180 0 7 (dk_at dksX3_look_4 7 rfl rfl)
theorem dX3_look_128 : decode cX3_look 128 = .ok (.bipush 100, 2) := dk_16 100 (dk_at dksX3_look_4 10 rfl rfl)
theorem dX3_look_130 : decode cX3_look 130 = .ok (.iaload, 1) := dk_46 (dk_at dksX3_look_4 12 rfl rfl)
theorem dX3_look_131 : decode cX3_look 131 = .ok (.ireturn, 1) := dk_172 (dk_at dksX3_look_4 13 rfl rfl)
theorem dX3_look_132 : decode cX3_look 132 = .ok (.aload_n 0, 1) := dk_42 (dk_at dksX3_look_4 14 rfl rfl)
theorem dX3_look_133 : decode cX3_look 133 = .ok (.getfield 7, 3) := dk_180 0 7 (dk_at dksX3_look_4 15 rfl rfl)
theorem dX3_look_136 : decode cX3_look 136 = .ok (.bipush 101, 2) := dk_16 101 (dk_at dksX3_look_4 18 rfl rfl)
theorem dX3_look_138 : decode cX3_look 138 = .ok (.iaload, 1) := dk_46 (dk_at dksX3_look_4 20 rfl rfl)
theorem dX3_look_139 : decode cX3_look 139 = .ok (.ireturn, 1) := dk_172 (dk_at dksX3_look_4 21 rfl rfl)
theorem dX3_look_140 : decode cX3_look 140 = .ok (.aload_n 0, 1) := dk_42 (dk_at dksX3_look_4 22 rfl rfl)
theorem dX3_look_141 : decode cX3_look 141 = .ok (.getfield 7, 3) := dk_180 0 7 (dk_at dksX3_look_5 0 rfl rfl)
theorem dX3_look_144 : decode cX3_look 144 = .ok (.bipush 99, 2) := dk_16 99 (dk_at dksX3_look_5 3 rfl rfl)
theorem dX3_look_146 : decode cX3_look 146 = .ok (.iaload, 1) := dk_46 (dk_at dksX3_look_5 5 rfl rfl)
theorem dX3_look_147 : decode cX3_look 147 = .ok (.ireturn, 1) := dk_172 (dk_at dksX3_look_5 6 rfl rfl)
theorem dX3_look_148 : decode cX3_look 148 = .ok (.aload_n 0, 1) := dk_42 (dk_at dksX3_look_5 7 rfl rfl)
theorem dX3_look_149 : decode cX3_look 149 = .ok (.getfield 81, 3) := dk_180 0 81 (dk_at dksX3_look_5 8 rfl rfl)
theorem dX3_look_152 : decode cX3_look 152 = .ok (.ireturn, 1) := dk_172 (dk_at dksX3_look_5 11 rfl rfl)
theorem dX3_look_153 : decode cX3_look 153 = .ok (.aload_n 0, 1) := dk_42 (dk_at dksX3_look_5 12 rfl rfl)
theorem dX3_look_154 : decode cX3_look 154 = .ok (.getfield 7, 3) := dk_180 0 7 (dk_at dksX3_look_5 13 rfl rfl)
theorem dX3_look_157 : decode cX3_look 157 = .ok (.bipush 104, 2) := dk_16 104 (dk_at dksX3_look_5 16 rfl rfl)
theorem dX3_look_159 : decode cX3_look 159 = .ok (.iaload, 1) := dk_46 (dk_at dksX3_look_5 18 rfl rfl)
theorem dX3_look_160 : decode cX3_look 160 = .ok (.ireturn, 1) := dk_172 (dk_at dksX3_look_5 19 rfl rfl)
theorem dX3_look_161 : decode cX3_look 161 = .ok (.aload_n 0, 1) := dk_42 (dk_at dksX3_look_5 20 rfl rfl)
theorem dX3_look_162 : decode cX3_look 162 = .ok (.getfield 7, 3) := dk_180 0 7 (dk_at dksX3_look_5 21 rfl rfl)
theorem dX3_look_165 : decode cX3_look 165 = .ok (.bipush 102, 2) := dk_16 102 (dk_at dksX3_look_6 0 rfl rfl)
theorem dX3_look_167 : decode cX3_look 167 = .ok (.iaload, 1) := dk_46 (dk_at dksX3_look_6 2 rfl rfl)
theorem dX3_look_168 : decode cX3_look 168 = .ok (.ireturn, 1) := dk_172 (dk_at dksX3_look_6 3 rfl rfl)
theorem dX3_look_169 : decode cX3_look 169 = .ok (.aload_n 0, 1) := dk_42 (dk_at dksX3_look_6 4 rfl rfl)
theorem dX3_look_170 : decode cX3_look 170 = .ok (.getfield 7, 3) := dk_180 0 7 (dk_at dksX3_look_6 5 rfl rfl)
theorem dX3_look_173 : decode cX3_look 173 = .ok (.bipush 103, 2) := dk_16 103 (dk_at dksX3_look_6 8 rfl rfl)
theorem dX3_look_175 : decode cX3_look 175 = .ok (.iaload, 1) := dk_46 (dk_at dksX3_look_6 10 rfl rfl)
theorem dX3_look_176 : decode cX3_look 176 = .ok (.ireturn, 1) := dk_172 (dk_at dksX3_look_6 11 rfl rfl)
theorem dX3_look_177 : decode cX3_look 177 = .ok (.iload_n 1, 1) := dk_27 (dk_at dksX3_look_6 12 rfl rfl)
theorem dX3_look_178 : decode cX3_look 178 = .ok (.bipush 20, 2) := dk_16 20 (dk_at dksX3_look_6 13 rfl rfl)
theorem dX3_look_180 : decode cX3_look 180 = .ok (.bipush 23, 2) := dk_16 23 (dk_at dksX3_look_6 15 rfl rfl)
theorem dX3_look_182 : decode cX3_look 182 = .ok (.invokestatic 77, 3) := dk_184 0 77 (dk_at dksX3_look_6 17 rfl rfl)
theorem dX3_look_185 : decode cX3_look 185 = .ok (.ifCond .eq 17, 3) := dk_153 0 17 (dk_at dksX3_look_6 20 rfl rfl)
theorem dX3_look_188 : decode cX3_look 188 = .ok (.aload_n 0, 1) := dk_42 (dk_at dksX3_look_6 23 rfl rfl)
theorem dX3_look_189 : decode cX3_look 189 = .ok (.getfield 7, 3) := dk_180 0 7 (dk_at dksX3_look_7 0 rfl rfl)
theorem dX3_look_192 : decode cX3_look 192 = .ok (.iconst 4, 1) := dk_7 (dk_at dksX3_look_7 3 rfl rfl)
theorem dX3_look_193 : decode cX3_look 193 = .ok (.iload_n 1, 1) := dk_27 (dk_at dksX3_look_7 4 rfl rfl)
theorem dX3_look_194 : decode cX3_look 194 = .ok (.iadd, 1) := dk_96 (dk_at dksX3_look_7 5 rfl rfl)
theorem dX3_look_195 : decode cX3_look 195 = .ok (.bipush 20, 2) := dk_16 20 (dk_at dksX3_look_7 6 rfl rfl)
theorem dX3_look_197 : decode cX3_look 197 = .ok (.isub, 1) := dk_100 (dk_at dksX3_look_7 8 rfl rfl)
theorem dX3_look_198 : decode cX3_look 198 = .ok (.iaload, 1) := dk_46 (dk_at dksX3_look_7 9 rfl rfl)
theorem dX3_look_199 : decode cX3_look 199 = .ok (.goto 4, 3) := dk_167 0 4 (dk_at dksX3_look_7 10 rfl rfl)
theorem dX3_look_202 : decode cX3_look 202 = .ok (.iconst (-1), 1) := dk_2 (dk_at dksX3_look_7 13 rfl rfl)
theorem dX3_look_203 : decode cX3_look 203 = .ok (.ireturn, 1) := dk_172 (dk_at dksX3_look_7 14 rfl rfl)
theorem q158 : (Jvm.Cond.initialized "ToolUnionModel") ∈ lw_all := lw_g (lw_at lw_m1 5 rfl) rfl
theorem q1344 : (Jvm.Cond.instantiable "ToolUnionModel" (39 : Nat)) ∈ lw_all := lw_g (lw_at lw_m5 231 rfl) rfl
theorem q1346 : (Jvm.Cond.instanceMethod ({ cls := "ToolUnionModel", name := "<init>", desc := "()V" } : Jvm.MethodName)) ∈ lw_all := lw_g (lw_at lw_m5 233 rfl) rfl
theorem q1347 : (Jvm.Cond.code ({ cls := "ToolUnionModel", name := "<init>", desc := "()V" } : Jvm.MethodName) prog_14_method_1_code (2 : Nat) (Option.none : Option Jvm.ClassFile.FieldType)) ∈ lw_all := lw_g (lw_at lw_m5 234 rfl) rfl
theorem q1348 : (Jvm.Cond.methodLink "ToolUnionModel" (1 : Nat) ({ cls := "java/lang/Object", name := "<init>", desc := "()V" } : Jvm.MethodName)) ∈ lw_all := lw_g (lw_at lw_m5 235 rfl) rfl
theorem q1349 : (Jvm.Cond.constant "ToolUnionModel" (54 : Nat) (65536 : Int32)) ∈ lw_all := lw_g (lw_at lw_m5 236 rfl) rfl
theorem q1350 : (Jvm.Cond.fieldLink "ToolUnionModel" (7 : Nat) "ToolUnionModel" "w" "[I") ∈ lw_all := lw_g (lw_at lw_m5 237 rfl) rfl
theorem q1351 : (Jvm.Cond.fieldLink "ToolUnionModel" (13 : Nat) "ToolUnionModel" "kept" "[I") ∈ lw_all := lw_g (lw_at lw_m5 238 rfl) rfl
theorem q1352 : (Jvm.Cond.fieldLink "ToolUnionModel" (16 : Nat) "ToolUnionModel" "back" "[I") ∈ lw_all := lw_g (lw_at lw_m5 239 rfl) rfl
theorem q1353 : (Jvm.Cond.fieldLink "ToolUnionModel" (19 : Nat) "ToolUnionModel" "lying" "[I") ∈ lw_all := lw_g (lw_at lw_m6 0 rfl) rfl
theorem q1354 : (Jvm.Cond.fieldLink "ToolUnionModel" (81 : Nat) "ToolUnionModel" "backMany" "I") ∈ lw_all := lw_g (lw_at lw_m6 1 rfl) rfl
theorem q1355 : (Jvm.Cond.fieldLink "ToolUnionModel" (511 : Nat) "ToolUnionModel" "hasImage" "Z") ∈ lw_all := lw_g (lw_at lw_m6 2 rfl) rfl
theorem q1356 : (Jvm.Cond.fieldLink "ToolUnionModel" (22 : Nat) "ToolUnionModel" "freshLine" "[I") ∈ lw_all := lw_g (lw_at lw_m6 3 rfl) rfl
theorem q1357 : (Jvm.Cond.fieldLink "ToolUnionModel" (25 : Nat) "ToolUnionModel" "freshStep" "[I") ∈ lw_all := lw_g (lw_at lw_m6 4 rfl) rfl
theorem q1358 : (Jvm.Cond.fieldLink "ToolUnionModel" (28 : Nat) "ToolUnionModel" "freshRow" "[I") ∈ lw_all := lw_g (lw_at lw_m6 5 rfl) rfl
theorem q1359 : (Jvm.Cond.fieldLink "ToolUnionModel" (31 : Nat) "ToolUnionModel" "tape" "[I") ∈ lw_all := lw_g (lw_at lw_m6 6 rfl) rfl
theorem q1360 : (Jvm.Cond.fieldLink "ToolUnionModel" (34 : Nat) "ToolUnionModel" "pile" "[I") ∈ lw_all := lw_g (lw_at lw_m6 7 rfl) rfl
theorem q1361 : (Jvm.Cond.fieldLink "ToolUnionModel" (37 : Nat) "ToolUnionModel" "facts" "[I") ∈ lw_all := lw_g (lw_at lw_m6 8 rfl) rfl
theorem q1362 : (Jvm.Cond.fieldLink "ToolUnionModel" (155 : Nat) "ToolUnionModel" "reading" "I") ∈ lw_all := lw_g (lw_at lw_m6 9 rfl) rfl
theorem q1363 : (Jvm.Cond.fieldLink "ToolUnionModel" (259 : Nat) "ToolUnionModel" "lines" "I") ∈ lw_all := lw_g (lw_at lw_m6 10 rfl) rfl
theorem q1364 : (Jvm.Cond.fieldLink "ToolUnionModel" (224 : Nat) "ToolUnionModel" "steps" "I") ∈ lw_all := lw_g (lw_at lw_m6 11 rfl) rfl
theorem q1365 : (Jvm.Cond.fieldLink "ToolUnionModel" (272 : Nat) "ToolUnionModel" "rows" "I") ∈ lw_all := lw_g (lw_at lw_m6 12 rfl) rfl
theorem q1366 : (Jvm.Cond.fieldLink "ToolUnionModel" (104 : Nat) "ToolUnionModel" "taped" "I") ∈ lw_all := lw_g (lw_at lw_m6 13 rfl) rfl
theorem q1367 : (Jvm.Cond.fieldLink "ToolUnionModel" (107 : Nat) "ToolUnionModel" "at" "I") ∈ lw_all := lw_g (lw_at lw_m6 14 rfl) rfl
theorem q1368 : (Jvm.Cond.fieldLink "ToolUnionModel" (197 : Nat) "ToolUnionModel" "token" "I") ∈ lw_all := lw_g (lw_at lw_m6 15 rfl) rfl
theorem q1369 : (Jvm.Cond.fieldLink "ToolUnionModel" (110 : Nat) "ToolUnionModel" "tokenAt" "I") ∈ lw_all := lw_g (lw_at lw_m6 16 rfl) rfl
theorem q1370 : (Jvm.Cond.fieldLink "ToolUnionModel" (209 : Nat) "ToolUnionModel" "value" "I") ∈ lw_all := lw_g (lw_at lw_m6 17 rfl) rfl
theorem q1371 : (Jvm.Cond.fieldLink "ToolUnionModel" (212 : Nat) "ToolUnionModel" "wrong" "I") ∈ lw_all := lw_g (lw_at lw_m6 18 rfl) rfl
theorem q1372 : (Jvm.Cond.fieldLink "ToolUnionModel" (215 : Nat) "ToolUnionModel" "wrongAt" "I") ∈ lw_all := lw_g (lw_at lw_m6 19 rfl) rfl
theorem q1373 : (Jvm.Cond.fieldLink "ToolUnionModel" (285 : Nat) "ToolUnionModel" "faultKind" "I") ∈ lw_all := lw_g (lw_at lw_m6 20 rfl) rfl
theorem q1374 : (Jvm.Cond.fieldLink "ToolUnionModel" (227 : Nat) "ToolUnionModel" "depth" "I") ∈ lw_all := lw_g (lw_at lw_m6 21 rfl) rfl
theorem q1375 : (Jvm.Cond.fieldLink "ToolUnionModel" (40 : Nat) "ToolUnionModel" "faultPlace" "I") ∈ lw_all := lw_g (lw_at lw_m6 22 rfl) rfl
theorem q1376 : (Jvm.Cond.fieldLink "ToolUnionModel" (265 : Nat) "ToolUnionModel" "numbered" "I") ∈ lw_all := lw_g (lw_at lw_m6 23 rfl) rfl
theorem q1377 : (Jvm.Cond.fieldLink "ToolUnionModel" (377 : Nat) "ToolUnionModel" "refusedAt" "I") ∈ lw_all := lw_g (lw_at lw_m6 24 rfl) rfl
theorem q1378 : (Jvm.Cond.fieldLink "ToolUnionModel" (380 : Nat) "ToolUnionModel" "refusedHour" "I") ∈ lw_all := lw_g (lw_at lw_m6 25 rfl) rfl
theorem q1379 : (Jvm.Cond.fieldLink "ToolUnionModel" (367 : Nat) "ToolUnionModel" "workedMany" "I") ∈ lw_all := lw_g (lw_at lw_m6 26 rfl) rfl
theorem q1380 : (Jvm.Cond.fieldLink "ToolUnionModel" (355 : Nat) "ToolUnionModel" "menBusy" "I") ∈ lw_all := lw_g (lw_at lw_m6 27 rfl) rfl
theorem q1381 : (Jvm.Cond.fieldLink "ToolUnionModel" (44 : Nat) "ToolUnionModel" "together" "[Z") ∈ lw_all := lw_g (lw_at lw_m6 28 rfl) rfl
theorem q1382 : (Jvm.Cond.fieldLink "ToolUnionModel" (48 : Nat) "ToolUnionModel" "reach" "[Z") ∈ lw_all := lw_g (lw_at lw_m6 29 rfl) rfl
theorem q1383 : (Jvm.Cond.fieldLink "ToolUnionModel" (51 : Nat) "ToolUnionModel" "serving" "[Z") ∈ lw_all := lw_g (lw_at lw_m6 30 rfl) rfl
theorem q1384 : (Jvm.Cond.fieldLink "ToolUnionModel" (55 : Nat) "ToolUnionModel" "farOf" "[I") ∈ lw_all := lw_g (lw_at lw_m6 31 rfl) rfl
theorem q1385 : (Jvm.Cond.fieldLink "ToolUnionModel" (58 : Nat) "ToolUnionModel" "manOf" "[I") ∈ lw_all := lw_g (lw_at lw_m6 32 rfl) rfl
theorem q1386 : (Jvm.Cond.fieldLink "ToolUnionModel" (61 : Nat) "ToolUnionModel" "askedBy" "[I") ∈ lw_all := lw_g (lw_at lw_m6 33 rfl) rfl
theorem q1387 : (Jvm.Cond.fieldLink "ToolUnionModel" (64 : Nat) "ToolUnionModel" "ahead" "[I") ∈ lw_all := lw_g (lw_at lw_m6 34 rfl) rfl
theorem q1388 : (Jvm.Cond.fieldLink "ToolUnionModel" (67 : Nat) "ToolUnionModel" "onwards" "[I") ∈ lw_all := lw_g (lw_at lw_m6 35 rfl) rfl
theorem q1389 : (Jvm.Cond.laysFinal "ToolUnionModel" "ToolUnionModel" "w" "[I") ∈ lw_all := lw_g (lw_at lw_m6 36 rfl) rfl
theorem q1390 : (Jvm.Cond.soleField "ToolUnionModel" "w") ∈ lw_all := lw_g (lw_at lw_m6 37 rfl) rfl
theorem q1391 : (Jvm.Cond.laysFinal "ToolUnionModel" "ToolUnionModel" "kept" "[I") ∈ lw_all := lw_g (lw_at lw_m6 38 rfl) rfl
theorem q1392 : (Jvm.Cond.soleField "ToolUnionModel" "kept") ∈ lw_all := lw_g (lw_at lw_m6 39 rfl) rfl
theorem q1393 : (Jvm.Cond.laysFinal "ToolUnionModel" "ToolUnionModel" "back" "[I") ∈ lw_all := lw_g (lw_at lw_m6 40 rfl) rfl
theorem q1394 : (Jvm.Cond.soleField "ToolUnionModel" "back") ∈ lw_all := lw_g (lw_at lw_m6 41 rfl) rfl
theorem q1395 : (Jvm.Cond.laysFinal "ToolUnionModel" "ToolUnionModel" "lying" "[I") ∈ lw_all := lw_g (lw_at lw_m6 42 rfl) rfl
theorem q1396 : (Jvm.Cond.soleField "ToolUnionModel" "lying") ∈ lw_all := lw_g (lw_at lw_m6 43 rfl) rfl
theorem q1397 : (Jvm.Cond.lays "ToolUnionModel" "ToolUnionModel" "backMany" "I") ∈ lw_all := lw_g (lw_at lw_m6 44 rfl) rfl
theorem q1398 : (Jvm.Cond.soleField "ToolUnionModel" "backMany") ∈ lw_all := lw_g (lw_at lw_m6 45 rfl) rfl
theorem q1399 : (Jvm.Cond.lays "ToolUnionModel" "ToolUnionModel" "hasImage" "Z") ∈ lw_all := lw_g (lw_at lw_m6 46 rfl) rfl
theorem q1400 : (Jvm.Cond.soleField "ToolUnionModel" "hasImage") ∈ lw_all := lw_g (lw_at lw_m6 47 rfl) rfl
theorem q1401 : (Jvm.Cond.laysFinal "ToolUnionModel" "ToolUnionModel" "freshLine" "[I") ∈ lw_all := lw_g (lw_at lw_m6 48 rfl) rfl
theorem q1402 : (Jvm.Cond.soleField "ToolUnionModel" "freshLine") ∈ lw_all := lw_g (lw_at lw_m6 49 rfl) rfl
theorem q1403 : (Jvm.Cond.laysFinal "ToolUnionModel" "ToolUnionModel" "freshStep" "[I") ∈ lw_all := lw_g (lw_at lw_m6 50 rfl) rfl
theorem q1404 : (Jvm.Cond.soleField "ToolUnionModel" "freshStep") ∈ lw_all := lw_g (lw_at lw_m6 51 rfl) rfl
theorem q1405 : (Jvm.Cond.laysFinal "ToolUnionModel" "ToolUnionModel" "freshRow" "[I") ∈ lw_all := lw_g (lw_at lw_m6 52 rfl) rfl
theorem q1406 : (Jvm.Cond.soleField "ToolUnionModel" "freshRow") ∈ lw_all := lw_g (lw_at lw_m6 53 rfl) rfl
theorem q1407 : (Jvm.Cond.laysFinal "ToolUnionModel" "ToolUnionModel" "tape" "[I") ∈ lw_all := lw_g (lw_at lw_m6 54 rfl) rfl
theorem q1408 : (Jvm.Cond.soleField "ToolUnionModel" "tape") ∈ lw_all := lw_g (lw_at lw_m6 55 rfl) rfl
theorem q1409 : (Jvm.Cond.laysFinal "ToolUnionModel" "ToolUnionModel" "pile" "[I") ∈ lw_all := lw_g (lw_at lw_m6 56 rfl) rfl
theorem q1410 : (Jvm.Cond.soleField "ToolUnionModel" "pile") ∈ lw_all := lw_g (lw_at lw_m6 57 rfl) rfl
theorem q1411 : (Jvm.Cond.laysFinal "ToolUnionModel" "ToolUnionModel" "facts" "[I") ∈ lw_all := lw_g (lw_at lw_m6 58 rfl) rfl
theorem q1412 : (Jvm.Cond.soleField "ToolUnionModel" "facts") ∈ lw_all := lw_g (lw_at lw_m6 59 rfl) rfl
theorem q1413 : (Jvm.Cond.lays "ToolUnionModel" "ToolUnionModel" "reading" "I") ∈ lw_all := lw_g (lw_at lw_m6 60 rfl) rfl
theorem q1414 : (Jvm.Cond.soleField "ToolUnionModel" "reading") ∈ lw_all := lw_g (lw_at lw_m6 61 rfl) rfl
theorem q1415 : (Jvm.Cond.lays "ToolUnionModel" "ToolUnionModel" "lines" "I") ∈ lw_all := lw_g (lw_at lw_m6 62 rfl) rfl
theorem q1416 : (Jvm.Cond.soleField "ToolUnionModel" "lines") ∈ lw_all := lw_g (lw_at lw_m6 63 rfl) rfl
theorem q1417 : (Jvm.Cond.lays "ToolUnionModel" "ToolUnionModel" "steps" "I") ∈ lw_all := lw_g (lw_at lw_m6 64 rfl) rfl
theorem q1418 : (Jvm.Cond.soleField "ToolUnionModel" "steps") ∈ lw_all := lw_g (lw_at lw_m6 65 rfl) rfl
theorem q1419 : (Jvm.Cond.lays "ToolUnionModel" "ToolUnionModel" "rows" "I") ∈ lw_all := lw_g (lw_at lw_m6 66 rfl) rfl
theorem q1420 : (Jvm.Cond.soleField "ToolUnionModel" "rows") ∈ lw_all := lw_g (lw_at lw_m6 67 rfl) rfl
theorem q1421 : (Jvm.Cond.lays "ToolUnionModel" "ToolUnionModel" "taped" "I") ∈ lw_all := lw_g (lw_at lw_m6 68 rfl) rfl
theorem q1422 : (Jvm.Cond.soleField "ToolUnionModel" "taped") ∈ lw_all := lw_g (lw_at lw_m6 69 rfl) rfl
theorem q1423 : (Jvm.Cond.lays "ToolUnionModel" "ToolUnionModel" "at" "I") ∈ lw_all := lw_g (lw_at lw_m6 70 rfl) rfl
theorem q1424 : (Jvm.Cond.soleField "ToolUnionModel" "at") ∈ lw_all := lw_g (lw_at lw_m6 71 rfl) rfl
theorem q1425 : (Jvm.Cond.lays "ToolUnionModel" "ToolUnionModel" "token" "I") ∈ lw_all := lw_g (lw_at lw_m6 72 rfl) rfl
theorem q1426 : (Jvm.Cond.soleField "ToolUnionModel" "token") ∈ lw_all := lw_g (lw_at lw_m6 73 rfl) rfl
theorem q1427 : (Jvm.Cond.lays "ToolUnionModel" "ToolUnionModel" "tokenAt" "I") ∈ lw_all := lw_g (lw_at lw_m6 74 rfl) rfl
theorem q1428 : (Jvm.Cond.soleField "ToolUnionModel" "tokenAt") ∈ lw_all := lw_g (lw_at lw_m6 75 rfl) rfl
theorem q1429 : (Jvm.Cond.lays "ToolUnionModel" "ToolUnionModel" "value" "I") ∈ lw_all := lw_g (lw_at lw_m6 76 rfl) rfl
theorem q1430 : (Jvm.Cond.soleField "ToolUnionModel" "value") ∈ lw_all := lw_g (lw_at lw_m6 77 rfl) rfl
theorem q1431 : (Jvm.Cond.lays "ToolUnionModel" "ToolUnionModel" "wrong" "I") ∈ lw_all := lw_g (lw_at lw_m6 78 rfl) rfl
theorem q1432 : (Jvm.Cond.soleField "ToolUnionModel" "wrong") ∈ lw_all := lw_g (lw_at lw_m6 79 rfl) rfl
theorem q1433 : (Jvm.Cond.lays "ToolUnionModel" "ToolUnionModel" "wrongAt" "I") ∈ lw_all := lw_g (lw_at lw_m6 80 rfl) rfl
theorem q1434 : (Jvm.Cond.soleField "ToolUnionModel" "wrongAt") ∈ lw_all := lw_g (lw_at lw_m6 81 rfl) rfl
theorem q1435 : (Jvm.Cond.lays "ToolUnionModel" "ToolUnionModel" "faultKind" "I") ∈ lw_all := lw_g (lw_at lw_m6 82 rfl) rfl
theorem q1436 : (Jvm.Cond.soleField "ToolUnionModel" "faultKind") ∈ lw_all := lw_g (lw_at lw_m6 83 rfl) rfl
theorem q1437 : (Jvm.Cond.lays "ToolUnionModel" "ToolUnionModel" "depth" "I") ∈ lw_all := lw_g (lw_at lw_m6 84 rfl) rfl
theorem q1438 : (Jvm.Cond.soleField "ToolUnionModel" "depth") ∈ lw_all := lw_g (lw_at lw_m6 85 rfl) rfl
theorem q1439 : (Jvm.Cond.lays "ToolUnionModel" "ToolUnionModel" "faultPlace" "I") ∈ lw_all := lw_g (lw_at lw_m6 86 rfl) rfl
theorem q1440 : (Jvm.Cond.soleField "ToolUnionModel" "faultPlace") ∈ lw_all := lw_g (lw_at lw_m6 87 rfl) rfl
theorem q1441 : (Jvm.Cond.lays "ToolUnionModel" "ToolUnionModel" "numbered" "I") ∈ lw_all := lw_g (lw_at lw_m6 88 rfl) rfl
theorem q1442 : (Jvm.Cond.soleField "ToolUnionModel" "numbered") ∈ lw_all := lw_g (lw_at lw_m6 89 rfl) rfl
theorem q1443 : (Jvm.Cond.lays "ToolUnionModel" "ToolUnionModel" "refusedAt" "I") ∈ lw_all := lw_g (lw_at lw_m6 90 rfl) rfl
theorem q1444 : (Jvm.Cond.soleField "ToolUnionModel" "refusedAt") ∈ lw_all := lw_g (lw_at lw_m6 91 rfl) rfl
theorem q1445 : (Jvm.Cond.lays "ToolUnionModel" "ToolUnionModel" "refusedHour" "I") ∈ lw_all := lw_g (lw_at lw_m6 92 rfl) rfl
theorem q1446 : (Jvm.Cond.soleField "ToolUnionModel" "refusedHour") ∈ lw_all := lw_g (lw_at lw_m6 93 rfl) rfl
theorem q1447 : (Jvm.Cond.lays "ToolUnionModel" "ToolUnionModel" "workedMany" "I") ∈ lw_all := lw_g (lw_at lw_m6 94 rfl) rfl
theorem q1448 : (Jvm.Cond.soleField "ToolUnionModel" "workedMany") ∈ lw_all := lw_g (lw_at lw_m6 95 rfl) rfl
theorem q1449 : (Jvm.Cond.lays "ToolUnionModel" "ToolUnionModel" "menBusy" "I") ∈ lw_all := lw_g (lw_at lw_m6 96 rfl) rfl
theorem q1450 : (Jvm.Cond.soleField "ToolUnionModel" "menBusy") ∈ lw_all := lw_g (lw_at lw_m6 97 rfl) rfl
theorem q1451 : (Jvm.Cond.laysFinal "ToolUnionModel" "ToolUnionModel" "together" "[Z") ∈ lw_all := lw_g (lw_at lw_m6 98 rfl) rfl
theorem q1452 : (Jvm.Cond.soleField "ToolUnionModel" "together") ∈ lw_all := lw_g (lw_at lw_m6 99 rfl) rfl
theorem q1453 : (Jvm.Cond.laysFinal "ToolUnionModel" "ToolUnionModel" "reach" "[Z") ∈ lw_all := lw_g (lw_at lw_m6 100 rfl) rfl
theorem q1454 : (Jvm.Cond.soleField "ToolUnionModel" "reach") ∈ lw_all := lw_g (lw_at lw_m6 101 rfl) rfl
theorem q1455 : (Jvm.Cond.laysFinal "ToolUnionModel" "ToolUnionModel" "serving" "[Z") ∈ lw_all := lw_g (lw_at lw_m6 102 rfl) rfl
theorem q1456 : (Jvm.Cond.soleField "ToolUnionModel" "serving") ∈ lw_all := lw_g (lw_at lw_m6 103 rfl) rfl
theorem q1457 : (Jvm.Cond.laysFinal "ToolUnionModel" "ToolUnionModel" "farOf" "[I") ∈ lw_all := lw_g (lw_at lw_m6 104 rfl) rfl
theorem q1458 : (Jvm.Cond.soleField "ToolUnionModel" "farOf") ∈ lw_all := lw_g (lw_at lw_m6 105 rfl) rfl
theorem q1459 : (Jvm.Cond.laysFinal "ToolUnionModel" "ToolUnionModel" "manOf" "[I") ∈ lw_all := lw_g (lw_at lw_m6 106 rfl) rfl
theorem q1460 : (Jvm.Cond.soleField "ToolUnionModel" "manOf") ∈ lw_all := lw_g (lw_at lw_m6 107 rfl) rfl
theorem q1461 : (Jvm.Cond.laysFinal "ToolUnionModel" "ToolUnionModel" "askedBy" "[I") ∈ lw_all := lw_g (lw_at lw_m6 108 rfl) rfl
theorem q1462 : (Jvm.Cond.soleField "ToolUnionModel" "askedBy") ∈ lw_all := lw_g (lw_at lw_m6 109 rfl) rfl
theorem q1463 : (Jvm.Cond.laysFinal "ToolUnionModel" "ToolUnionModel" "ahead" "[I") ∈ lw_all := lw_g (lw_at lw_m6 110 rfl) rfl
theorem q1464 : (Jvm.Cond.soleField "ToolUnionModel" "ahead") ∈ lw_all := lw_g (lw_at lw_m6 111 rfl) rfl
theorem q1465 : (Jvm.Cond.laysFinal "ToolUnionModel" "ToolUnionModel" "onwards" "[I") ∈ lw_all := lw_g (lw_at lw_m6 112 rfl) rfl
theorem q1466 : (Jvm.Cond.soleField "ToolUnionModel" "onwards") ∈ lw_all := lw_g (lw_at lw_m6 113 rfl) rfl
theorem q1467 : (Jvm.Cond.superclass "ToolUnionModel" "java/lang/Object") ∈ lw_all := lw_g (lw_at lw_m6 114 rfl) rfl
theorem q1469 : (Jvm.Cond.instanceMethod ({ cls := "ToolUnionModel", name := "state", desc := "(I)I" } : Jvm.MethodName)) ∈ lw_all := lw_g (lw_at lw_m6 116 rfl) rfl
theorem q1470 : (Jvm.Cond.selects "ToolUnionModel" ({ cls := "ToolUnionModel", name := "state", desc := "(I)I" } : Jvm.MethodName) ({ cls := "ToolUnionModel", name := "state", desc := "(I)I" } : Jvm.MethodName)) ∈ lw_all := lw_g (lw_at lw_m6 117 rfl) rfl
theorem q1471 : (Jvm.Cond.code ({ cls := "ToolUnionModel", name := "state", desc := "(I)I" } : Jvm.MethodName) prog_14_method_14_code (3 : Nat) (Option.some Jvm.ClassFile.FieldType.int)) ∈ lw_all := lw_g (lw_at lw_m6 118 rfl) rfl
theorem q1472 : (Jvm.Cond.methodLink "ToolUnionModel" (84 : Nat) ({ cls := "ToolUnionModel", name := "forgets", desc := "()V" } : Jvm.MethodName)) ∈ lw_all := lw_g (lw_at lw_m6 119 rfl) rfl
theorem q1473 : (Jvm.Cond.privateMethod ({ cls := "ToolUnionModel", name := "forgets", desc := "()V" } : Jvm.MethodName)) ∈ lw_tbl := lw_at lw_m6 120 rfl
theorem q1474 : (Jvm.Cond.instanceMethod ({ cls := "ToolUnionModel", name := "forgets", desc := "()V" } : Jvm.MethodName)) ∈ lw_all := lw_g (lw_at lw_m6 121 rfl) rfl
theorem q1475 : (Jvm.Cond.code ({ cls := "ToolUnionModel", name := "forgets", desc := "()V" } : Jvm.MethodName) prog_14_method_13_code (1 : Nat) (Option.none : Option Jvm.ClassFile.FieldType)) ∈ lw_all := lw_g (lw_at lw_m6 122 rfl) rfl
theorem q1477 : (Jvm.Cond.instanceMethod ({ cls := "ToolUnionModel", name := "tool", desc := "(III)I" } : Jvm.MethodName)) ∈ lw_all := lw_g (lw_at lw_m6 124 rfl) rfl
theorem q1478 : (Jvm.Cond.selects "ToolUnionModel" ({ cls := "ToolUnionModel", name := "tool", desc := "(III)I" } : Jvm.MethodName) ({ cls := "ToolUnionModel", name := "tool", desc := "(III)I" } : Jvm.MethodName)) ∈ lw_all := lw_g (lw_at lw_m6 125 rfl) rfl
theorem q1479 : (Jvm.Cond.code ({ cls := "ToolUnionModel", name := "tool", desc := "(III)I" } : Jvm.MethodName) prog_14_method_16_code (5 : Nat) (Option.some Jvm.ClassFile.FieldType.int)) ∈ lw_all := lw_g (lw_at lw_m6 126 rfl) rfl
theorem q1480 : (Jvm.Cond.methodLink "ToolUnionModel" (77 : Nat) ({ cls := "ToolUnionModel", name := "isIn", desc := "(III)Z" } : Jvm.MethodName)) ∈ lw_all := lw_g (lw_at lw_m6 127 rfl) rfl
theorem q1481 : (Jvm.Cond.static ({ cls := "ToolUnionModel", name := "isIn", desc := "(III)Z" } : Jvm.MethodName)) ∈ lw_all := lw_g (lw_at lw_m6 128 rfl) rfl
theorem q1482 : (Jvm.Cond.code ({ cls := "ToolUnionModel", name := "isIn", desc := "(III)Z" } : Jvm.MethodName) prog_14_method_2_code (3 : Nat) (Option.some Jvm.ClassFile.FieldType.boolean)) ∈ lw_all := lw_g (lw_at lw_m6 129 rfl) rfl
theorem q1483 : (Jvm.Cond.methodLink "ToolUnionModel" (89 : Nat) ({ cls := "ToolUnionModel", name := "tools", desc := "(III)V" } : Jvm.MethodName)) ∈ lw_all := lw_g (lw_at lw_m6 130 rfl) rfl
theorem q1484 : (Jvm.Cond.privateMethod ({ cls := "ToolUnionModel", name := "tools", desc := "(III)V" } : Jvm.MethodName)) ∈ lw_tbl := lw_at lw_m6 131 rfl
theorem q1485 : (Jvm.Cond.instanceMethod ({ cls := "ToolUnionModel", name := "tools", desc := "(III)V" } : Jvm.MethodName)) ∈ lw_all := lw_g (lw_at lw_m6 132 rfl) rfl
theorem q1486 : (Jvm.Cond.code ({ cls := "ToolUnionModel", name := "tools", desc := "(III)V" } : Jvm.MethodName) prog_14_method_10_code (4 : Nat) (Option.none : Option Jvm.ClassFile.FieldType)) ∈ lw_all := lw_g (lw_at lw_m6 133 rfl) rfl
theorem q1488 : (Jvm.Cond.instanceMethod ({ cls := "ToolUnionModel", name := "man", desc := "(II)I" } : Jvm.MethodName)) ∈ lw_all := lw_g (lw_at lw_m6 135 rfl) rfl
theorem q1489 : (Jvm.Cond.selects "ToolUnionModel" ({ cls := "ToolUnionModel", name := "man", desc := "(II)I" } : Jvm.MethodName) ({ cls := "ToolUnionModel", name := "man", desc := "(II)I" } : Jvm.MethodName)) ∈ lw_all := lw_g (lw_at lw_m6 136 rfl) rfl
theorem q1490 : (Jvm.Cond.code ({ cls := "ToolUnionModel", name := "man", desc := "(II)I" } : Jvm.MethodName) prog_14_method_17_code (4 : Nat) (Option.some Jvm.ClassFile.FieldType.int)) ∈ lw_all := lw_g (lw_at lw_m6 137 rfl) rfl
theorem q1492 : (Jvm.Cond.instanceMethod ({ cls := "ToolUnionModel", name := "set", desc := "(III)Z" } : Jvm.MethodName)) ∈ lw_all := lw_g (lw_at lw_m6 139 rfl) rfl
theorem q1493 : (Jvm.Cond.selects "ToolUnionModel" ({ cls := "ToolUnionModel", name := "set", desc := "(III)Z" } : Jvm.MethodName) ({ cls := "ToolUnionModel", name := "set", desc := "(III)Z" } : Jvm.MethodName)) ∈ lw_all := lw_g (lw_at lw_m6 140 rfl) rfl
theorem q1494 : (Jvm.Cond.code ({ cls := "ToolUnionModel", name := "set", desc := "(III)Z" } : Jvm.MethodName) prog_14_method_19_code (4 : Nat) (Option.some Jvm.ClassFile.FieldType.boolean)) ∈ lw_all := lw_g (lw_at lw_m6 141 rfl) rfl
theorem q1495 : (Jvm.Cond.methodLink "ToolUnionModel" (93 : Nat) ({ cls := "ToolUnionModel", name := "mostOf", desc := "(I)I" } : Jvm.MethodName)) ∈ lw_all := lw_g (lw_at lw_m6 142 rfl) rfl
theorem q1496 : (Jvm.Cond.static ({ cls := "ToolUnionModel", name := "mostOf", desc := "(I)I" } : Jvm.MethodName)) ∈ lw_all := lw_g (lw_at lw_m6 143 rfl) rfl
theorem q1497 : (Jvm.Cond.code ({ cls := "ToolUnionModel", name := "mostOf", desc := "(I)I" } : Jvm.MethodName) prog_14_method_18_code (1 : Nat) (Option.some Jvm.ClassFile.FieldType.int)) ∈ lw_all := lw_g (lw_at lw_m6 144 rfl) rfl
theorem q1498 : (Jvm.Cond.methodLink "ToolUnionModel" (97 : Nat) ({ cls := "ToolUnionModel", name := "isTool", desc := "(I)Z" } : Jvm.MethodName)) ∈ lw_all := lw_g (lw_at lw_m6 145 rfl) rfl
theorem q1499 : (Jvm.Cond.privateMethod ({ cls := "ToolUnionModel", name := "isTool", desc := "(I)Z" } : Jvm.MethodName)) ∈ lw_tbl := lw_at lw_m6 146 rfl
theorem q1500 : (Jvm.Cond.instanceMethod ({ cls := "ToolUnionModel", name := "isTool", desc := "(I)Z" } : Jvm.MethodName)) ∈ lw_all := lw_g (lw_at lw_m6 147 rfl) rfl
theorem q1501 : (Jvm.Cond.code ({ cls := "ToolUnionModel", name := "isTool", desc := "(I)Z" } : Jvm.MethodName) prog_14_method_6_code (2 : Nat) (Option.some Jvm.ClassFile.FieldType.boolean)) ∈ lw_all := lw_g (lw_at lw_m6 148 rfl) rfl
theorem q1502 : (Jvm.Cond.methodLink "ToolUnionModel" (101 : Nat) ({ cls := "ToolUnionModel", name := "isMan", desc := "(I)Z" } : Jvm.MethodName)) ∈ lw_all := lw_g (lw_at lw_m6 149 rfl) rfl
theorem q1503 : (Jvm.Cond.privateMethod ({ cls := "ToolUnionModel", name := "isMan", desc := "(I)Z" } : Jvm.MethodName)) ∈ lw_tbl := lw_at lw_m6 150 rfl
theorem q1504 : (Jvm.Cond.instanceMethod ({ cls := "ToolUnionModel", name := "isMan", desc := "(I)Z" } : Jvm.MethodName)) ∈ lw_all := lw_g (lw_at lw_m6 151 rfl) rfl
theorem q1505 : (Jvm.Cond.code ({ cls := "ToolUnionModel", name := "isMan", desc := "(I)Z" } : Jvm.MethodName) prog_14_method_7_code (2 : Nat) (Option.some Jvm.ClassFile.FieldType.boolean)) ∈ lw_all := lw_g (lw_at lw_m6 152 rfl) rfl
theorem q1507 : (Jvm.Cond.instanceMethod ({ cls := "ToolUnionModel", name := "feed", desc := "(IIIII)I" } : Jvm.MethodName)) ∈ lw_all := lw_g (lw_at lw_m6 154 rfl) rfl
theorem q1508 : (Jvm.Cond.selects "ToolUnionModel" ({ cls := "ToolUnionModel", name := "feed", desc := "(IIIII)I" } : Jvm.MethodName) ({ cls := "ToolUnionModel", name := "feed", desc := "(IIIII)I" } : Jvm.MethodName)) ∈ lw_all := lw_g (lw_at lw_m6 155 rfl) rfl
theorem q1509 : (Jvm.Cond.code ({ cls := "ToolUnionModel", name := "feed", desc := "(IIIII)I" } : Jvm.MethodName) prog_14_method_20_code (8 : Nat) (Option.some Jvm.ClassFile.FieldType.int)) ∈ lw_all := lw_g (lw_at lw_m6 156 rfl) rfl
theorem q1511 : (Jvm.Cond.instanceMethod ({ cls := "ToolUnionModel", name := "end", desc := "(I)Z" } : Jvm.MethodName)) ∈ lw_all := lw_g (lw_at lw_m6 158 rfl) rfl
theorem q1512 : (Jvm.Cond.selects "ToolUnionModel" ({ cls := "ToolUnionModel", name := "end", desc := "(I)Z" } : Jvm.MethodName) ({ cls := "ToolUnionModel", name := "end", desc := "(I)Z" } : Jvm.MethodName)) ∈ lw_all := lw_g (lw_at lw_m6 159 rfl) rfl
theorem q1513 : (Jvm.Cond.code ({ cls := "ToolUnionModel", name := "end", desc := "(I)Z" } : Jvm.MethodName) prog_14_method_21_code (2 : Nat) (Option.some Jvm.ClassFile.FieldType.boolean)) ∈ lw_all := lw_g (lw_at lw_m6 160 rfl) rfl
theorem q1515 : (Jvm.Cond.instanceMethod ({ cls := "ToolUnionModel", name := "text", desc := "(I)I" } : Jvm.MethodName)) ∈ lw_all := lw_g (lw_at lw_m6 162 rfl) rfl
theorem q1516 : (Jvm.Cond.selects "ToolUnionModel" ({ cls := "ToolUnionModel", name := "text", desc := "(I)I" } : Jvm.MethodName) ({ cls := "ToolUnionModel", name := "text", desc := "(I)I" } : Jvm.MethodName)) ∈ lw_all := lw_g (lw_at lw_m6 163 rfl) rfl
theorem q1517 : (Jvm.Cond.code ({ cls := "ToolUnionModel", name := "text", desc := "(I)I" } : Jvm.MethodName) prog_14_method_52_code (3 : Nat) (Option.some Jvm.ClassFile.FieldType.int)) ∈ lw_all := lw_g (lw_at lw_m6 164 rfl) rfl
theorem q1518 : (Jvm.Cond.methodLink "ToolUnionModel" (221 : Nat) ({ cls := "ToolUnionModel", name := "next0", desc := "()V" } : Jvm.MethodName)) ∈ lw_all := lw_g (lw_at lw_m6 165 rfl) rfl
theorem q1519 : (Jvm.Cond.privateMethod ({ cls := "ToolUnionModel", name := "next0", desc := "()V" } : Jvm.MethodName)) ∈ lw_tbl := lw_at lw_m6 166 rfl
theorem q1520 : (Jvm.Cond.instanceMethod ({ cls := "ToolUnionModel", name := "next0", desc := "()V" } : Jvm.MethodName)) ∈ lw_all := lw_g (lw_at lw_m6 167 rfl) rfl
theorem q1521 : (Jvm.Cond.code ({ cls := "ToolUnionModel", name := "next0", desc := "()V" } : Jvm.MethodName) prog_14_method_31_code (3 : Nat) (Option.none : Option Jvm.ClassFile.FieldType)) ∈ lw_all := lw_g (lw_at lw_m6 168 rfl) rfl
theorem q1522 : (Jvm.Cond.methodLink "ToolUnionModel" (194 : Nat) ({ cls := "ToolUnionModel", name := "see", desc := "(I)I" } : Jvm.MethodName)) ∈ lw_all := lw_g (lw_at lw_m6 169 rfl) rfl
theorem q1523 : (Jvm.Cond.privateMethod ({ cls := "ToolUnionModel", name := "see", desc := "(I)I" } : Jvm.MethodName)) ∈ lw_tbl := lw_at lw_m6 170 rfl
theorem q1524 : (Jvm.Cond.instanceMethod ({ cls := "ToolUnionModel", name := "see", desc := "(I)I" } : Jvm.MethodName)) ∈ lw_all := lw_g (lw_at lw_m6 171 rfl) rfl
theorem q1525 : (Jvm.Cond.code ({ cls := "ToolUnionModel", name := "see", desc := "(I)I" } : Jvm.MethodName) prog_14_method_22_code (2 : Nat) (Option.some Jvm.ClassFile.FieldType.int)) ∈ lw_all := lw_g (lw_at lw_m6 172 rfl) rfl
theorem q1526 : (Jvm.Cond.methodLink "ToolUnionModel" (200 : Nat) ({ cls := "ToolUnionModel", name := "isLetter", desc := "(I)Z" } : Jvm.MethodName)) ∈ lw_all := lw_g (lw_at lw_m6 173 rfl) rfl
theorem q1527 : (Jvm.Cond.static ({ cls := "ToolUnionModel", name := "isLetter", desc := "(I)Z" } : Jvm.MethodName)) ∈ lw_all := lw_g (lw_at lw_m6 174 rfl) rfl
theorem q1528 : (Jvm.Cond.code ({ cls := "ToolUnionModel", name := "isLetter", desc := "(I)Z" } : Jvm.MethodName) prog_14_method_23_code (1 : Nat) (Option.some Jvm.ClassFile.FieldType.boolean)) ∈ lw_all := lw_g (lw_at lw_m6 175 rfl) rfl
theorem q1529 : (Jvm.Cond.methodLink "ToolUnionModel" (203 : Nat) ({ cls := "ToolUnionModel", name := "word", desc := "()I" } : Jvm.MethodName)) ∈ lw_all := lw_g (lw_at lw_m6 176 rfl) rfl
theorem q1530 : (Jvm.Cond.privateMethod ({ cls := "ToolUnionModel", name := "word", desc := "()I" } : Jvm.MethodName)) ∈ lw_tbl := lw_at lw_m6 177 rfl
theorem q1531 : (Jvm.Cond.instanceMethod ({ cls := "ToolUnionModel", name := "word", desc := "()I" } : Jvm.MethodName)) ∈ lw_all := lw_g (lw_at lw_m6 178 rfl) rfl
theorem q1532 : (Jvm.Cond.code ({ cls := "ToolUnionModel", name := "word", desc := "()I" } : Jvm.MethodName) prog_14_method_30_code (1 : Nat) (Option.some Jvm.ClassFile.FieldType.int)) ∈ lw_all := lw_g (lw_at lw_m6 179 rfl) rfl
theorem q1533 : (Jvm.Cond.methodLink "ToolUnionModel" (185 : Nat) ({ cls := "ToolUnionModel", name := "lawWord", desc := "()I" } : Jvm.MethodName)) ∈ lw_all := lw_g (lw_at lw_m6 180 rfl) rfl
theorem q1534 : (Jvm.Cond.privateMethod ({ cls := "ToolUnionModel", name := "lawWord", desc := "()I" } : Jvm.MethodName)) ∈ lw_tbl := lw_at lw_m6 181 rfl
theorem q1535 : (Jvm.Cond.instanceMethod ({ cls := "ToolUnionModel", name := "lawWord", desc := "()I" } : Jvm.MethodName)) ∈ lw_all := lw_g (lw_at lw_m6 182 rfl) rfl
theorem q1536 : (Jvm.Cond.code ({ cls := "ToolUnionModel", name := "lawWord", desc := "()I" } : Jvm.MethodName) prog_14_method_27_code (1 : Nat) (Option.some Jvm.ClassFile.FieldType.int)) ∈ lw_all := lw_g (lw_at lw_m6 183 rfl) rfl
theorem q1537 : (Jvm.Cond.stringRef "ToolUnionModel" (147 : Nat) "when") ∈ lw_tbl := lw_at lw_m6 184 rfl
theorem q1538 : (Jvm.Cond.methodLink "ToolUnionModel" (125 : Nat) ({ cls := "ToolUnionModel", name := "is", desc := "(Ljava/lang/String;)Z" } : Jvm.MethodName)) ∈ lw_all := lw_g (lw_at lw_m6 185 rfl) rfl
theorem q1539 : (Jvm.Cond.privateMethod ({ cls := "ToolUnionModel", name := "is", desc := "(Ljava/lang/String;)Z" } : Jvm.MethodName)) ∈ lw_tbl := lw_at lw_m6 186 rfl
theorem q1540 : (Jvm.Cond.instanceMethod ({ cls := "ToolUnionModel", name := "is", desc := "(Ljava/lang/String;)Z" } : Jvm.MethodName)) ∈ lw_all := lw_g (lw_at lw_m6 187 rfl) rfl
theorem q1541 : (Jvm.Cond.code ({ cls := "ToolUnionModel", name := "is", desc := "(Ljava/lang/String;)Z" } : Jvm.MethodName) prog_14_method_25_code (4 : Nat) (Option.some Jvm.ClassFile.FieldType.boolean)) ∈ lw_all := lw_g (lw_at lw_m6 188 rfl) rfl
theorem q1542 : (Jvm.Cond.methodLink "ToolUnionModel" (113 : Nat) ({ cls := "java/lang/String", name := "length", desc := "()I" } : Jvm.MethodName)) ∈ lw_all := lw_g (lw_at lw_m6 189 rfl) rfl
theorem q1543 : (Jvm.Cond.methodLink "ToolUnionModel" (119 : Nat) ({ cls := "java/lang/String", name := "charAt", desc := "(I)C" } : Jvm.MethodName)) ∈ lw_all := lw_g (lw_at lw_m6 190 rfl) rfl
theorem q1544 : (Jvm.Cond.stringRef "ToolUnionModel" (149 : Nat) "or") ∈ lw_tbl := lw_at lw_m6 191 rfl
theorem q1545 : (Jvm.Cond.stringRef "ToolUnionModel" (151 : Nat) "and") ∈ lw_tbl := lw_at lw_m6 192 rfl
theorem q1546 : (Jvm.Cond.stringRef "ToolUnionModel" (153 : Nat) "not") ∈ lw_tbl := lw_at lw_m6 193 rfl
theorem q1547 : (Jvm.Cond.stringRef "ToolUnionModel" (158 : Nat) "will") ∈ lw_tbl := lw_at lw_m6 194 rfl
theorem q1548 : (Jvm.Cond.stringRef "ToolUnionModel" (160 : Nat) "wont") ∈ lw_tbl := lw_at lw_m6 195 rfl
theorem q1549 : (Jvm.Cond.stringRef "ToolUnionModel" (162 : Nat) "wear") ∈ lw_tbl := lw_at lw_m6 196 rfl
theorem q1550 : (Jvm.Cond.stringRef "ToolUnionModel" (164 : Nat) "mood") ∈ lw_tbl := lw_at lw_m6 197 rfl
theorem q1551 : (Jvm.Cond.stringRef "ToolUnionModel" (166 : Nat) "like") ∈ lw_tbl := lw_at lw_m6 198 rfl
theorem q1552 : (Jvm.Cond.methodLink "ToolUnionModel" (168 : Nat) ({ cls := "ToolUnionModel", name := "asked", desc := "()I" } : Jvm.MethodName)) ∈ lw_all := lw_g (lw_at lw_m6 199 rfl) rfl
theorem q1553 : (Jvm.Cond.privateMethod ({ cls := "ToolUnionModel", name := "asked", desc := "()I" } : Jvm.MethodName)) ∈ lw_tbl := lw_at lw_m6 200 rfl
theorem q1554 : (Jvm.Cond.instanceMethod ({ cls := "ToolUnionModel", name := "asked", desc := "()I" } : Jvm.MethodName)) ∈ lw_all := lw_g (lw_at lw_m6 201 rfl) rfl
theorem q1555 : (Jvm.Cond.code ({ cls := "ToolUnionModel", name := "asked", desc := "()I" } : Jvm.MethodName) prog_14_method_26_code (1 : Nat) (Option.some Jvm.ClassFile.FieldType.int)) ∈ lw_all := lw_g (lw_at lw_m6 202 rfl) rfl
theorem q1556 : (Jvm.Cond.stringRef "ToolUnionModel" (123 : Nat) "skill") ∈ lw_tbl := lw_at lw_m6 203 rfl
theorem q1557 : (Jvm.Cond.stringRef "ToolUnionModel" (129 : Nat) "edge") ∈ lw_tbl := lw_at lw_m6 204 rfl
theorem q1558 : (Jvm.Cond.stringRef "ToolUnionModel" (131 : Nat) "moods") ∈ lw_tbl := lw_at lw_m6 205 rfl
theorem q1559 : (Jvm.Cond.stringRef "ToolUnionModel" (133 : Nat) "today") ∈ lw_tbl := lw_at lw_m6 206 rfl
theorem q1560 : (Jvm.Cond.stringRef "ToolUnionModel" (135 : Nat) "kind") ∈ lw_tbl := lw_at lw_m6 207 rfl
theorem q1561 : (Jvm.Cond.stringRef "ToolUnionModel" (137 : Nat) "same") ∈ lw_tbl := lw_at lw_m6 208 rfl
theorem q1562 : (Jvm.Cond.stringRef "ToolUnionModel" (139 : Nat) "branch") ∈ lw_tbl := lw_at lw_m6 209 rfl
theorem q1563 : (Jvm.Cond.stringRef "ToolUnionModel" (141 : Nat) "bell") ∈ lw_tbl := lw_at lw_m6 210 rfl
theorem q1564 : (Jvm.Cond.stringRef "ToolUnionModel" (143 : Nat) "weekday") ∈ lw_tbl := lw_at lw_m6 211 rfl
theorem q1565 : (Jvm.Cond.stringRef "ToolUnionModel" (145 : Nat) "served") ∈ lw_tbl := lw_at lw_m6 212 rfl
theorem q1566 : (Jvm.Cond.methodLink "ToolUnionModel" (188 : Nat) ({ cls := "ToolUnionModel", name := "hullWord", desc := "()I" } : Jvm.MethodName)) ∈ lw_all := lw_g (lw_at lw_m6 213 rfl) rfl
theorem q1567 : (Jvm.Cond.privateMethod ({ cls := "ToolUnionModel", name := "hullWord", desc := "()I" } : Jvm.MethodName)) ∈ lw_tbl := lw_at lw_m6 214 rfl
theorem q1568 : (Jvm.Cond.instanceMethod ({ cls := "ToolUnionModel", name := "hullWord", desc := "()I" } : Jvm.MethodName)) ∈ lw_all := lw_g (lw_at lw_m6 215 rfl) rfl
theorem q1569 : (Jvm.Cond.code ({ cls := "ToolUnionModel", name := "hullWord", desc := "()I" } : Jvm.MethodName) prog_14_method_28_code (1 : Nat) (Option.some Jvm.ClassFile.FieldType.int)) ∈ lw_all := lw_g (lw_at lw_m6 216 rfl) rfl
theorem q1570 : (Jvm.Cond.stringRef "ToolUnionModel" (171 : Nat) "work") ∈ lw_tbl := lw_at lw_m6 217 rfl
theorem q1571 : (Jvm.Cond.stringRef "ToolUnionModel" (173 : Nat) "takes") ∈ lw_tbl := lw_at lw_m6 218 rfl
theorem q1572 : (Jvm.Cond.stringRef "ToolUnionModel" (175 : Nat) "after") ∈ lw_tbl := lw_at lw_m6 219 rfl
theorem q1573 : (Jvm.Cond.methodLink "ToolUnionModel" (191 : Nat) ({ cls := "ToolUnionModel", name := "rotaWord", desc := "()I" } : Jvm.MethodName)) ∈ lw_all := lw_g (lw_at lw_m6 220 rfl) rfl
theorem q1574 : (Jvm.Cond.privateMethod ({ cls := "ToolUnionModel", name := "rotaWord", desc := "()I" } : Jvm.MethodName)) ∈ lw_tbl := lw_at lw_m6 221 rfl
theorem q1575 : (Jvm.Cond.instanceMethod ({ cls := "ToolUnionModel", name := "rotaWord", desc := "()I" } : Jvm.MethodName)) ∈ lw_all := lw_g (lw_at lw_m6 222 rfl) rfl
theorem q1576 : (Jvm.Cond.code ({ cls := "ToolUnionModel", name := "rotaWord", desc := "()I" } : Jvm.MethodName) prog_14_method_29_code (1 : Nat) (Option.some Jvm.ClassFile.FieldType.int)) ∈ lw_all := lw_g (lw_at lw_m6 223 rfl) rfl
theorem q1577 : (Jvm.Cond.stringRef "ToolUnionModel" (177 : Nat) "tool") ∈ lw_tbl := lw_at lw_m6 224 rfl
theorem q1578 : (Jvm.Cond.stringRef "ToolUnionModel" (179 : Nat) "man") ∈ lw_tbl := lw_at lw_m6 225 rfl
theorem q1579 : (Jvm.Cond.stringRef "ToolUnionModel" (181 : Nat) "from") ∈ lw_tbl := lw_at lw_m6 226 rfl
theorem q1580 : (Jvm.Cond.stringRef "ToolUnionModel" (183 : Nat) "for") ∈ lw_tbl := lw_at lw_m6 227 rfl
theorem q1581 : (Jvm.Cond.methodLink "ToolUnionModel" (206 : Nat) ({ cls := "ToolUnionModel", name := "isDigit", desc := "(I)Z" } : Jvm.MethodName)) ∈ lw_all := lw_g (lw_at lw_m6 228 rfl) rfl
theorem q1582 : (Jvm.Cond.static ({ cls := "ToolUnionModel", name := "isDigit", desc := "(I)Z" } : Jvm.MethodName)) ∈ lw_all := lw_g (lw_at lw_m6 229 rfl) rfl
theorem q1583 : (Jvm.Cond.code ({ cls := "ToolUnionModel", name := "isDigit", desc := "(I)Z" } : Jvm.MethodName) prog_14_method_24_code (1 : Nat) (Option.some Jvm.ClassFile.FieldType.boolean)) ∈ lw_all := lw_g (lw_at lw_m6 230 rfl) rfl
theorem q1584 : (Jvm.Cond.methodLink "ToolUnionModel" (288 : Nat) ({ cls := "ToolUnionModel", name := "readsLaw", desc := "()Z" } : Jvm.MethodName)) ∈ lw_all := lw_g (lw_at lw_m6 231 rfl) rfl
theorem q1585 : (Jvm.Cond.privateMethod ({ cls := "ToolUnionModel", name := "readsLaw", desc := "()Z" } : Jvm.MethodName)) ∈ lw_tbl := lw_at lw_m6 232 rfl
theorem q1586 : (Jvm.Cond.instanceMethod ({ cls := "ToolUnionModel", name := "readsLaw", desc := "()Z" } : Jvm.MethodName)) ∈ lw_all := lw_g (lw_at lw_m6 233 rfl) rfl
theorem q1587 : (Jvm.Cond.code ({ cls := "ToolUnionModel", name := "readsLaw", desc := "()Z" } : Jvm.MethodName) prog_14_method_43_code (2 : Nat) (Option.some Jvm.ClassFile.FieldType.boolean)) ∈ lw_all := lw_g (lw_at lw_m6 234 rfl) rfl
theorem q1588 : (Jvm.Cond.methodLink "ToolUnionModel" (262 : Nat) ({ cls := "ToolUnionModel", name := "aLine", desc := "()Z" } : Jvm.MethodName)) ∈ lw_all := lw_g (lw_at lw_m6 235 rfl) rfl
theorem q1589 : (Jvm.Cond.privateMethod ({ cls := "ToolUnionModel", name := "aLine", desc := "()Z" } : Jvm.MethodName)) ∈ lw_tbl := lw_at lw_m6 236 rfl
theorem q1590 : (Jvm.Cond.instanceMethod ({ cls := "ToolUnionModel", name := "aLine", desc := "()Z" } : Jvm.MethodName)) ∈ lw_all := lw_g (lw_at lw_m6 237 rfl) rfl
theorem q1591 : (Jvm.Cond.code ({ cls := "ToolUnionModel", name := "aLine", desc := "()Z" } : Jvm.MethodName) prog_14_method_42_code (1 : Nat) (Option.some Jvm.ClassFile.FieldType.boolean)) ∈ lw_all := lw_g (lw_at lw_m6 238 rfl) rfl
theorem q1592 : (Jvm.Cond.methodLink "ToolUnionModel" (218 : Nat) ({ cls := "ToolUnionModel", name := "bad", desc := "(I)Z" } : Jvm.MethodName)) ∈ lw_all := lw_g (lw_at lw_m6 239 rfl) rfl
theorem q1593 : (Jvm.Cond.privateMethod ({ cls := "ToolUnionModel", name := "bad", desc := "(I)Z" } : Jvm.MethodName)) ∈ lw_tbl := lw_at lw_m7 0 rfl
theorem q1594 : (Jvm.Cond.instanceMethod ({ cls := "ToolUnionModel", name := "bad", desc := "(I)Z" } : Jvm.MethodName)) ∈ lw_all := lw_g (lw_at lw_m7 1 rfl) rfl
theorem q1595 : (Jvm.Cond.code ({ cls := "ToolUnionModel", name := "bad", desc := "(I)Z" } : Jvm.MethodName) prog_14_method_32_code (2 : Nat) (Option.some Jvm.ClassFile.FieldType.boolean)) ∈ lw_all := lw_g (lw_at lw_m7 2 rfl) rfl
theorem q1596 : (Jvm.Cond.methodLink "ToolUnionModel" (256 : Nat) ({ cls := "ToolUnionModel", name := "sumUp", desc := "()Z" } : Jvm.MethodName)) ∈ lw_all := lw_g (lw_at lw_m7 3 rfl) rfl
theorem q1597 : (Jvm.Cond.privateMethod ({ cls := "ToolUnionModel", name := "sumUp", desc := "()Z" } : Jvm.MethodName)) ∈ lw_tbl := lw_at lw_m7 4 rfl
theorem q1598 : (Jvm.Cond.instanceMethod ({ cls := "ToolUnionModel", name := "sumUp", desc := "()Z" } : Jvm.MethodName)) ∈ lw_all := lw_g (lw_at lw_m7 5 rfl) rfl
theorem q1599 : (Jvm.Cond.code ({ cls := "ToolUnionModel", name := "sumUp", desc := "()Z" } : Jvm.MethodName) prog_14_method_36_code (2 : Nat) (Option.some Jvm.ClassFile.FieldType.boolean)) ∈ lw_all := lw_g (lw_at lw_m7 6 rfl) rfl
theorem q1600 : (Jvm.Cond.methodLink "ToolUnionModel" (230 : Nat) ({ cls := "ToolUnionModel", name := "product", desc := "()Z" } : Jvm.MethodName)) ∈ lw_all := lw_g (lw_at lw_m7 7 rfl) rfl
theorem q1601 : (Jvm.Cond.privateMethod ({ cls := "ToolUnionModel", name := "product", desc := "()Z" } : Jvm.MethodName)) ∈ lw_tbl := lw_at lw_m7 8 rfl
theorem q1602 : (Jvm.Cond.instanceMethod ({ cls := "ToolUnionModel", name := "product", desc := "()Z" } : Jvm.MethodName)) ∈ lw_all := lw_g (lw_at lw_m7 9 rfl) rfl
theorem q1603 : (Jvm.Cond.code ({ cls := "ToolUnionModel", name := "product", desc := "()Z" } : Jvm.MethodName) prog_14_method_37_code (3 : Nat) (Option.some Jvm.ClassFile.FieldType.boolean)) ∈ lw_all := lw_g (lw_at lw_m7 10 rfl) rfl
theorem q1604 : (Jvm.Cond.methodLink "ToolUnionModel" (238 : Nat) ({ cls := "ToolUnionModel", name := "unit", desc := "()Z" } : Jvm.MethodName)) ∈ lw_all := lw_g (lw_at lw_m7 11 rfl) rfl
theorem q1605 : (Jvm.Cond.privateMethod ({ cls := "ToolUnionModel", name := "unit", desc := "()Z" } : Jvm.MethodName)) ∈ lw_tbl := lw_at lw_m7 12 rfl
theorem q1606 : (Jvm.Cond.instanceMethod ({ cls := "ToolUnionModel", name := "unit", desc := "()Z" } : Jvm.MethodName)) ∈ lw_all := lw_g (lw_at lw_m7 13 rfl) rfl
theorem q1607 : (Jvm.Cond.code ({ cls := "ToolUnionModel", name := "unit", desc := "()Z" } : Jvm.MethodName) prog_14_method_38_code (2 : Nat) (Option.some Jvm.ClassFile.FieldType.boolean)) ∈ lw_all := lw_g (lw_at lw_m7 14 rfl) rfl
theorem q1608 : (Jvm.Cond.methodLink "ToolUnionModel" (234 : Nat) ({ cls := "ToolUnionModel", name := "lay", desc := "(II)V" } : Jvm.MethodName)) ∈ lw_all := lw_g (lw_at lw_m7 15 rfl) rfl
theorem q1609 : (Jvm.Cond.privateMethod ({ cls := "ToolUnionModel", name := "lay", desc := "(II)V" } : Jvm.MethodName)) ∈ lw_tbl := lw_at lw_m7 16 rfl
theorem q1610 : (Jvm.Cond.instanceMethod ({ cls := "ToolUnionModel", name := "lay", desc := "(II)V" } : Jvm.MethodName)) ∈ lw_all := lw_g (lw_at lw_m7 17 rfl) rfl
theorem q1611 : (Jvm.Cond.code ({ cls := "ToolUnionModel", name := "lay", desc := "(II)V" } : Jvm.MethodName) prog_14_method_34_code (3 : Nat) (Option.none : Option Jvm.ClassFile.FieldType)) ∈ lw_all := lw_g (lw_at lw_m7 18 rfl) rfl
theorem q1612 : (Jvm.Cond.methodLink "ToolUnionModel" (250 : Nat) ({ cls := "ToolUnionModel", name := "any", desc := "()Z" } : Jvm.MethodName)) ∈ lw_all := lw_g (lw_at lw_m7 19 rfl) rfl
theorem q1613 : (Jvm.Cond.privateMethod ({ cls := "ToolUnionModel", name := "any", desc := "()Z" } : Jvm.MethodName)) ∈ lw_tbl := lw_at lw_m7 20 rfl
theorem q1614 : (Jvm.Cond.instanceMethod ({ cls := "ToolUnionModel", name := "any", desc := "()Z" } : Jvm.MethodName)) ∈ lw_all := lw_g (lw_at lw_m7 21 rfl) rfl
theorem q1615 : (Jvm.Cond.code ({ cls := "ToolUnionModel", name := "any", desc := "()Z" } : Jvm.MethodName) prog_14_method_39_code (1 : Nat) (Option.some Jvm.ClassFile.FieldType.boolean)) ∈ lw_all := lw_g (lw_at lw_m7 22 rfl) rfl
theorem q1616 : (Jvm.Cond.methodLink "ToolUnionModel" (241 : Nat) ({ cls := "ToolUnionModel", name := "every", desc := "()Z" } : Jvm.MethodName)) ∈ lw_all := lw_g (lw_at lw_m7 23 rfl) rfl
theorem q1617 : (Jvm.Cond.privateMethod ({ cls := "ToolUnionModel", name := "every", desc := "()Z" } : Jvm.MethodName)) ∈ lw_tbl := lw_at lw_m7 24 rfl
theorem q1618 : (Jvm.Cond.instanceMethod ({ cls := "ToolUnionModel", name := "every", desc := "()Z" } : Jvm.MethodName)) ∈ lw_all := lw_g (lw_at lw_m7 25 rfl) rfl
theorem q1619 : (Jvm.Cond.code ({ cls := "ToolUnionModel", name := "every", desc := "()Z" } : Jvm.MethodName) prog_14_method_40_code (1 : Nat) (Option.some Jvm.ClassFile.FieldType.boolean)) ∈ lw_all := lw_g (lw_at lw_m7 26 rfl) rfl
theorem q1620 : (Jvm.Cond.methodLink "ToolUnionModel" (244 : Nat) ({ cls := "ToolUnionModel", name := "oneTest", desc := "()Z" } : Jvm.MethodName)) ∈ lw_all := lw_g (lw_at lw_m7 27 rfl) rfl
theorem q1621 : (Jvm.Cond.privateMethod ({ cls := "ToolUnionModel", name := "oneTest", desc := "()Z" } : Jvm.MethodName)) ∈ lw_tbl := lw_at lw_m7 28 rfl
theorem q1622 : (Jvm.Cond.instanceMethod ({ cls := "ToolUnionModel", name := "oneTest", desc := "()Z" } : Jvm.MethodName)) ∈ lw_all := lw_g (lw_at lw_m7 29 rfl) rfl
theorem q1623 : (Jvm.Cond.code ({ cls := "ToolUnionModel", name := "oneTest", desc := "()Z" } : Jvm.MethodName) prog_14_method_41_code (2 : Nat) (Option.some Jvm.ClassFile.FieldType.boolean)) ∈ lw_all := lw_g (lw_at lw_m7 30 rfl) rfl
theorem q1624 : (Jvm.Cond.methodLink "ToolUnionModel" (247 : Nat) ({ cls := "ToolUnionModel", name := "opens", desc := "()Z" } : Jvm.MethodName)) ∈ lw_all := lw_g (lw_at lw_m7 31 rfl) rfl
theorem q1625 : (Jvm.Cond.privateMethod ({ cls := "ToolUnionModel", name := "opens", desc := "()Z" } : Jvm.MethodName)) ∈ lw_tbl := lw_at lw_m7 32 rfl
theorem q1626 : (Jvm.Cond.instanceMethod ({ cls := "ToolUnionModel", name := "opens", desc := "()Z" } : Jvm.MethodName)) ∈ lw_all := lw_g (lw_at lw_m7 33 rfl) rfl
theorem q1627 : (Jvm.Cond.code ({ cls := "ToolUnionModel", name := "opens", desc := "()Z" } : Jvm.MethodName) prog_14_method_35_code (1 : Nat) (Option.some Jvm.ClassFile.FieldType.boolean)) ∈ lw_all := lw_g (lw_at lw_m7 34 rfl) rfl
theorem q1628 : (Jvm.Cond.methodLink "ToolUnionModel" (253 : Nat) ({ cls := "ToolUnionModel", name := "need", desc := "(I)Z" } : Jvm.MethodName)) ∈ lw_all := lw_g (lw_at lw_m7 35 rfl) rfl
theorem q1629 : (Jvm.Cond.privateMethod ({ cls := "ToolUnionModel", name := "need", desc := "(I)Z" } : Jvm.MethodName)) ∈ lw_tbl := lw_at lw_m7 36 rfl
theorem q1630 : (Jvm.Cond.instanceMethod ({ cls := "ToolUnionModel", name := "need", desc := "(I)Z" } : Jvm.MethodName)) ∈ lw_all := lw_g (lw_at lw_m7 37 rfl) rfl
theorem q1631 : (Jvm.Cond.code ({ cls := "ToolUnionModel", name := "need", desc := "(I)Z" } : Jvm.MethodName) prog_14_method_33_code (2 : Nat) (Option.some Jvm.ClassFile.FieldType.boolean)) ∈ lw_all := lw_g (lw_at lw_m7 38 rfl) rfl
theorem q1632 : (Jvm.Cond.methodLink "ToolUnionModel" (291 : Nat) ({ cls := "ToolUnionModel", name := "readsRows", desc := "()Z" } : Jvm.MethodName)) ∈ lw_all := lw_g (lw_at lw_m7 39 rfl) rfl
theorem q1633 : (Jvm.Cond.privateMethod ({ cls := "ToolUnionModel", name := "readsRows", desc := "()Z" } : Jvm.MethodName)) ∈ lw_tbl := lw_at lw_m7 40 rfl
theorem q1634 : (Jvm.Cond.instanceMethod ({ cls := "ToolUnionModel", name := "readsRows", desc := "()Z" } : Jvm.MethodName)) ∈ lw_all := lw_g (lw_at lw_m7 41 rfl) rfl
theorem q1635 : (Jvm.Cond.code ({ cls := "ToolUnionModel", name := "readsRows", desc := "()Z" } : Jvm.MethodName) prog_14_method_48_code (2 : Nat) (Option.some Jvm.ClassFile.FieldType.boolean)) ∈ lw_all := lw_g (lw_at lw_m7 42 rfl) rfl
theorem q1636 : (Jvm.Cond.methodLink "ToolUnionModel" (279 : Nat) ({ cls := "ToolUnionModel", name := "aWork", desc := "()Z" } : Jvm.MethodName)) ∈ lw_all := lw_g (lw_at lw_m7 43 rfl) rfl
theorem q1637 : (Jvm.Cond.privateMethod ({ cls := "ToolUnionModel", name := "aWork", desc := "()Z" } : Jvm.MethodName)) ∈ lw_tbl := lw_at lw_m7 44 rfl
theorem q1638 : (Jvm.Cond.instanceMethod ({ cls := "ToolUnionModel", name := "aWork", desc := "()Z" } : Jvm.MethodName)) ∈ lw_all := lw_g (lw_at lw_m7 45 rfl) rfl
theorem q1639 : (Jvm.Cond.code ({ cls := "ToolUnionModel", name := "aWork", desc := "()Z" } : Jvm.MethodName) prog_14_method_46_code (2 : Nat) (Option.some Jvm.ClassFile.FieldType.boolean)) ∈ lw_all := lw_g (lw_at lw_m7 46 rfl) rfl
theorem q1640 : (Jvm.Cond.methodLink "ToolUnionModel" (275 : Nat) ({ cls := "ToolUnionModel", name := "told", desc := "(IIII)Z" } : Jvm.MethodName)) ∈ lw_all := lw_g (lw_at lw_m7 47 rfl) rfl
theorem q1641 : (Jvm.Cond.privateMethod ({ cls := "ToolUnionModel", name := "told", desc := "(IIII)Z" } : Jvm.MethodName)) ∈ lw_tbl := lw_at lw_m7 48 rfl
theorem q1642 : (Jvm.Cond.instanceMethod ({ cls := "ToolUnionModel", name := "told", desc := "(IIII)Z" } : Jvm.MethodName)) ∈ lw_all := lw_g (lw_at lw_m7 49 rfl) rfl
theorem q1643 : (Jvm.Cond.code ({ cls := "ToolUnionModel", name := "told", desc := "(IIII)Z" } : Jvm.MethodName) prog_14_method_45_code (5 : Nat) (Option.some Jvm.ClassFile.FieldType.boolean)) ∈ lw_all := lw_g (lw_at lw_m7 50 rfl) rfl
theorem q1644 : (Jvm.Cond.methodLink "ToolUnionModel" (268 : Nat) ({ cls := "ToolUnionModel", name := "number", desc := "(II)Z" } : Jvm.MethodName)) ∈ lw_all := lw_g (lw_at lw_m7 51 rfl) rfl
theorem q1645 : (Jvm.Cond.privateMethod ({ cls := "ToolUnionModel", name := "number", desc := "(II)Z" } : Jvm.MethodName)) ∈ lw_tbl := lw_at lw_m7 52 rfl
theorem q1646 : (Jvm.Cond.instanceMethod ({ cls := "ToolUnionModel", name := "number", desc := "(II)Z" } : Jvm.MethodName)) ∈ lw_all := lw_g (lw_at lw_m7 53 rfl) rfl
theorem q1647 : (Jvm.Cond.code ({ cls := "ToolUnionModel", name := "number", desc := "(II)Z" } : Jvm.MethodName) prog_14_method_44_code (3 : Nat) (Option.some Jvm.ClassFile.FieldType.boolean)) ∈ lw_all := lw_g (lw_at lw_m7 54 rfl) rfl
theorem q1648 : (Jvm.Cond.methodLink "ToolUnionModel" (282 : Nat) ({ cls := "ToolUnionModel", name := "aRota", desc := "()Z" } : Jvm.MethodName)) ∈ lw_all := lw_g (lw_at lw_m7 55 rfl) rfl
theorem q1649 : (Jvm.Cond.privateMethod ({ cls := "ToolUnionModel", name := "aRota", desc := "()Z" } : Jvm.MethodName)) ∈ lw_tbl := lw_at lw_m7 56 rfl
theorem q1650 : (Jvm.Cond.instanceMethod ({ cls := "ToolUnionModel", name := "aRota", desc := "()Z" } : Jvm.MethodName)) ∈ lw_all := lw_g (lw_at lw_m7 57 rfl) rfl
theorem q1651 : (Jvm.Cond.code ({ cls := "ToolUnionModel", name := "aRota", desc := "()Z" } : Jvm.MethodName) prog_14_method_47_code (2 : Nat) (Option.some Jvm.ClassFile.FieldType.boolean)) ∈ lw_all := lw_g (lw_at lw_m7 58 rfl) rfl
theorem q1652 : (Jvm.Cond.methodLink "ToolUnionModel" (294 : Nat) ({ cls := "ToolUnionModel", name := "putsLaw", desc := "(I)I" } : Jvm.MethodName)) ∈ lw_all := lw_g (lw_at lw_m7 59 rfl) rfl
theorem q1653 : (Jvm.Cond.privateMethod ({ cls := "ToolUnionModel", name := "putsLaw", desc := "(I)I" } : Jvm.MethodName)) ∈ lw_tbl := lw_at lw_m7 60 rfl
theorem q1654 : (Jvm.Cond.instanceMethod ({ cls := "ToolUnionModel", name := "putsLaw", desc := "(I)I" } : Jvm.MethodName)) ∈ lw_all := lw_g (lw_at lw_m7 61 rfl) rfl
theorem q1655 : (Jvm.Cond.code ({ cls := "ToolUnionModel", name := "putsLaw", desc := "(I)I" } : Jvm.MethodName) prog_14_method_49_code (3 : Nat) (Option.some Jvm.ClassFile.FieldType.int)) ∈ lw_all := lw_g (lw_at lw_m7 62 rfl) rfl
theorem q1656 : (Jvm.Cond.methodLink "ToolUnionModel" (297 : Nat) ({ cls := "ToolUnionModel", name := "putsHull", desc := "()I" } : Jvm.MethodName)) ∈ lw_all := lw_g (lw_at lw_m7 63 rfl) rfl
theorem q1657 : (Jvm.Cond.privateMethod ({ cls := "ToolUnionModel", name := "putsHull", desc := "()I" } : Jvm.MethodName)) ∈ lw_tbl := lw_at lw_m7 64 rfl
theorem q1658 : (Jvm.Cond.instanceMethod ({ cls := "ToolUnionModel", name := "putsHull", desc := "()I" } : Jvm.MethodName)) ∈ lw_all := lw_g (lw_at lw_m7 65 rfl) rfl
theorem q1659 : (Jvm.Cond.code ({ cls := "ToolUnionModel", name := "putsHull", desc := "()I" } : Jvm.MethodName) prog_14_method_50_code (2 : Nat) (Option.some Jvm.ClassFile.FieldType.int)) ∈ lw_all := lw_g (lw_at lw_m7 66 rfl) rfl
theorem q1660 : (Jvm.Cond.methodLink "ToolUnionModel" (300 : Nat) ({ cls := "ToolUnionModel", name := "putsRota", desc := "()I" } : Jvm.MethodName)) ∈ lw_all := lw_g (lw_at lw_m7 67 rfl) rfl
theorem q1661 : (Jvm.Cond.privateMethod ({ cls := "ToolUnionModel", name := "putsRota", desc := "()I" } : Jvm.MethodName)) ∈ lw_tbl := lw_at lw_m7 68 rfl
theorem q1662 : (Jvm.Cond.instanceMethod ({ cls := "ToolUnionModel", name := "putsRota", desc := "()I" } : Jvm.MethodName)) ∈ lw_all := lw_g (lw_at lw_m7 69 rfl) rfl
theorem q1663 : (Jvm.Cond.code ({ cls := "ToolUnionModel", name := "putsRota", desc := "()I" } : Jvm.MethodName) prog_14_method_51_code (2 : Nat) (Option.some Jvm.ClassFile.FieldType.int)) ∈ lw_all := lw_g (lw_at lw_m7 70 rfl) rfl
theorem q1665 : (Jvm.Cond.instanceMethod ({ cls := "ToolUnionModel", name := "fault", desc := "(I)I" } : Jvm.MethodName)) ∈ lw_all := lw_g (lw_at lw_m7 72 rfl) rfl
theorem q1666 : (Jvm.Cond.selects "ToolUnionModel" ({ cls := "ToolUnionModel", name := "fault", desc := "(I)I" } : Jvm.MethodName) ({ cls := "ToolUnionModel", name := "fault", desc := "(I)I" } : Jvm.MethodName)) ∈ lw_all := lw_g (lw_at lw_m7 73 rfl) rfl
theorem q1667 : (Jvm.Cond.code ({ cls := "ToolUnionModel", name := "fault", desc := "(I)I" } : Jvm.MethodName) prog_14_method_53_code (2 : Nat) (Option.some Jvm.ClassFile.FieldType.int)) ∈ lw_all := lw_g (lw_at lw_m7 74 rfl) rfl
theorem q1669 : (Jvm.Cond.instanceMethod ({ cls := "ToolUnionModel", name := "undo", desc := "()Z" } : Jvm.MethodName)) ∈ lw_all := lw_g (lw_at lw_m7 76 rfl) rfl
theorem q1670 : (Jvm.Cond.selects "ToolUnionModel" ({ cls := "ToolUnionModel", name := "undo", desc := "()Z" } : Jvm.MethodName) ({ cls := "ToolUnionModel", name := "undo", desc := "()Z" } : Jvm.MethodName)) ∈ lw_all := lw_g (lw_at lw_m7 77 rfl) rfl
theorem q1671 : (Jvm.Cond.code ({ cls := "ToolUnionModel", name := "undo", desc := "()Z" } : Jvm.MethodName) prog_14_method_71_code (2 : Nat) (Option.some Jvm.ClassFile.FieldType.boolean)) ∈ lw_all := lw_g (lw_at lw_m7 78 rfl) rfl
theorem q1673 : (Jvm.Cond.instanceMethod ({ cls := "ToolUnionModel", name := "mend", desc := "(IZ)Z" } : Jvm.MethodName)) ∈ lw_all := lw_g (lw_at lw_m7 80 rfl) rfl
theorem q1674 : (Jvm.Cond.selects "ToolUnionModel" ({ cls := "ToolUnionModel", name := "mend", desc := "(IZ)Z" } : Jvm.MethodName) ({ cls := "ToolUnionModel", name := "mend", desc := "(IZ)Z" } : Jvm.MethodName)) ∈ lw_all := lw_g (lw_at lw_m7 81 rfl) rfl
theorem q1675 : (Jvm.Cond.code ({ cls := "ToolUnionModel", name := "mend", desc := "(IZ)Z" } : Jvm.MethodName) prog_14_method_72_code (3 : Nat) (Option.some Jvm.ClassFile.FieldType.boolean)) ∈ lw_all := lw_g (lw_at lw_m7 82 rfl) rfl
theorem q1676 : (Jvm.Cond.methodLink "ToolUnionModel" (346 : Nat) ({ cls := "ToolUnionModel", name := "keeps", desc := "()V" } : Jvm.MethodName)) ∈ lw_all := lw_g (lw_at lw_m7 83 rfl) rfl
theorem q1677 : (Jvm.Cond.privateMethod ({ cls := "ToolUnionModel", name := "keeps", desc := "()V" } : Jvm.MethodName)) ∈ lw_tbl := lw_at lw_m7 84 rfl
theorem q1678 : (Jvm.Cond.instanceMethod ({ cls := "ToolUnionModel", name := "keeps", desc := "()V" } : Jvm.MethodName)) ∈ lw_all := lw_g (lw_at lw_m7 85 rfl) rfl
theorem q1679 : (Jvm.Cond.code ({ cls := "ToolUnionModel", name := "keeps", desc := "()V" } : Jvm.MethodName) prog_14_method_70_code (2 : Nat) (Option.none : Option Jvm.ClassFile.FieldType)) ∈ lw_all := lw_g (lw_at lw_m7 86 rfl) rfl
theorem q1680 : (Jvm.Cond.methodLink "ToolUnionModel" (313 : Nat) ({ cls := "ToolUnionModel", name := "ofTool", desc := "(II)I" } : Jvm.MethodName)) ∈ lw_all := lw_g (lw_at lw_m7 87 rfl) rfl
theorem q1681 : (Jvm.Cond.privateMethod ({ cls := "ToolUnionModel", name := "ofTool", desc := "(II)I" } : Jvm.MethodName)) ∈ lw_tbl := lw_at lw_m7 88 rfl
theorem q1682 : (Jvm.Cond.instanceMethod ({ cls := "ToolUnionModel", name := "ofTool", desc := "(II)I" } : Jvm.MethodName)) ∈ lw_all := lw_g (lw_at lw_m7 89 rfl) rfl
theorem q1683 : (Jvm.Cond.code ({ cls := "ToolUnionModel", name := "ofTool", desc := "(II)I" } : Jvm.MethodName) prog_14_method_9_code (3 : Nat) (Option.some Jvm.ClassFile.FieldType.int)) ∈ lw_all := lw_g (lw_at lw_m7 90 rfl) rfl
theorem q1684 : (Jvm.Cond.methodLink "ToolUnionModel" (70 : Nat) ({ cls := "ToolUnionModel", name := "lesser", desc := "(II)I" } : Jvm.MethodName)) ∈ lw_all := lw_g (lw_at lw_m7 91 rfl) rfl
theorem q1685 : (Jvm.Cond.static ({ cls := "ToolUnionModel", name := "lesser", desc := "(II)I" } : Jvm.MethodName)) ∈ lw_all := lw_g (lw_at lw_m7 92 rfl) rfl
theorem q1686 : (Jvm.Cond.code ({ cls := "ToolUnionModel", name := "lesser", desc := "(II)I" } : Jvm.MethodName) prog_14_method_3_code (2 : Nat) (Option.some Jvm.ClassFile.FieldType.int)) ∈ lw_all := lw_g (lw_at lw_m7 93 rfl) rfl
theorem q1687 : (Jvm.Cond.methodLink "ToolUnionModel" (74 : Nat) ({ cls := "ToolUnionModel", name := "greater", desc := "(II)I" } : Jvm.MethodName)) ∈ lw_all := lw_g (lw_at lw_m7 94 rfl) rfl
theorem q1688 : (Jvm.Cond.static ({ cls := "ToolUnionModel", name := "greater", desc := "(II)I" } : Jvm.MethodName)) ∈ lw_all := lw_g (lw_at lw_m7 95 rfl) rfl
theorem q1689 : (Jvm.Cond.code ({ cls := "ToolUnionModel", name := "greater", desc := "(II)I" } : Jvm.MethodName) prog_14_method_4_code (2 : Nat) (Option.some Jvm.ClassFile.FieldType.int)) ∈ lw_all := lw_g (lw_at lw_m7 96 rfl) rfl
theorem q1691 : (Jvm.Cond.instanceMethod ({ cls := "ToolUnionModel", name := "strike", desc := "(IZ)Z" } : Jvm.MethodName)) ∈ lw_all := lw_g (lw_at lw_m7 98 rfl) rfl
theorem q1692 : (Jvm.Cond.selects "ToolUnionModel" ({ cls := "ToolUnionModel", name := "strike", desc := "(IZ)Z" } : Jvm.MethodName) ({ cls := "ToolUnionModel", name := "strike", desc := "(IZ)Z" } : Jvm.MethodName)) ∈ lw_all := lw_g (lw_at lw_m7 99 rfl) rfl
theorem q1693 : (Jvm.Cond.code ({ cls := "ToolUnionModel", name := "strike", desc := "(IZ)Z" } : Jvm.MethodName) prog_14_method_73_code (3 : Nat) (Option.some Jvm.ClassFile.FieldType.boolean)) ∈ lw_all := lw_g (lw_at lw_m7 100 rfl) rfl
theorem q1695 : (Jvm.Cond.instanceMethod ({ cls := "ToolUnionModel", name := "may", desc := "(IIZ)Z" } : Jvm.MethodName)) ∈ lw_all := lw_g (lw_at lw_m7 102 rfl) rfl
theorem q1696 : (Jvm.Cond.selects "ToolUnionModel" ({ cls := "ToolUnionModel", name := "may", desc := "(IIZ)Z" } : Jvm.MethodName) ({ cls := "ToolUnionModel", name := "may", desc := "(IIZ)Z" } : Jvm.MethodName)) ∈ lw_all := lw_g (lw_at lw_m7 103 rfl) rfl
theorem q1697 : (Jvm.Cond.code ({ cls := "ToolUnionModel", name := "may", desc := "(IIZ)Z" } : Jvm.MethodName) prog_14_method_74_code (4 : Nat) (Option.some Jvm.ClassFile.FieldType.boolean)) ∈ lw_all := lw_g (lw_at lw_m7 104 rfl) rfl
theorem q1698 : (Jvm.Cond.methodLink "ToolUnionModel" (324 : Nat) ({ cls := "ToolUnionModel", name := "mayIts", desc := "(II)Z" } : Jvm.MethodName)) ∈ lw_all := lw_g (lw_at lw_m7 105 rfl) rfl
theorem q1699 : (Jvm.Cond.privateMethod ({ cls := "ToolUnionModel", name := "mayIts", desc := "(II)Z" } : Jvm.MethodName)) ∈ lw_tbl := lw_at lw_m7 106 rfl
theorem q1700 : (Jvm.Cond.instanceMethod ({ cls := "ToolUnionModel", name := "mayIts", desc := "(II)Z" } : Jvm.MethodName)) ∈ lw_all := lw_g (lw_at lw_m7 107 rfl) rfl
theorem q1701 : (Jvm.Cond.code ({ cls := "ToolUnionModel", name := "mayIts", desc := "(II)Z" } : Jvm.MethodName) prog_14_method_59_code (3 : Nat) (Option.some Jvm.ClassFile.FieldType.boolean)) ∈ lw_all := lw_g (lw_at lw_m7 108 rfl) rfl
theorem q1703 : (Jvm.Cond.instanceMethod ({ cls := "ToolUnionModel", name := "hours", desc := "(I)I" } : Jvm.MethodName)) ∈ lw_all := lw_g (lw_at lw_m7 110 rfl) rfl
theorem q1704 : (Jvm.Cond.selects "ToolUnionModel" ({ cls := "ToolUnionModel", name := "hours", desc := "(I)I" } : Jvm.MethodName) ({ cls := "ToolUnionModel", name := "hours", desc := "(I)I" } : Jvm.MethodName)) ∈ lw_all := lw_g (lw_at lw_m7 111 rfl) rfl
theorem q1705 : (Jvm.Cond.code ({ cls := "ToolUnionModel", name := "hours", desc := "(I)I" } : Jvm.MethodName) prog_14_method_79_code (4 : Nat) (Option.some Jvm.ClassFile.FieldType.int)) ∈ lw_all := lw_g (lw_at lw_m7 112 rfl) rfl
theorem q1706 : (Jvm.Cond.methodLink "ToolUnionModel" (386 : Nat) ({ cls := "ToolUnionModel", name := "anHour", desc := "(Z)I" } : Jvm.MethodName)) ∈ lw_all := lw_g (lw_at lw_m7 113 rfl) rfl
theorem q1707 : (Jvm.Cond.privateMethod ({ cls := "ToolUnionModel", name := "anHour", desc := "(Z)I" } : Jvm.MethodName)) ∈ lw_tbl := lw_at lw_m7 114 rfl
theorem q1708 : (Jvm.Cond.instanceMethod ({ cls := "ToolUnionModel", name := "anHour", desc := "(Z)I" } : Jvm.MethodName)) ∈ lw_all := lw_g (lw_at lw_m7 115 rfl) rfl
theorem q1709 : (Jvm.Cond.code ({ cls := "ToolUnionModel", name := "anHour", desc := "(Z)I" } : Jvm.MethodName) prog_14_method_78_code (5 : Nat) (Option.some Jvm.ClassFile.FieldType.int)) ∈ lw_all := lw_g (lw_at lw_m7 116 rfl) rfl
theorem q1710 : (Jvm.Cond.methodLink "ToolUnionModel" (373 : Nat) ({ cls := "ToolUnionModel", name := "works", desc := "(IZ)Z" } : Jvm.MethodName)) ∈ lw_all := lw_g (lw_at lw_m7 117 rfl) rfl
theorem q1711 : (Jvm.Cond.privateMethod ({ cls := "ToolUnionModel", name := "works", desc := "(IZ)Z" } : Jvm.MethodName)) ∈ lw_tbl := lw_at lw_m7 118 rfl
theorem q1712 : (Jvm.Cond.instanceMethod ({ cls := "ToolUnionModel", name := "works", desc := "(IZ)Z" } : Jvm.MethodName)) ∈ lw_all := lw_g (lw_at lw_m7 119 rfl) rfl
theorem q1713 : (Jvm.Cond.code ({ cls := "ToolUnionModel", name := "works", desc := "(IZ)Z" } : Jvm.MethodName) prog_14_method_77_code (6 : Nat) (Option.some Jvm.ClassFile.FieldType.boolean)) ∈ lw_all := lw_g (lw_at lw_m7 120 rfl) rfl
theorem q1714 : (Jvm.Cond.methodLink "ToolUnionModel" (358 : Nat) ({ cls := "ToolUnionModel", name := "isOpen", desc := "(I)Z" } : Jvm.MethodName)) ∈ lw_all := lw_g (lw_at lw_m7 121 rfl) rfl
theorem q1715 : (Jvm.Cond.privateMethod ({ cls := "ToolUnionModel", name := "isOpen", desc := "(I)Z" } : Jvm.MethodName)) ∈ lw_tbl := lw_at lw_m7 122 rfl
theorem q1716 : (Jvm.Cond.instanceMethod ({ cls := "ToolUnionModel", name := "isOpen", desc := "(I)Z" } : Jvm.MethodName)) ∈ lw_all := lw_g (lw_at lw_m7 123 rfl) rfl
theorem q1717 : (Jvm.Cond.code ({ cls := "ToolUnionModel", name := "isOpen", desc := "(I)Z" } : Jvm.MethodName) prog_14_method_69_code (2 : Nat) (Option.some Jvm.ClassFile.FieldType.boolean)) ∈ lw_all := lw_g (lw_at lw_m7 124 rfl) rfl
theorem q1718 : (Jvm.Cond.methodLink "ToolUnionModel" (340 : Nat) ({ cls := "ToolUnionModel", name := "isDone", desc := "(I)Z" } : Jvm.MethodName)) ∈ lw_all := lw_g (lw_at lw_m7 125 rfl) rfl
theorem q1719 : (Jvm.Cond.privateMethod ({ cls := "ToolUnionModel", name := "isDone", desc := "(I)Z" } : Jvm.MethodName)) ∈ lw_tbl := lw_at lw_m7 126 rfl
theorem q1720 : (Jvm.Cond.instanceMethod ({ cls := "ToolUnionModel", name := "isDone", desc := "(I)Z" } : Jvm.MethodName)) ∈ lw_all := lw_g (lw_at lw_m7 127 rfl) rfl
theorem q1721 : (Jvm.Cond.code ({ cls := "ToolUnionModel", name := "isDone", desc := "(I)Z" } : Jvm.MethodName) prog_14_method_66_code (2 : Nat) (Option.some Jvm.ClassFile.FieldType.boolean)) ∈ lw_all := lw_g (lw_at lw_m7 128 rfl) rfl
theorem q1722 : (Jvm.Cond.methodLink "ToolUnionModel" (337 : Nat) ({ cls := "ToolUnionModel", name := "ofWork", desc := "(II)I" } : Jvm.MethodName)) ∈ lw_all := lw_g (lw_at lw_m7 129 rfl) rfl
theorem q1723 : (Jvm.Cond.privateMethod ({ cls := "ToolUnionModel", name := "ofWork", desc := "(II)I" } : Jvm.MethodName)) ∈ lw_tbl := lw_at lw_m7 130 rfl
theorem q1724 : (Jvm.Cond.instanceMethod ({ cls := "ToolUnionModel", name := "ofWork", desc := "(II)I" } : Jvm.MethodName)) ∈ lw_all := lw_g (lw_at lw_m7 131 rfl) rfl
theorem q1725 : (Jvm.Cond.code ({ cls := "ToolUnionModel", name := "ofWork", desc := "(II)I" } : Jvm.MethodName) prog_14_method_12_code (3 : Nat) (Option.some Jvm.ClassFile.FieldType.int)) ∈ lw_all := lw_g (lw_at lw_m7 132 rfl) rfl
theorem q1726 : (Jvm.Cond.methodLink "ToolUnionModel" (343 : Nat) ({ cls := "ToolUnionModel", name := "doneSet", desc := "()I" } : Jvm.MethodName)) ∈ lw_all := lw_g (lw_at lw_m7 133 rfl) rfl
theorem q1727 : (Jvm.Cond.privateMethod ({ cls := "ToolUnionModel", name := "doneSet", desc := "()I" } : Jvm.MethodName)) ∈ lw_tbl := lw_at lw_m7 134 rfl
theorem q1728 : (Jvm.Cond.instanceMethod ({ cls := "ToolUnionModel", name := "doneSet", desc := "()I" } : Jvm.MethodName)) ∈ lw_all := lw_g (lw_at lw_m7 135 rfl) rfl
theorem q1729 : (Jvm.Cond.code ({ cls := "ToolUnionModel", name := "doneSet", desc := "()I" } : Jvm.MethodName) prog_14_method_67_code (3 : Nat) (Option.some Jvm.ClassFile.FieldType.int)) ∈ lw_all := lw_g (lw_at lw_m7 136 rfl) rfl
theorem q1730 : (Jvm.Cond.methodLink "ToolUnionModel" (361 : Nat) ({ cls := "ToolUnionModel", name := "doesServe", desc := "(II)Z" } : Jvm.MethodName)) ∈ lw_all := lw_g (lw_at lw_m7 137 rfl) rfl
theorem q1731 : (Jvm.Cond.privateMethod ({ cls := "ToolUnionModel", name := "doesServe", desc := "(II)Z" } : Jvm.MethodName)) ∈ lw_tbl := lw_at lw_m7 138 rfl
theorem q1732 : (Jvm.Cond.instanceMethod ({ cls := "ToolUnionModel", name := "doesServe", desc := "(II)Z" } : Jvm.MethodName)) ∈ lw_all := lw_g (lw_at lw_m7 139 rfl) rfl
theorem q1733 : (Jvm.Cond.code ({ cls := "ToolUnionModel", name := "doesServe", desc := "(II)Z" } : Jvm.MethodName) prog_14_method_61_code (3 : Nat) (Option.some Jvm.ClassFile.FieldType.boolean)) ∈ lw_all := lw_g (lw_at lw_m7 140 rfl) rfl
theorem q1734 : (Jvm.Cond.methodLink "ToolUnionModel" (327 : Nat) ({ cls := "ToolUnionModel", name := "wouldServe", desc := "(II)Z" } : Jvm.MethodName)) ∈ lw_all := lw_g (lw_at lw_m7 141 rfl) rfl
theorem q1735 : (Jvm.Cond.privateMethod ({ cls := "ToolUnionModel", name := "wouldServe", desc := "(II)Z" } : Jvm.MethodName)) ∈ lw_tbl := lw_at lw_m7 142 rfl
theorem q1736 : (Jvm.Cond.instanceMethod ({ cls := "ToolUnionModel", name := "wouldServe", desc := "(II)Z" } : Jvm.MethodName)) ∈ lw_all := lw_g (lw_at lw_m7 143 rfl) rfl
theorem q1737 : (Jvm.Cond.code ({ cls := "ToolUnionModel", name := "wouldServe", desc := "(II)Z" } : Jvm.MethodName) prog_14_method_60_code (3 : Nat) (Option.some Jvm.ClassFile.FieldType.boolean)) ∈ lw_all := lw_g (lw_at lw_m7 144 rfl) rfl
theorem q1738 : (Jvm.Cond.methodLink "ToolUnionModel" (322 : Nat) ({ cls := "ToolUnionModel", name := "will", desc := "(II)Z" } : Jvm.MethodName)) ∈ lw_all := lw_g (lw_at lw_m7 145 rfl) rfl
theorem q1739 : (Jvm.Cond.privateMethod ({ cls := "ToolUnionModel", name := "will", desc := "(II)Z" } : Jvm.MethodName)) ∈ lw_tbl := lw_at lw_m7 146 rfl
theorem q1740 : (Jvm.Cond.instanceMethod ({ cls := "ToolUnionModel", name := "will", desc := "(II)Z" } : Jvm.MethodName)) ∈ lw_all := lw_g (lw_at lw_m7 147 rfl) rfl
theorem q1741 : (Jvm.Cond.code ({ cls := "ToolUnionModel", name := "will", desc := "(II)Z" } : Jvm.MethodName) prog_14_method_58_code (4 : Nat) (Option.some Jvm.ClassFile.FieldType.boolean)) ∈ lw_all := lw_g (lw_at lw_m7 148 rfl) rfl
theorem q1742 : (Jvm.Cond.methodLink "ToolUnionModel" (316 : Nat) ({ cls := "ToolUnionModel", name := "lays", desc := "(II)V" } : Jvm.MethodName)) ∈ lw_all := lw_g (lw_at lw_m7 149 rfl) rfl
theorem q1743 : (Jvm.Cond.privateMethod ({ cls := "ToolUnionModel", name := "lays", desc := "(II)V" } : Jvm.MethodName)) ∈ lw_tbl := lw_at lw_m7 150 rfl
theorem q1744 : (Jvm.Cond.instanceMethod ({ cls := "ToolUnionModel", name := "lays", desc := "(II)V" } : Jvm.MethodName)) ∈ lw_all := lw_g (lw_at lw_m7 151 rfl) rfl
theorem q1745 : (Jvm.Cond.code ({ cls := "ToolUnionModel", name := "lays", desc := "(II)V" } : Jvm.MethodName) prog_14_method_57_code (3 : Nat) (Option.none : Option Jvm.ClassFile.FieldType)) ∈ lw_all := lw_g (lw_at lw_m7 152 rfl) rfl
theorem q1746 : (Jvm.Cond.methodLink "ToolUnionModel" (310 : Nat) ({ cls := "ToolUnionModel", name := "ofMan", desc := "(II)I" } : Jvm.MethodName)) ∈ lw_all := lw_g (lw_at lw_m7 153 rfl) rfl
theorem q1747 : (Jvm.Cond.privateMethod ({ cls := "ToolUnionModel", name := "ofMan", desc := "(II)I" } : Jvm.MethodName)) ∈ lw_tbl := lw_at lw_m7 154 rfl
theorem q1748 : (Jvm.Cond.instanceMethod ({ cls := "ToolUnionModel", name := "ofMan", desc := "(II)I" } : Jvm.MethodName)) ∈ lw_all := lw_g (lw_at lw_m7 155 rfl) rfl
theorem q1749 : (Jvm.Cond.code ({ cls := "ToolUnionModel", name := "ofMan", desc := "(II)I" } : Jvm.MethodName) prog_14_method_11_code (3 : Nat) (Option.some Jvm.ClassFile.FieldType.int)) ∈ lw_all := lw_g (lw_at lw_m7 156 rfl) rfl
theorem q1750 : (Jvm.Cond.methodLink "ToolUnionModel" (319 : Nat) ({ cls := "ToolUnionModel", name := "holds", desc := "(II)Z" } : Jvm.MethodName)) ∈ lw_all := lw_g (lw_at lw_m7 157 rfl) rfl
theorem q1751 : (Jvm.Cond.privateMethod ({ cls := "ToolUnionModel", name := "holds", desc := "(II)Z" } : Jvm.MethodName)) ∈ lw_tbl := lw_at lw_m7 158 rfl
theorem q1752 : (Jvm.Cond.instanceMethod ({ cls := "ToolUnionModel", name := "holds", desc := "(II)Z" } : Jvm.MethodName)) ∈ lw_all := lw_g (lw_at lw_m7 159 rfl) rfl
theorem q1753 : (Jvm.Cond.code ({ cls := "ToolUnionModel", name := "holds", desc := "(II)Z" } : Jvm.MethodName) prog_14_method_56_code (3 : Nat) (Option.some Jvm.ClassFile.FieldType.boolean)) ∈ lw_all := lw_g (lw_at lw_m7 160 rfl) rfl
theorem q1754 : (Jvm.Cond.methodLink "ToolUnionModel" (307 : Nat) ({ cls := "ToolUnionModel", name := "comesTo", desc := "(III)I" } : Jvm.MethodName)) ∈ lw_all := lw_g (lw_at lw_m7 161 rfl) rfl
theorem q1755 : (Jvm.Cond.privateMethod ({ cls := "ToolUnionModel", name := "comesTo", desc := "(III)I" } : Jvm.MethodName)) ∈ lw_tbl := lw_at lw_m7 162 rfl
theorem q1756 : (Jvm.Cond.instanceMethod ({ cls := "ToolUnionModel", name := "comesTo", desc := "(III)I" } : Jvm.MethodName)) ∈ lw_all := lw_g (lw_at lw_m7 163 rfl) rfl
theorem q1757 : (Jvm.Cond.code ({ cls := "ToolUnionModel", name := "comesTo", desc := "(III)I" } : Jvm.MethodName) prog_14_method_55_code (8 : Nat) (Option.some Jvm.ClassFile.FieldType.int)) ∈ lw_all := lw_g (lw_at lw_m7 164 rfl) rfl
theorem q1758 : (Jvm.Cond.methodLink "ToolUnionModel" (303 : Nat) ({ cls := "ToolUnionModel", name := "both", desc := "(III)I" } : Jvm.MethodName)) ∈ lw_all := lw_g (lw_at lw_m7 165 rfl) rfl
theorem q1759 : (Jvm.Cond.static ({ cls := "ToolUnionModel", name := "both", desc := "(III)I" } : Jvm.MethodName)) ∈ lw_all := lw_g (lw_at lw_m7 166 rfl) rfl
theorem q1760 : (Jvm.Cond.code ({ cls := "ToolUnionModel", name := "both", desc := "(III)I" } : Jvm.MethodName) prog_14_method_54_code (3 : Nat) (Option.some Jvm.ClassFile.FieldType.int)) ∈ lw_all := lw_g (lw_at lw_m7 167 rfl) rfl
theorem q1761 : (Jvm.Cond.methodLink "ToolUnionModel" (364 : Nat) ({ cls := "ToolUnionModel", name := "wears", desc := "(II)V" } : Jvm.MethodName)) ∈ lw_all := lw_g (lw_at lw_m7 168 rfl) rfl
theorem q1762 : (Jvm.Cond.privateMethod ({ cls := "ToolUnionModel", name := "wears", desc := "(II)V" } : Jvm.MethodName)) ∈ lw_tbl := lw_at lw_m7 169 rfl
theorem q1763 : (Jvm.Cond.instanceMethod ({ cls := "ToolUnionModel", name := "wears", desc := "(II)V" } : Jvm.MethodName)) ∈ lw_all := lw_g (lw_at lw_m7 170 rfl) rfl
theorem q1764 : (Jvm.Cond.code ({ cls := "ToolUnionModel", name := "wears", desc := "(II)V" } : Jvm.MethodName) prog_14_method_76_code (5 : Nat) (Option.none : Option Jvm.ClassFile.FieldType)) ∈ lw_all := lw_g (lw_at lw_m7 171 rfl) rfl
theorem q1765 : (Jvm.Cond.methodLink "ToolUnionModel" (349 : Nat) ({ cls := "ToolUnionModel", name := "wearOf", desc := "(II)I" } : Jvm.MethodName)) ∈ lw_all := lw_g (lw_at lw_m7 172 rfl) rfl
theorem q1766 : (Jvm.Cond.privateMethod ({ cls := "ToolUnionModel", name := "wearOf", desc := "(II)I" } : Jvm.MethodName)) ∈ lw_tbl := lw_at lw_m7 173 rfl
theorem q1767 : (Jvm.Cond.instanceMethod ({ cls := "ToolUnionModel", name := "wearOf", desc := "(II)I" } : Jvm.MethodName)) ∈ lw_all := lw_g (lw_at lw_m7 174 rfl) rfl
theorem q1768 : (Jvm.Cond.code ({ cls := "ToolUnionModel", name := "wearOf", desc := "(II)I" } : Jvm.MethodName) prog_14_method_63_code (3 : Nat) (Option.some Jvm.ClassFile.FieldType.int)) ∈ lw_all := lw_g (lw_at lw_m7 175 rfl) rfl
theorem q1769 : (Jvm.Cond.methodLink "ToolUnionModel" (333 : Nat) ({ cls := "ToolUnionModel", name := "edgesSay", desc := "(IIII)I" } : Jvm.MethodName)) ∈ lw_all := lw_g (lw_at lw_m7 176 rfl) rfl
theorem q1770 : (Jvm.Cond.privateMethod ({ cls := "ToolUnionModel", name := "edgesSay", desc := "(IIII)I" } : Jvm.MethodName)) ∈ lw_tbl := lw_at lw_m7 177 rfl
theorem q1771 : (Jvm.Cond.instanceMethod ({ cls := "ToolUnionModel", name := "edgesSay", desc := "(IIII)I" } : Jvm.MethodName)) ∈ lw_all := lw_g (lw_at lw_m7 178 rfl) rfl
theorem q1772 : (Jvm.Cond.code ({ cls := "ToolUnionModel", name := "edgesSay", desc := "(IIII)I" } : Jvm.MethodName) prog_14_method_62_code (6 : Nat) (Option.some Jvm.ClassFile.FieldType.int)) ∈ lw_all := lw_g (lw_at lw_m7 179 rfl) rfl
theorem q1773 : (Jvm.Cond.methodLink "ToolUnionModel" (330 : Nat) ({ cls := "ToolUnionModel", name := "held", desc := "(III)I" } : Jvm.MethodName)) ∈ lw_all := lw_g (lw_at lw_m7 180 rfl) rfl
theorem q1774 : (Jvm.Cond.static ({ cls := "ToolUnionModel", name := "held", desc := "(III)I" } : Jvm.MethodName)) ∈ lw_all := lw_g (lw_at lw_m7 181 rfl) rfl
theorem q1775 : (Jvm.Cond.code ({ cls := "ToolUnionModel", name := "held", desc := "(III)I" } : Jvm.MethodName) prog_14_method_5_code (3 : Nat) (Option.some Jvm.ClassFile.FieldType.int)) ∈ lw_all := lw_g (lw_at lw_m7 182 rfl) rfl
theorem q1776 : (Jvm.Cond.methodLink "ToolUnionModel" (352 : Nat) ({ cls := "ToolUnionModel", name := "moodOf", desc := "(II)I" } : Jvm.MethodName)) ∈ lw_all := lw_g (lw_at lw_m7 183 rfl) rfl
theorem q1777 : (Jvm.Cond.privateMethod ({ cls := "ToolUnionModel", name := "moodOf", desc := "(II)I" } : Jvm.MethodName)) ∈ lw_tbl := lw_at lw_m7 184 rfl
theorem q1778 : (Jvm.Cond.instanceMethod ({ cls := "ToolUnionModel", name := "moodOf", desc := "(II)I" } : Jvm.MethodName)) ∈ lw_all := lw_g (lw_at lw_m7 185 rfl) rfl
theorem q1779 : (Jvm.Cond.code ({ cls := "ToolUnionModel", name := "moodOf", desc := "(II)I" } : Jvm.MethodName) prog_14_method_64_code (3 : Nat) (Option.some Jvm.ClassFile.FieldType.int)) ∈ lw_all := lw_g (lw_at lw_m7 186 rfl) rfl
theorem q1780 : (Jvm.Cond.methodLink "ToolUnionModel" (370 : Nat) ({ cls := "ToolUnionModel", name := "notes", desc := "(III)V" } : Jvm.MethodName)) ∈ lw_all := lw_g (lw_at lw_m7 187 rfl) rfl
theorem q1781 : (Jvm.Cond.privateMethod ({ cls := "ToolUnionModel", name := "notes", desc := "(III)V" } : Jvm.MethodName)) ∈ lw_tbl := lw_at lw_m7 188 rfl
theorem q1782 : (Jvm.Cond.instanceMethod ({ cls := "ToolUnionModel", name := "notes", desc := "(III)V" } : Jvm.MethodName)) ∈ lw_all := lw_g (lw_at lw_m7 189 rfl) rfl
theorem q1783 : (Jvm.Cond.code ({ cls := "ToolUnionModel", name := "notes", desc := "(III)V" } : Jvm.MethodName) prog_14_method_75_code (5 : Nat) (Option.none : Option Jvm.ClassFile.FieldType)) ∈ lw_all := lw_g (lw_at lw_m7 190 rfl) rfl
theorem q1784 : (Jvm.Cond.methodLink "ToolUnionModel" (383 : Nat) ({ cls := "ToolUnionModel", name := "draw", desc := "(I)I" } : Jvm.MethodName)) ∈ lw_all := lw_g (lw_at lw_m7 191 rfl) rfl
theorem q1785 : (Jvm.Cond.privateMethod ({ cls := "ToolUnionModel", name := "draw", desc := "(I)I" } : Jvm.MethodName)) ∈ lw_tbl := lw_at lw_m7 192 rfl
theorem q1786 : (Jvm.Cond.instanceMethod ({ cls := "ToolUnionModel", name := "draw", desc := "(I)I" } : Jvm.MethodName)) ∈ lw_all := lw_g (lw_at lw_m7 193 rfl) rfl
theorem q1787 : (Jvm.Cond.code ({ cls := "ToolUnionModel", name := "draw", desc := "(I)I" } : Jvm.MethodName) prog_14_method_15_code (2 : Nat) (Option.some Jvm.ClassFile.FieldType.int)) ∈ lw_all := lw_g (lw_at lw_m7 194 rfl) rfl
theorem q1788 : (Jvm.Cond.constant "ToolUnionModel" (87 : Nat) (1664525 : Int32)) ∈ lw_all := lw_g (lw_at lw_m7 195 rfl) rfl
theorem q1789 : (Jvm.Cond.constant "ToolUnionModel" (88 : Nat) (1013904223 : Int32)) ∈ lw_all := lw_g (lw_at lw_m7 196 rfl) rfl
theorem q1791 : (Jvm.Cond.instanceMethod ({ cls := "ToolUnionModel", name := "runs", desc := "(II)I" } : Jvm.MethodName)) ∈ lw_all := lw_g (lw_at lw_m7 198 rfl) rfl
theorem q1792 : (Jvm.Cond.selects "ToolUnionModel" ({ cls := "ToolUnionModel", name := "runs", desc := "(II)I" } : Jvm.MethodName) ({ cls := "ToolUnionModel", name := "runs", desc := "(II)I" } : Jvm.MethodName)) ∈ lw_all := lw_g (lw_at lw_m7 199 rfl) rfl
theorem q1793 : (Jvm.Cond.code ({ cls := "ToolUnionModel", name := "runs", desc := "(II)I" } : Jvm.MethodName) prog_14_method_82_code (5 : Nat) (Option.some Jvm.ClassFile.FieldType.int)) ∈ lw_all := lw_g (lw_at lw_m7 200 rfl) rfl
theorem q1794 : (Jvm.Cond.methodLink "ToolUnionModel" (390 : Nat) ({ cls := "ToolUnionModel", name := "laysAside", desc := "()V" } : Jvm.MethodName)) ∈ lw_all := lw_g (lw_at lw_m7 201 rfl) rfl
theorem q1795 : (Jvm.Cond.privateMethod ({ cls := "ToolUnionModel", name := "laysAside", desc := "()V" } : Jvm.MethodName)) ∈ lw_tbl := lw_at lw_m7 202 rfl
theorem q1796 : (Jvm.Cond.instanceMethod ({ cls := "ToolUnionModel", name := "laysAside", desc := "()V" } : Jvm.MethodName)) ∈ lw_all := lw_g (lw_at lw_m7 203 rfl) rfl
theorem q1797 : (Jvm.Cond.code ({ cls := "ToolUnionModel", name := "laysAside", desc := "()V" } : Jvm.MethodName) prog_14_method_80_code (2 : Nat) (Option.none : Option Jvm.ClassFile.FieldType)) ∈ lw_all := lw_g (lw_at lw_m7 204 rfl) rfl
theorem q1798 : (Jvm.Cond.methodLink "ToolUnionModel" (393 : Nat) ({ cls := "ToolUnionModel", name := "putsBack", desc := "()V" } : Jvm.MethodName)) ∈ lw_all := lw_g (lw_at lw_m7 205 rfl) rfl
theorem q1799 : (Jvm.Cond.privateMethod ({ cls := "ToolUnionModel", name := "putsBack", desc := "()V" } : Jvm.MethodName)) ∈ lw_tbl := lw_at lw_m7 206 rfl
theorem q1800 : (Jvm.Cond.instanceMethod ({ cls := "ToolUnionModel", name := "putsBack", desc := "()V" } : Jvm.MethodName)) ∈ lw_all := lw_g (lw_at lw_m7 207 rfl) rfl
theorem q1801 : (Jvm.Cond.code ({ cls := "ToolUnionModel", name := "putsBack", desc := "()V" } : Jvm.MethodName) prog_14_method_81_code (2 : Nat) (Option.none : Option Jvm.ClassFile.FieldType)) ∈ lw_all := lw_g (lw_at lw_m7 208 rfl) rfl
theorem q1803 : (Jvm.Cond.instanceMethod ({ cls := "ToolUnionModel", name := "ready", desc := "()I" } : Jvm.MethodName)) ∈ lw_all := lw_g (lw_at lw_m7 210 rfl) rfl
theorem q1804 : (Jvm.Cond.selects "ToolUnionModel" ({ cls := "ToolUnionModel", name := "ready", desc := "()I" } : Jvm.MethodName) ({ cls := "ToolUnionModel", name := "ready", desc := "()I" } : Jvm.MethodName)) ∈ lw_all := lw_g (lw_at lw_m7 211 rfl) rfl
theorem q1805 : (Jvm.Cond.code ({ cls := "ToolUnionModel", name := "ready", desc := "()I" } : Jvm.MethodName) prog_14_method_83_code (3 : Nat) (Option.some Jvm.ClassFile.FieldType.int)) ∈ lw_all := lw_g (lw_at lw_m7 212 rfl) rfl
theorem q1806 : (Jvm.Cond.methodLink "ToolUnionModel" (396 : Nat) ({ cls := "ToolUnionModel", name := "allWorks", desc := "()I" } : Jvm.MethodName)) ∈ lw_all := lw_g (lw_at lw_m7 213 rfl) rfl
theorem q1807 : (Jvm.Cond.privateMethod ({ cls := "ToolUnionModel", name := "allWorks", desc := "()I" } : Jvm.MethodName)) ∈ lw_tbl := lw_at lw_m7 214 rfl
theorem q1808 : (Jvm.Cond.instanceMethod ({ cls := "ToolUnionModel", name := "allWorks", desc := "()I" } : Jvm.MethodName)) ∈ lw_all := lw_g (lw_at lw_m7 215 rfl) rfl
theorem q1809 : (Jvm.Cond.code ({ cls := "ToolUnionModel", name := "allWorks", desc := "()I" } : Jvm.MethodName) prog_14_method_68_code (1 : Nat) (Option.some Jvm.ClassFile.FieldType.int)) ∈ lw_all := lw_g (lw_at lw_m7 216 rfl) rfl
theorem q1811 : (Jvm.Cond.instanceMethod ({ cls := "ToolUnionModel", name := "idle", desc := "(I)I" } : Jvm.MethodName)) ∈ lw_all := lw_g (lw_at lw_m7 218 rfl) rfl
theorem q1812 : (Jvm.Cond.selects "ToolUnionModel" ({ cls := "ToolUnionModel", name := "idle", desc := "(I)I" } : Jvm.MethodName) ({ cls := "ToolUnionModel", name := "idle", desc := "(I)I" } : Jvm.MethodName)) ∈ lw_all := lw_g (lw_at lw_m7 219 rfl) rfl
theorem q1813 : (Jvm.Cond.code ({ cls := "ToolUnionModel", name := "idle", desc := "(I)I" } : Jvm.MethodName) prog_14_method_84_code (4 : Nat) (Option.some Jvm.ClassFile.FieldType.int)) ∈ lw_all := lw_g (lw_at lw_m7 220 rfl) rfl
theorem q1815 : (Jvm.Cond.instanceMethod ({ cls := "ToolUnionModel", name := "dull", desc := "(II)I" } : Jvm.MethodName)) ∈ lw_all := lw_g (lw_at lw_m7 222 rfl) rfl
theorem q1816 : (Jvm.Cond.selects "ToolUnionModel" ({ cls := "ToolUnionModel", name := "dull", desc := "(II)I" } : Jvm.MethodName) ({ cls := "ToolUnionModel", name := "dull", desc := "(II)I" } : Jvm.MethodName)) ∈ lw_all := lw_g (lw_at lw_m7 223 rfl) rfl
theorem q1817 : (Jvm.Cond.code ({ cls := "ToolUnionModel", name := "dull", desc := "(II)I" } : Jvm.MethodName) prog_14_method_85_code (5 : Nat) (Option.some Jvm.ClassFile.FieldType.int)) ∈ lw_all := lw_g (lw_at lw_m7 224 rfl) rfl
theorem q1819 : (Jvm.Cond.instanceMethod ({ cls := "ToolUnionModel", name := "lasts", desc := "(II)I" } : Jvm.MethodName)) ∈ lw_all := lw_g (lw_at lw_m7 226 rfl) rfl
theorem q1820 : (Jvm.Cond.selects "ToolUnionModel" ({ cls := "ToolUnionModel", name := "lasts", desc := "(II)I" } : Jvm.MethodName) ({ cls := "ToolUnionModel", name := "lasts", desc := "(II)I" } : Jvm.MethodName)) ∈ lw_all := lw_g (lw_at lw_m7 227 rfl) rfl
theorem q1821 : (Jvm.Cond.code ({ cls := "ToolUnionModel", name := "lasts", desc := "(II)I" } : Jvm.MethodName) prog_14_method_86_code (5 : Nat) (Option.some Jvm.ClassFile.FieldType.int)) ∈ lw_all := lw_g (lw_at lw_m7 228 rfl) rfl
theorem q1823 : (Jvm.Cond.instanceMethod ({ cls := "ToolUnionModel", name := "few", desc := "(I)I" } : Jvm.MethodName)) ∈ lw_all := lw_g (lw_at lw_m7 230 rfl) rfl
theorem q1824 : (Jvm.Cond.selects "ToolUnionModel" ({ cls := "ToolUnionModel", name := "few", desc := "(I)I" } : Jvm.MethodName) ({ cls := "ToolUnionModel", name := "few", desc := "(I)I" } : Jvm.MethodName)) ∈ lw_all := lw_g (lw_at lw_m7 231 rfl) rfl
theorem q1825 : (Jvm.Cond.code ({ cls := "ToolUnionModel", name := "few", desc := "(I)I" } : Jvm.MethodName) prog_14_method_94_code (3 : Nat) (Option.some Jvm.ClassFile.FieldType.int)) ∈ lw_all := lw_g (lw_at lw_m7 232 rfl) rfl
theorem q1826 : (Jvm.Cond.methodLink "ToolUnionModel" (408 : Nat) ({ cls := "ToolUnionModel", name := "stopSet", desc := "()I" } : Jvm.MethodName)) ∈ lw_all := lw_g (lw_at lw_m7 233 rfl) rfl
theorem q1827 : (Jvm.Cond.privateMethod ({ cls := "ToolUnionModel", name := "stopSet", desc := "()I" } : Jvm.MethodName)) ∈ lw_tbl := lw_at lw_m7 234 rfl
theorem q1828 : (Jvm.Cond.instanceMethod ({ cls := "ToolUnionModel", name := "stopSet", desc := "()I" } : Jvm.MethodName)) ∈ lw_all := lw_g (lw_at lw_m7 235 rfl) rfl
theorem q1829 : (Jvm.Cond.code ({ cls := "ToolUnionModel", name := "stopSet", desc := "()I" } : Jvm.MethodName) prog_14_method_91_code (4 : Nat) (Option.some Jvm.ClassFile.FieldType.int)) ∈ lw_all := lw_g (lw_at lw_m7 236 rfl) rfl
theorem q1830 : (Jvm.Cond.methodLink "ToolUnionModel" (399 : Nat) ({ cls := "ToolUnionModel", name := "toolsFor", desc := "(I)I" } : Jvm.MethodName)) ∈ lw_all := lw_g (lw_at lw_m7 237 rfl) rfl
theorem q1831 : (Jvm.Cond.privateMethod ({ cls := "ToolUnionModel", name := "toolsFor", desc := "(I)I" } : Jvm.MethodName)) ∈ lw_tbl := lw_at lw_m7 238 rfl
theorem q1832 : (Jvm.Cond.instanceMethod ({ cls := "ToolUnionModel", name := "toolsFor", desc := "(I)I" } : Jvm.MethodName)) ∈ lw_all := lw_g (lw_at lw_m7 239 rfl) rfl
theorem q1833 : (Jvm.Cond.code ({ cls := "ToolUnionModel", name := "toolsFor", desc := "(I)I" } : Jvm.MethodName) prog_14_method_89_code (5 : Nat) (Option.some Jvm.ClassFile.FieldType.int)) ∈ lw_all := lw_g (lw_at lw_m8 0 rfl) rfl
theorem q1834 : (Jvm.Cond.methodLink "ToolUnionModel" (402 : Nat) ({ cls := "ToolUnionModel", name := "count", desc := "(I)I" } : Jvm.MethodName)) ∈ lw_all := lw_g (lw_at lw_m8 1 rfl) rfl
theorem q1835 : (Jvm.Cond.static ({ cls := "ToolUnionModel", name := "count", desc := "(I)I" } : Jvm.MethodName)) ∈ lw_all := lw_g (lw_at lw_m8 2 rfl) rfl
theorem q1836 : (Jvm.Cond.code ({ cls := "ToolUnionModel", name := "count", desc := "(I)I" } : Jvm.MethodName) prog_14_method_90_code (3 : Nat) (Option.some Jvm.ClassFile.FieldType.int)) ∈ lw_all := lw_g (lw_at lw_m8 3 rfl) rfl
theorem q1837 : (Jvm.Cond.methodLink "ToolUnionModel" (411 : Nat) ({ cls := "ToolUnionModel", name := "keepSet", desc := "()I" } : Jvm.MethodName)) ∈ lw_all := lw_g (lw_at lw_m8 4 rfl) rfl
theorem q1838 : (Jvm.Cond.privateMethod ({ cls := "ToolUnionModel", name := "keepSet", desc := "()I" } : Jvm.MethodName)) ∈ lw_tbl := lw_at lw_m8 5 rfl
theorem q1839 : (Jvm.Cond.instanceMethod ({ cls := "ToolUnionModel", name := "keepSet", desc := "()I" } : Jvm.MethodName)) ∈ lw_all := lw_g (lw_at lw_m8 6 rfl) rfl
theorem q1840 : (Jvm.Cond.code ({ cls := "ToolUnionModel", name := "keepSet", desc := "()I" } : Jvm.MethodName) prog_14_method_93_code (3 : Nat) (Option.some Jvm.ClassFile.FieldType.int)) ∈ lw_all := lw_g (lw_at lw_m8 7 rfl) rfl
theorem q1841 : (Jvm.Cond.methodLink "ToolUnionModel" (405 : Nat) ({ cls := "ToolUnionModel", name := "haveAll", desc := "(I)Z" } : Jvm.MethodName)) ∈ lw_all := lw_g (lw_at lw_m8 8 rfl) rfl
theorem q1842 : (Jvm.Cond.privateMethod ({ cls := "ToolUnionModel", name := "haveAll", desc := "(I)Z" } : Jvm.MethodName)) ∈ lw_tbl := lw_at lw_m8 9 rfl
theorem q1843 : (Jvm.Cond.instanceMethod ({ cls := "ToolUnionModel", name := "haveAll", desc := "(I)Z" } : Jvm.MethodName)) ∈ lw_all := lw_g (lw_at lw_m8 10 rfl) rfl
theorem q1844 : (Jvm.Cond.code ({ cls := "ToolUnionModel", name := "haveAll", desc := "(I)Z" } : Jvm.MethodName) prog_14_method_92_code (3 : Nat) (Option.some Jvm.ClassFile.FieldType.boolean)) ∈ lw_all := lw_g (lw_at lw_m8 11 rfl) rfl
theorem q1846 : (Jvm.Cond.instanceMethod ({ cls := "ToolUnionModel", name := "changes", desc := "(I)I" } : Jvm.MethodName)) ∈ lw_all := lw_g (lw_at lw_m8 13 rfl) rfl
theorem q1847 : (Jvm.Cond.selects "ToolUnionModel" ({ cls := "ToolUnionModel", name := "changes", desc := "(I)I" } : Jvm.MethodName) ({ cls := "ToolUnionModel", name := "changes", desc := "(I)I" } : Jvm.MethodName)) ∈ lw_all := lw_g (lw_at lw_m8 14 rfl) rfl
theorem q1848 : (Jvm.Cond.code ({ cls := "ToolUnionModel", name := "changes", desc := "(I)I" } : Jvm.MethodName) prog_14_method_97_code (5 : Nat) (Option.some Jvm.ClassFile.FieldType.int)) ∈ lw_all := lw_g (lw_at lw_m8 15 rfl) rfl
theorem q1849 : (Jvm.Cond.methodLink "ToolUnionModel" (414 : Nat) ({ cls := "ToolUnionModel", name := "isWanted", desc := "(I)Z" } : Jvm.MethodName)) ∈ lw_all := lw_g (lw_at lw_m8 16 rfl) rfl
theorem q1850 : (Jvm.Cond.privateMethod ({ cls := "ToolUnionModel", name := "isWanted", desc := "(I)Z" } : Jvm.MethodName)) ∈ lw_tbl := lw_at lw_m8 17 rfl
theorem q1851 : (Jvm.Cond.instanceMethod ({ cls := "ToolUnionModel", name := "isWanted", desc := "(I)Z" } : Jvm.MethodName)) ∈ lw_all := lw_g (lw_at lw_m8 18 rfl) rfl
theorem q1852 : (Jvm.Cond.code ({ cls := "ToolUnionModel", name := "isWanted", desc := "(I)Z" } : Jvm.MethodName) prog_14_method_95_code (3 : Nat) (Option.some Jvm.ClassFile.FieldType.boolean)) ∈ lw_all := lw_g (lw_at lw_m8 19 rfl) rfl
theorem q1853 : (Jvm.Cond.methodLink "ToolUnionModel" (417 : Nat) ({ cls := "ToolUnionModel", name := "handsOf", desc := "(I)I" } : Jvm.MethodName)) ∈ lw_all := lw_g (lw_at lw_m8 20 rfl) rfl
theorem q1854 : (Jvm.Cond.privateMethod ({ cls := "ToolUnionModel", name := "handsOf", desc := "(I)I" } : Jvm.MethodName)) ∈ lw_tbl := lw_at lw_m8 21 rfl
theorem q1855 : (Jvm.Cond.instanceMethod ({ cls := "ToolUnionModel", name := "handsOf", desc := "(I)I" } : Jvm.MethodName)) ∈ lw_all := lw_g (lw_at lw_m8 22 rfl) rfl
theorem q1856 : (Jvm.Cond.code ({ cls := "ToolUnionModel", name := "handsOf", desc := "(I)I" } : Jvm.MethodName) prog_14_method_87_code (5 : Nat) (Option.some Jvm.ClassFile.FieldType.int)) ∈ lw_all := lw_g (lw_at lw_m8 23 rfl) rfl
theorem q1857 : (Jvm.Cond.methodLink "ToolUnionModel" (420 : Nat) ({ cls := "ToolUnionModel", name := "branchFor", desc := "(I)I" } : Jvm.MethodName)) ∈ lw_all := lw_g (lw_at lw_m8 24 rfl) rfl
theorem q1858 : (Jvm.Cond.privateMethod ({ cls := "ToolUnionModel", name := "branchFor", desc := "(I)I" } : Jvm.MethodName)) ∈ lw_tbl := lw_at lw_m8 25 rfl
theorem q1859 : (Jvm.Cond.instanceMethod ({ cls := "ToolUnionModel", name := "branchFor", desc := "(I)I" } : Jvm.MethodName)) ∈ lw_all := lw_g (lw_at lw_m8 26 rfl) rfl
theorem q1860 : (Jvm.Cond.code ({ cls := "ToolUnionModel", name := "branchFor", desc := "(I)I" } : Jvm.MethodName) prog_14_method_96_code (5 : Nat) (Option.some Jvm.ClassFile.FieldType.int)) ∈ lw_all := lw_g (lw_at lw_m8 27 rfl) rfl
theorem q1862 : (Jvm.Cond.instanceMethod ({ cls := "ToolUnionModel", name := "soonest", desc := "(I)I" } : Jvm.MethodName)) ∈ lw_all := lw_g (lw_at lw_m8 29 rfl) rfl
theorem q1863 : (Jvm.Cond.selects "ToolUnionModel" ({ cls := "ToolUnionModel", name := "soonest", desc := "(I)I" } : Jvm.MethodName) ({ cls := "ToolUnionModel", name := "soonest", desc := "(I)I" } : Jvm.MethodName)) ∈ lw_all := lw_g (lw_at lw_m8 30 rfl) rfl
theorem q1864 : (Jvm.Cond.code ({ cls := "ToolUnionModel", name := "soonest", desc := "(I)I" } : Jvm.MethodName) prog_14_method_108_code (3 : Nat) (Option.some Jvm.ClassFile.FieldType.int)) ∈ lw_all := lw_g (lw_at lw_m8 31 rfl) rfl
theorem q1865 : (Jvm.Cond.methodLink "ToolUnionModel" (447 : Nat) ({ cls := "ToolUnionModel", name := "laysTogether", desc := "()V" } : Jvm.MethodName)) ∈ lw_all := lw_g (lw_at lw_m8 32 rfl) rfl
theorem q1866 : (Jvm.Cond.privateMethod ({ cls := "ToolUnionModel", name := "laysTogether", desc := "()V" } : Jvm.MethodName)) ∈ lw_tbl := lw_at lw_m8 33 rfl
theorem q1867 : (Jvm.Cond.instanceMethod ({ cls := "ToolUnionModel", name := "laysTogether", desc := "()V" } : Jvm.MethodName)) ∈ lw_all := lw_g (lw_at lw_m8 34 rfl) rfl
theorem q1868 : (Jvm.Cond.code ({ cls := "ToolUnionModel", name := "laysTogether", desc := "()V" } : Jvm.MethodName) prog_14_method_100_code (3 : Nat) (Option.none : Option Jvm.ClassFile.FieldType)) ∈ lw_all := lw_g (lw_at lw_m8 35 rfl) rfl
theorem q1869 : (Jvm.Cond.methodLink "ToolUnionModel" (426 : Nat) ({ cls := "ToolUnionModel", name := "canTogether", desc := "(I)Z" } : Jvm.MethodName)) ∈ lw_all := lw_g (lw_at lw_m8 36 rfl) rfl
theorem q1870 : (Jvm.Cond.privateMethod ({ cls := "ToolUnionModel", name := "canTogether", desc := "(I)Z" } : Jvm.MethodName)) ∈ lw_tbl := lw_at lw_m8 37 rfl
theorem q1871 : (Jvm.Cond.instanceMethod ({ cls := "ToolUnionModel", name := "canTogether", desc := "(I)Z" } : Jvm.MethodName)) ∈ lw_all := lw_g (lw_at lw_m8 38 rfl) rfl
theorem q1872 : (Jvm.Cond.code ({ cls := "ToolUnionModel", name := "canTogether", desc := "(I)Z" } : Jvm.MethodName) prog_14_method_99_code (3 : Nat) (Option.some Jvm.ClassFile.FieldType.boolean)) ∈ lw_all := lw_g (lw_at lw_m8 39 rfl) rfl
theorem q1873 : (Jvm.Cond.methodLink "ToolUnionModel" (423 : Nat) ({ cls := "ToolUnionModel", name := "takesOne", desc := "(I)Z" } : Jvm.MethodName)) ∈ lw_all := lw_g (lw_at lw_m8 40 rfl) rfl
theorem q1874 : (Jvm.Cond.privateMethod ({ cls := "ToolUnionModel", name := "takesOne", desc := "(I)Z" } : Jvm.MethodName)) ∈ lw_tbl := lw_at lw_m8 41 rfl
theorem q1875 : (Jvm.Cond.instanceMethod ({ cls := "ToolUnionModel", name := "takesOne", desc := "(I)Z" } : Jvm.MethodName)) ∈ lw_all := lw_g (lw_at lw_m8 42 rfl) rfl
theorem q1876 : (Jvm.Cond.code ({ cls := "ToolUnionModel", name := "takesOne", desc := "(I)Z" } : Jvm.MethodName) prog_14_method_98_code (6 : Nat) (Option.some Jvm.ClassFile.FieldType.boolean)) ∈ lw_all := lw_g (lw_at lw_m8 43 rfl) rfl
theorem q1877 : (Jvm.Cond.methodLink "ToolUnionModel" (441 : Nat) ({ cls := "ToolUnionModel", name := "started", desc := "()I" } : Jvm.MethodName)) ∈ lw_all := lw_g (lw_at lw_m8 44 rfl) rfl
theorem q1878 : (Jvm.Cond.privateMethod ({ cls := "ToolUnionModel", name := "started", desc := "()I" } : Jvm.MethodName)) ∈ lw_tbl := lw_at lw_m8 45 rfl
theorem q1879 : (Jvm.Cond.instanceMethod ({ cls := "ToolUnionModel", name := "started", desc := "()I" } : Jvm.MethodName)) ∈ lw_all := lw_g (lw_at lw_m8 46 rfl) rfl
theorem q1880 : (Jvm.Cond.code ({ cls := "ToolUnionModel", name := "started", desc := "()I" } : Jvm.MethodName) prog_14_method_101_code (3 : Nat) (Option.some Jvm.ClassFile.FieldType.int)) ∈ lw_all := lw_g (lw_at lw_m8 47 rfl) rfl
theorem q1881 : (Jvm.Cond.methodLink "ToolUnionModel" (444 : Nat) ({ cls := "ToolUnionModel", name := "ended", desc := "()I" } : Jvm.MethodName)) ∈ lw_all := lw_g (lw_at lw_m8 48 rfl) rfl
theorem q1882 : (Jvm.Cond.privateMethod ({ cls := "ToolUnionModel", name := "ended", desc := "()I" } : Jvm.MethodName)) ∈ lw_tbl := lw_at lw_m8 49 rfl
theorem q1883 : (Jvm.Cond.instanceMethod ({ cls := "ToolUnionModel", name := "ended", desc := "()I" } : Jvm.MethodName)) ∈ lw_all := lw_g (lw_at lw_m8 50 rfl) rfl
theorem q1884 : (Jvm.Cond.code ({ cls := "ToolUnionModel", name := "ended", desc := "()I" } : Jvm.MethodName) prog_14_method_102_code (3 : Nat) (Option.some Jvm.ClassFile.FieldType.int)) ∈ lw_all := lw_g (lw_at lw_m8 51 rfl) rfl
theorem q1885 : (Jvm.Cond.methodLink "ToolUnionModel" (438 : Nat) ({ cls := "ToolUnionModel", name := "farFrom", desc := "(II)I" } : Jvm.MethodName)) ∈ lw_all := lw_g (lw_at lw_m8 52 rfl) rfl
theorem q1886 : (Jvm.Cond.privateMethod ({ cls := "ToolUnionModel", name := "farFrom", desc := "(II)I" } : Jvm.MethodName)) ∈ lw_tbl := lw_at lw_m8 53 rfl
theorem q1887 : (Jvm.Cond.instanceMethod ({ cls := "ToolUnionModel", name := "farFrom", desc := "(II)I" } : Jvm.MethodName)) ∈ lw_all := lw_g (lw_at lw_m8 54 rfl) rfl
theorem q1888 : (Jvm.Cond.code ({ cls := "ToolUnionModel", name := "farFrom", desc := "(II)I" } : Jvm.MethodName) prog_14_method_106_code (7 : Nat) (Option.some Jvm.ClassFile.FieldType.int)) ∈ lw_all := lw_g (lw_at lw_m8 55 rfl) rfl
theorem q1889 : (Jvm.Cond.methodLink "ToolUnionModel" (429 : Nat) ({ cls := "ToolUnionModel", name := "openIn", desc := "(I)I" } : Jvm.MethodName)) ∈ lw_all := lw_g (lw_at lw_m8 56 rfl) rfl
theorem q1890 : (Jvm.Cond.privateMethod ({ cls := "ToolUnionModel", name := "openIn", desc := "(I)I" } : Jvm.MethodName)) ∈ lw_tbl := lw_at lw_m8 57 rfl
theorem q1891 : (Jvm.Cond.instanceMethod ({ cls := "ToolUnionModel", name := "openIn", desc := "(I)I" } : Jvm.MethodName)) ∈ lw_all := lw_g (lw_at lw_m8 58 rfl) rfl
theorem q1892 : (Jvm.Cond.code ({ cls := "ToolUnionModel", name := "openIn", desc := "(I)I" } : Jvm.MethodName) prog_14_method_103_code (5 : Nat) (Option.some Jvm.ClassFile.FieldType.int)) ∈ lw_all := lw_g (lw_at lw_m8 59 rfl) rfl
theorem q1893 : (Jvm.Cond.methodLink "ToolUnionModel" (432 : Nat) ({ cls := "ToolUnionModel", name := "isFull", desc := "(II)Z" } : Jvm.MethodName)) ∈ lw_all := lw_g (lw_at lw_m8 60 rfl) rfl
theorem q1894 : (Jvm.Cond.privateMethod ({ cls := "ToolUnionModel", name := "isFull", desc := "(II)Z" } : Jvm.MethodName)) ∈ lw_tbl := lw_at lw_m8 61 rfl
theorem q1895 : (Jvm.Cond.instanceMethod ({ cls := "ToolUnionModel", name := "isFull", desc := "(II)Z" } : Jvm.MethodName)) ∈ lw_all := lw_g (lw_at lw_m8 62 rfl) rfl
theorem q1896 : (Jvm.Cond.code ({ cls := "ToolUnionModel", name := "isFull", desc := "(II)Z" } : Jvm.MethodName) prog_14_method_105_code (4 : Nat) (Option.some Jvm.ClassFile.FieldType.boolean)) ∈ lw_all := lw_g (lw_at lw_m8 63 rfl) rfl
theorem q1897 : (Jvm.Cond.methodLink "ToolUnionModel" (435 : Nat) ({ cls := "ToolUnionModel", name := "step", desc := "(II)I" } : Jvm.MethodName)) ∈ lw_all := lw_g (lw_at lw_m8 64 rfl) rfl
theorem q1898 : (Jvm.Cond.privateMethod ({ cls := "ToolUnionModel", name := "step", desc := "(II)I" } : Jvm.MethodName)) ∈ lw_tbl := lw_at lw_m8 65 rfl
theorem q1899 : (Jvm.Cond.instanceMethod ({ cls := "ToolUnionModel", name := "step", desc := "(II)I" } : Jvm.MethodName)) ∈ lw_all := lw_g (lw_at lw_m8 66 rfl) rfl
theorem q1900 : (Jvm.Cond.code ({ cls := "ToolUnionModel", name := "step", desc := "(II)I" } : Jvm.MethodName) prog_14_method_104_code (5 : Nat) (Option.some Jvm.ClassFile.FieldType.int)) ∈ lw_all := lw_g (lw_at lw_m8 67 rfl) rfl
theorem q1901 : (Jvm.Cond.methodLink "ToolUnionModel" (450 : Nat) ({ cls := "ToolUnionModel", name := "firstSet", desc := "(I)I" } : Jvm.MethodName)) ∈ lw_all := lw_g (lw_at lw_m8 68 rfl) rfl
theorem q1902 : (Jvm.Cond.privateMethod ({ cls := "ToolUnionModel", name := "firstSet", desc := "(I)I" } : Jvm.MethodName)) ∈ lw_tbl := lw_at lw_m8 69 rfl
theorem q1903 : (Jvm.Cond.instanceMethod ({ cls := "ToolUnionModel", name := "firstSet", desc := "(I)I" } : Jvm.MethodName)) ∈ lw_all := lw_g (lw_at lw_m8 70 rfl) rfl
theorem q1904 : (Jvm.Cond.code ({ cls := "ToolUnionModel", name := "firstSet", desc := "(I)I" } : Jvm.MethodName) prog_14_method_107_code (4 : Nat) (Option.some Jvm.ClassFile.FieldType.int)) ∈ lw_all := lw_g (lw_at lw_m8 71 rfl) rfl
theorem q1906 : (Jvm.Cond.instanceMethod ({ cls := "ToolUnionModel", name := "vote", desc := "(I)I" } : Jvm.MethodName)) ∈ lw_all := lw_g (lw_at lw_m8 73 rfl) rfl
theorem q1907 : (Jvm.Cond.selects "ToolUnionModel" ({ cls := "ToolUnionModel", name := "vote", desc := "(I)I" } : Jvm.MethodName) ({ cls := "ToolUnionModel", name := "vote", desc := "(I)I" } : Jvm.MethodName)) ∈ lw_all := lw_g (lw_at lw_m8 74 rfl) rfl
theorem q1908 : (Jvm.Cond.code ({ cls := "ToolUnionModel", name := "vote", desc := "(I)I" } : Jvm.MethodName) prog_14_method_111_code (2 : Nat) (Option.some Jvm.ClassFile.FieldType.int)) ∈ lw_all := lw_g (lw_at lw_m8 75 rfl) rfl
theorem q1909 : (Jvm.Cond.methodLink "ToolUnionModel" (456 : Nat) ({ cls := "ToolUnionModel", name := "isAgreed", desc := "(I)Z" } : Jvm.MethodName)) ∈ lw_all := lw_g (lw_at lw_m8 76 rfl) rfl
theorem q1910 : (Jvm.Cond.privateMethod ({ cls := "ToolUnionModel", name := "isAgreed", desc := "(I)Z" } : Jvm.MethodName)) ∈ lw_tbl := lw_at lw_m8 77 rfl
theorem q1911 : (Jvm.Cond.instanceMethod ({ cls := "ToolUnionModel", name := "isAgreed", desc := "(I)Z" } : Jvm.MethodName)) ∈ lw_all := lw_g (lw_at lw_m8 78 rfl) rfl
theorem q1912 : (Jvm.Cond.code ({ cls := "ToolUnionModel", name := "isAgreed", desc := "(I)Z" } : Jvm.MethodName) prog_14_method_110_code (2 : Nat) (Option.some Jvm.ClassFile.FieldType.boolean)) ∈ lw_all := lw_g (lw_at lw_m8 79 rfl) rfl
theorem q1913 : (Jvm.Cond.methodLink "ToolUnionModel" (453 : Nat) ({ cls := "ToolUnionModel", name := "votesOf", desc := "(I)I" } : Jvm.MethodName)) ∈ lw_all := lw_g (lw_at lw_m8 80 rfl) rfl
theorem q1914 : (Jvm.Cond.privateMethod ({ cls := "ToolUnionModel", name := "votesOf", desc := "(I)I" } : Jvm.MethodName)) ∈ lw_tbl := lw_at lw_m8 81 rfl
theorem q1915 : (Jvm.Cond.instanceMethod ({ cls := "ToolUnionModel", name := "votesOf", desc := "(I)I" } : Jvm.MethodName)) ∈ lw_all := lw_g (lw_at lw_m8 82 rfl) rfl
theorem q1916 : (Jvm.Cond.code ({ cls := "ToolUnionModel", name := "votesOf", desc := "(I)I" } : Jvm.MethodName) prog_14_method_109_code (4 : Nat) (Option.some Jvm.ClassFile.FieldType.int)) ∈ lw_all := lw_g (lw_at lw_m8 83 rfl) rfl
theorem q1918 : (Jvm.Cond.instanceMethod ({ cls := "ToolUnionModel", name := "loved", desc := "()I" } : Jvm.MethodName)) ∈ lw_all := lw_g (lw_at lw_m8 85 rfl) rfl
theorem q1919 : (Jvm.Cond.selects "ToolUnionModel" ({ cls := "ToolUnionModel", name := "loved", desc := "()I" } : Jvm.MethodName) ({ cls := "ToolUnionModel", name := "loved", desc := "()I" } : Jvm.MethodName)) ∈ lw_all := lw_g (lw_at lw_m8 86 rfl) rfl
theorem q1920 : (Jvm.Cond.code ({ cls := "ToolUnionModel", name := "loved", desc := "()I" } : Jvm.MethodName) prog_14_method_121_code (5 : Nat) (Option.some Jvm.ClassFile.FieldType.int)) ∈ lw_all := lw_g (lw_at lw_m8 87 rfl) rfl
theorem q1921 : (Jvm.Cond.methodLink "ToolUnionModel" (478 : Nat) ({ cls := "ToolUnionModel", name := "loversOf", desc := "(I)I" } : Jvm.MethodName)) ∈ lw_all := lw_g (lw_at lw_m8 88 rfl) rfl
theorem q1922 : (Jvm.Cond.privateMethod ({ cls := "ToolUnionModel", name := "loversOf", desc := "(I)I" } : Jvm.MethodName)) ∈ lw_tbl := lw_at lw_m8 89 rfl
theorem q1923 : (Jvm.Cond.instanceMethod ({ cls := "ToolUnionModel", name := "loversOf", desc := "(I)I" } : Jvm.MethodName)) ∈ lw_all := lw_g (lw_at lw_m8 90 rfl) rfl
theorem q1924 : (Jvm.Cond.code ({ cls := "ToolUnionModel", name := "loversOf", desc := "(I)I" } : Jvm.MethodName) prog_14_method_120_code (4 : Nat) (Option.some Jvm.ClassFile.FieldType.int)) ∈ lw_all := lw_g (lw_at lw_m8 91 rfl) rfl
theorem q1925 : (Jvm.Cond.methodLink "ToolUnionModel" (468 : Nat) ({ cls := "ToolUnionModel", name := "bestTool", desc := "(I)I" } : Jvm.MethodName)) ∈ lw_all := lw_g (lw_at lw_m8 92 rfl) rfl
theorem q1926 : (Jvm.Cond.privateMethod ({ cls := "ToolUnionModel", name := "bestTool", desc := "(I)I" } : Jvm.MethodName)) ∈ lw_tbl := lw_at lw_m8 93 rfl
theorem q1927 : (Jvm.Cond.instanceMethod ({ cls := "ToolUnionModel", name := "bestTool", desc := "(I)I" } : Jvm.MethodName)) ∈ lw_all := lw_g (lw_at lw_m8 94 rfl) rfl
theorem q1928 : (Jvm.Cond.code ({ cls := "ToolUnionModel", name := "bestTool", desc := "(I)I" } : Jvm.MethodName) prog_14_method_116_code (4 : Nat) (Option.some Jvm.ClassFile.FieldType.int)) ∈ lw_all := lw_g (lw_at lw_m8 95 rfl) rfl
theorem q1930 : (Jvm.Cond.instanceMethod ({ cls := "ToolUnionModel", name := "seen", desc := "(II)I" } : Jvm.MethodName)) ∈ lw_all := lw_g (lw_at lw_m8 97 rfl) rfl
theorem q1931 : (Jvm.Cond.selects "ToolUnionModel" ({ cls := "ToolUnionModel", name := "seen", desc := "(II)I" } : Jvm.MethodName) ({ cls := "ToolUnionModel", name := "seen", desc := "(II)I" } : Jvm.MethodName)) ∈ lw_all := lw_g (lw_at lw_m8 98 rfl) rfl
theorem q1932 : (Jvm.Cond.code ({ cls := "ToolUnionModel", name := "seen", desc := "(II)I" } : Jvm.MethodName) prog_14_method_123_code (3 : Nat) (Option.some Jvm.ClassFile.FieldType.int)) ∈ lw_all := lw_g (lw_at lw_m8 99 rfl) rfl
theorem q1933 : (Jvm.Cond.methodLink "ToolUnionModel" (481 : Nat) ({ cls := "ToolUnionModel", name := "isWork", desc := "(I)Z" } : Jvm.MethodName)) ∈ lw_all := lw_g (lw_at lw_m8 100 rfl) rfl
theorem q1934 : (Jvm.Cond.privateMethod ({ cls := "ToolUnionModel", name := "isWork", desc := "(I)Z" } : Jvm.MethodName)) ∈ lw_tbl := lw_at lw_m8 101 rfl
theorem q1935 : (Jvm.Cond.instanceMethod ({ cls := "ToolUnionModel", name := "isWork", desc := "(I)Z" } : Jvm.MethodName)) ∈ lw_all := lw_g (lw_at lw_m8 102 rfl) rfl
theorem q1936 : (Jvm.Cond.code ({ cls := "ToolUnionModel", name := "isWork", desc := "(I)Z" } : Jvm.MethodName) prog_14_method_8_code (2 : Nat) (Option.some Jvm.ClassFile.FieldType.boolean)) ∈ lw_all := lw_g (lw_at lw_m8 103 rfl) rfl
theorem q1938 : (Jvm.Cond.instanceMethod ({ cls := "ToolUnionModel", name := "orders", desc := "(I)I" } : Jvm.MethodName)) ∈ lw_all := lw_g (lw_at lw_m8 105 rfl) rfl
theorem q1939 : (Jvm.Cond.selects "ToolUnionModel" ({ cls := "ToolUnionModel", name := "orders", desc := "(I)I" } : Jvm.MethodName) ({ cls := "ToolUnionModel", name := "orders", desc := "(I)I" } : Jvm.MethodName)) ∈ lw_all := lw_g (lw_at lw_m8 106 rfl) rfl
theorem q1940 : (Jvm.Cond.code ({ cls := "ToolUnionModel", name := "orders", desc := "(I)I" } : Jvm.MethodName) prog_14_method_127_code (5 : Nat) (Option.some Jvm.ClassFile.FieldType.int)) ∈ lw_all := lw_g (lw_at lw_m8 107 rfl) rfl
theorem q1941 : (Jvm.Cond.methodLink "ToolUnionModel" (487 : Nat) ({ cls := "ToolUnionModel", name := "laysOrders", desc := "()V" } : Jvm.MethodName)) ∈ lw_all := lw_g (lw_at lw_m8 108 rfl) rfl
theorem q1942 : (Jvm.Cond.privateMethod ({ cls := "ToolUnionModel", name := "laysOrders", desc := "()V" } : Jvm.MethodName)) ∈ lw_tbl := lw_at lw_m8 109 rfl
theorem q1943 : (Jvm.Cond.instanceMethod ({ cls := "ToolUnionModel", name := "laysOrders", desc := "()V" } : Jvm.MethodName)) ∈ lw_all := lw_g (lw_at lw_m8 110 rfl) rfl
theorem q1944 : (Jvm.Cond.code ({ cls := "ToolUnionModel", name := "laysOrders", desc := "()V" } : Jvm.MethodName) prog_14_method_124_code (3 : Nat) (Option.none : Option Jvm.ClassFile.FieldType)) ∈ lw_all := lw_g (lw_at lw_m8 111 rfl) rfl
theorem q1945 : (Jvm.Cond.methodLink "ToolUnionModel" (484 : Nat) ({ cls := "ToolUnionModel", name := "canCome", desc := "(II)Z" } : Jvm.MethodName)) ∈ lw_all := lw_g (lw_at lw_m8 112 rfl) rfl
theorem q1946 : (Jvm.Cond.privateMethod ({ cls := "ToolUnionModel", name := "canCome", desc := "(II)Z" } : Jvm.MethodName)) ∈ lw_tbl := lw_at lw_m8 113 rfl
theorem q1947 : (Jvm.Cond.instanceMethod ({ cls := "ToolUnionModel", name := "canCome", desc := "(II)Z" } : Jvm.MethodName)) ∈ lw_all := lw_g (lw_at lw_m8 114 rfl) rfl
theorem q1948 : (Jvm.Cond.code ({ cls := "ToolUnionModel", name := "canCome", desc := "(II)Z" } : Jvm.MethodName) prog_14_method_125_code (3 : Nat) (Option.some Jvm.ClassFile.FieldType.boolean)) ∈ lw_all := lw_g (lw_at lw_m8 115 rfl) rfl
theorem q1949 : (Jvm.Cond.methodLink "ToolUnionModel" (490 : Nat) ({ cls := "ToolUnionModel", name := "nextOf", desc := "(I)I" } : Jvm.MethodName)) ∈ lw_all := lw_g (lw_at lw_m8 116 rfl) rfl
theorem q1950 : (Jvm.Cond.privateMethod ({ cls := "ToolUnionModel", name := "nextOf", desc := "(I)I" } : Jvm.MethodName)) ∈ lw_tbl := lw_at lw_m8 117 rfl
theorem q1951 : (Jvm.Cond.instanceMethod ({ cls := "ToolUnionModel", name := "nextOf", desc := "(I)I" } : Jvm.MethodName)) ∈ lw_all := lw_g (lw_at lw_m8 118 rfl) rfl
theorem q1952 : (Jvm.Cond.code ({ cls := "ToolUnionModel", name := "nextOf", desc := "(I)I" } : Jvm.MethodName) prog_14_method_126_code (3 : Nat) (Option.some Jvm.ClassFile.FieldType.int)) ∈ lw_all := lw_g (lw_at lw_m8 119 rfl) rfl
theorem q1954 : (Jvm.Cond.instanceMethod ({ cls := "ToolUnionModel", name := "of", desc := "(II)I" } : Jvm.MethodName)) ∈ lw_all := lw_g (lw_at lw_m8 121 rfl) rfl
theorem q1955 : (Jvm.Cond.selects "ToolUnionModel" ({ cls := "ToolUnionModel", name := "of", desc := "(II)I" } : Jvm.MethodName) ({ cls := "ToolUnionModel", name := "of", desc := "(II)I" } : Jvm.MethodName)) ∈ lw_all := lw_g (lw_at lw_m8 122 rfl) rfl
theorem q1956 : (Jvm.Cond.code ({ cls := "ToolUnionModel", name := "of", desc := "(II)I" } : Jvm.MethodName) prog_14_method_129_code (3 : Nat) (Option.some Jvm.ClassFile.FieldType.int)) ∈ lw_all := lw_g (lw_at lw_m8 123 rfl) rfl
theorem q1957 : (Jvm.Cond.methodLink "ToolUnionModel" (496 : Nat) ({ cls := "ToolUnionModel", name := "swings", desc := "(I)I" } : Jvm.MethodName)) ∈ lw_all := lw_g (lw_at lw_m8 124 rfl) rfl
theorem q1958 : (Jvm.Cond.privateMethod ({ cls := "ToolUnionModel", name := "swings", desc := "(I)I" } : Jvm.MethodName)) ∈ lw_tbl := lw_at lw_m8 125 rfl
theorem q1959 : (Jvm.Cond.instanceMethod ({ cls := "ToolUnionModel", name := "swings", desc := "(I)I" } : Jvm.MethodName)) ∈ lw_all := lw_g (lw_at lw_m8 126 rfl) rfl
theorem q1960 : (Jvm.Cond.code ({ cls := "ToolUnionModel", name := "swings", desc := "(I)I" } : Jvm.MethodName) prog_14_method_114_code (4 : Nat) (Option.some Jvm.ClassFile.FieldType.int)) ∈ lw_all := lw_g (lw_at lw_m8 127 rfl) rfl
theorem q1961 : (Jvm.Cond.methodLink "ToolUnionModel" (462 : Nat) ({ cls := "ToolUnionModel", name := "isSwing", desc := "(II)Z" } : Jvm.MethodName)) ∈ lw_all := lw_g (lw_at lw_m8 128 rfl) rfl
theorem q1962 : (Jvm.Cond.privateMethod ({ cls := "ToolUnionModel", name := "isSwing", desc := "(II)Z" } : Jvm.MethodName)) ∈ lw_tbl := lw_at lw_m8 129 rfl
theorem q1963 : (Jvm.Cond.instanceMethod ({ cls := "ToolUnionModel", name := "isSwing", desc := "(II)Z" } : Jvm.MethodName)) ∈ lw_all := lw_g (lw_at lw_m8 130 rfl) rfl
theorem q1964 : (Jvm.Cond.code ({ cls := "ToolUnionModel", name := "isSwing", desc := "(II)Z" } : Jvm.MethodName) prog_14_method_113_code (3 : Nat) (Option.some Jvm.ClassFile.FieldType.boolean)) ∈ lw_all := lw_g (lw_at lw_m8 131 rfl) rfl
theorem q1965 : (Jvm.Cond.methodLink "ToolUnionModel" (499 : Nat) ({ cls := "ToolUnionModel", name := "power", desc := "(I)I" } : Jvm.MethodName)) ∈ lw_all := lw_g (lw_at lw_m8 132 rfl) rfl
theorem q1966 : (Jvm.Cond.privateMethod ({ cls := "ToolUnionModel", name := "power", desc := "(I)I" } : Jvm.MethodName)) ∈ lw_tbl := lw_at lw_m8 133 rfl
theorem q1967 : (Jvm.Cond.instanceMethod ({ cls := "ToolUnionModel", name := "power", desc := "(I)I" } : Jvm.MethodName)) ∈ lw_all := lw_g (lw_at lw_m8 134 rfl) rfl
theorem q1968 : (Jvm.Cond.code ({ cls := "ToolUnionModel", name := "power", desc := "(I)I" } : Jvm.MethodName) prog_14_method_115_code (4 : Nat) (Option.some Jvm.ClassFile.FieldType.int)) ∈ lw_all := lw_g (lw_at lw_m8 135 rfl) rfl
theorem q1969 : (Jvm.Cond.methodLink "ToolUnionModel" (459 : Nat) ({ cls := "ToolUnionModel", name := "orders1", desc := "(I)I" } : Jvm.MethodName)) ∈ lw_all := lw_g (lw_at lw_m8 136 rfl) rfl
theorem q1970 : (Jvm.Cond.static ({ cls := "ToolUnionModel", name := "orders1", desc := "(I)I" } : Jvm.MethodName)) ∈ lw_all := lw_g (lw_at lw_m8 137 rfl) rfl
theorem q1971 : (Jvm.Cond.code ({ cls := "ToolUnionModel", name := "orders1", desc := "(I)I" } : Jvm.MethodName) prog_14_method_112_code (1 : Nat) (Option.some Jvm.ClassFile.FieldType.int)) ∈ lw_all := lw_g (lw_at lw_m8 138 rfl) rfl
theorem q1972 : (Jvm.Cond.methodLink "ToolUnionModel" (502 : Nat) ({ cls := "ToolUnionModel", name := "mateOf", desc := "(I)I" } : Jvm.MethodName)) ∈ lw_all := lw_g (lw_at lw_m8 139 rfl) rfl
theorem q1973 : (Jvm.Cond.privateMethod ({ cls := "ToolUnionModel", name := "mateOf", desc := "(I)I" } : Jvm.MethodName)) ∈ lw_tbl := lw_at lw_m8 140 rfl
theorem q1974 : (Jvm.Cond.instanceMethod ({ cls := "ToolUnionModel", name := "mateOf", desc := "(I)I" } : Jvm.MethodName)) ∈ lw_all := lw_g (lw_at lw_m8 141 rfl) rfl
theorem q1975 : (Jvm.Cond.code ({ cls := "ToolUnionModel", name := "mateOf", desc := "(I)I" } : Jvm.MethodName) prog_14_method_128_code (2 : Nat) (Option.some Jvm.ClassFile.FieldType.int)) ∈ lw_all := lw_g (lw_at lw_m8 142 rfl) rfl
theorem q1976 : (Jvm.Cond.methodLink "ToolUnionModel" (493 : Nat) ({ cls := "ToolUnionModel", name := "laysMates", desc := "()V" } : Jvm.MethodName)) ∈ lw_all := lw_g (lw_at lw_m8 143 rfl) rfl
theorem q1977 : (Jvm.Cond.privateMethod ({ cls := "ToolUnionModel", name := "laysMates", desc := "()V" } : Jvm.MethodName)) ∈ lw_tbl := lw_at lw_m8 144 rfl
theorem q1978 : (Jvm.Cond.instanceMethod ({ cls := "ToolUnionModel", name := "laysMates", desc := "()V" } : Jvm.MethodName)) ∈ lw_all := lw_g (lw_at lw_m8 145 rfl) rfl
theorem q1979 : (Jvm.Cond.code ({ cls := "ToolUnionModel", name := "laysMates", desc := "()V" } : Jvm.MethodName) prog_14_method_119_code (2 : Nat) (Option.none : Option Jvm.ClassFile.FieldType)) ∈ lw_all := lw_g (lw_at lw_m8 146 rfl) rfl
theorem q1980 : (Jvm.Cond.methodLink "ToolUnionModel" (474 : Nat) ({ cls := "ToolUnionModel", name := "asksFor", desc := "(I)V" } : Jvm.MethodName)) ∈ lw_all := lw_g (lw_at lw_m8 147 rfl) rfl
theorem q1981 : (Jvm.Cond.privateMethod ({ cls := "ToolUnionModel", name := "asksFor", desc := "(I)V" } : Jvm.MethodName)) ∈ lw_tbl := lw_at lw_m8 148 rfl
theorem q1982 : (Jvm.Cond.instanceMethod ({ cls := "ToolUnionModel", name := "asksFor", desc := "(I)V" } : Jvm.MethodName)) ∈ lw_all := lw_g (lw_at lw_m8 149 rfl) rfl
theorem q1983 : (Jvm.Cond.code ({ cls := "ToolUnionModel", name := "asksFor", desc := "(I)V" } : Jvm.MethodName) prog_14_method_118_code (5 : Nat) (Option.none : Option Jvm.ClassFile.FieldType)) ∈ lw_all := lw_g (lw_at lw_m8 150 rfl) rfl
theorem q1984 : (Jvm.Cond.methodLink "ToolUnionModel" (471 : Nat) ({ cls := "ToolUnionModel", name := "isRather", desc := "(III)Z" } : Jvm.MethodName)) ∈ lw_all := lw_g (lw_at lw_m8 151 rfl) rfl
theorem q1985 : (Jvm.Cond.privateMethod ({ cls := "ToolUnionModel", name := "isRather", desc := "(III)Z" } : Jvm.MethodName)) ∈ lw_tbl := lw_at lw_m8 152 rfl
theorem q1986 : (Jvm.Cond.instanceMethod ({ cls := "ToolUnionModel", name := "isRather", desc := "(III)Z" } : Jvm.MethodName)) ∈ lw_all := lw_g (lw_at lw_m8 153 rfl) rfl
theorem q1987 : (Jvm.Cond.code ({ cls := "ToolUnionModel", name := "isRather", desc := "(III)Z" } : Jvm.MethodName) prog_14_method_117_code (6 : Nat) (Option.some Jvm.ClassFile.FieldType.boolean)) ∈ lw_all := lw_g (lw_at lw_m8 154 rfl) rfl
theorem q1988 : (Jvm.Cond.methodLink "ToolUnionModel" (465 : Nat) ({ cls := "ToolUnionModel", name := "likeOf", desc := "(II)I" } : Jvm.MethodName)) ∈ lw_all := lw_g (lw_at lw_m8 155 rfl) rfl
theorem q1989 : (Jvm.Cond.privateMethod ({ cls := "ToolUnionModel", name := "likeOf", desc := "(II)I" } : Jvm.MethodName)) ∈ lw_tbl := lw_at lw_m8 156 rfl
theorem q1990 : (Jvm.Cond.instanceMethod ({ cls := "ToolUnionModel", name := "likeOf", desc := "(II)I" } : Jvm.MethodName)) ∈ lw_all := lw_g (lw_at lw_m8 157 rfl) rfl
theorem q1991 : (Jvm.Cond.code ({ cls := "ToolUnionModel", name := "likeOf", desc := "(II)I" } : Jvm.MethodName) prog_14_method_65_code (3 : Nat) (Option.some Jvm.ClassFile.FieldType.int)) ∈ lw_all := lw_g (lw_at lw_m8 158 rfl) rfl
theorem q1993 : (Jvm.Cond.instanceMethod ({ cls := "ToolUnionModel", name := "at", desc := "(II)I" } : Jvm.MethodName)) ∈ lw_all := lw_g (lw_at lw_m8 160 rfl) rfl
theorem q1994 : (Jvm.Cond.selects "ToolUnionModel" ({ cls := "ToolUnionModel", name := "at", desc := "(II)I" } : Jvm.MethodName) ({ cls := "ToolUnionModel", name := "at", desc := "(II)I" } : Jvm.MethodName)) ∈ lw_all := lw_g (lw_at lw_m8 161 rfl) rfl
theorem q1995 : (Jvm.Cond.code ({ cls := "ToolUnionModel", name := "at", desc := "(II)I" } : Jvm.MethodName) prog_14_method_130_code (3 : Nat) (Option.some Jvm.ClassFile.FieldType.int)) ∈ lw_all := lw_g (lw_at lw_m8 162 rfl) rfl
theorem q1996 : (Jvm.Cond.methodLink "ToolUnionModel" (505 : Nat) ({ cls := "ToolUnionModel", name := "toolOf", desc := "(I)I" } : Jvm.MethodName)) ∈ lw_all := lw_g (lw_at lw_m8 163 rfl) rfl
theorem q1997 : (Jvm.Cond.privateMethod ({ cls := "ToolUnionModel", name := "toolOf", desc := "(I)I" } : Jvm.MethodName)) ∈ lw_tbl := lw_at lw_m8 164 rfl
theorem q1998 : (Jvm.Cond.instanceMethod ({ cls := "ToolUnionModel", name := "toolOf", desc := "(I)I" } : Jvm.MethodName)) ∈ lw_all := lw_g (lw_at lw_m8 165 rfl) rfl
theorem q1999 : (Jvm.Cond.code ({ cls := "ToolUnionModel", name := "toolOf", desc := "(I)I" } : Jvm.MethodName) prog_14_method_122_code (3 : Nat) (Option.some Jvm.ClassFile.FieldType.int)) ∈ lw_all := lw_g (lw_at lw_m8 166 rfl) rfl
theorem q2001 : (Jvm.Cond.instanceMethod ({ cls := "ToolUnionModel", name := "work", desc := "(II)I" } : Jvm.MethodName)) ∈ lw_all := lw_g (lw_at lw_m8 168 rfl) rfl
theorem q2002 : (Jvm.Cond.selects "ToolUnionModel" ({ cls := "ToolUnionModel", name := "work", desc := "(II)I" } : Jvm.MethodName) ({ cls := "ToolUnionModel", name := "work", desc := "(II)I" } : Jvm.MethodName)) ∈ lw_all := lw_g (lw_at lw_m8 169 rfl) rfl
theorem q2003 : (Jvm.Cond.code ({ cls := "ToolUnionModel", name := "work", desc := "(II)I" } : Jvm.MethodName) prog_14_method_131_code (4 : Nat) (Option.some Jvm.ClassFile.FieldType.int)) ∈ lw_all := lw_g (lw_at lw_m8 170 rfl) rfl
theorem q2004 : (Jvm.Cond.methodLink "ToolUnionModel" (508 : Nat) ({ cls := "ToolUnionModel", name := "firstHands", desc := "(I)I" } : Jvm.MethodName)) ∈ lw_all := lw_g (lw_at lw_m8 171 rfl) rfl
theorem q2005 : (Jvm.Cond.privateMethod ({ cls := "ToolUnionModel", name := "firstHands", desc := "(I)I" } : Jvm.MethodName)) ∈ lw_tbl := lw_at lw_m8 172 rfl
theorem q2006 : (Jvm.Cond.instanceMethod ({ cls := "ToolUnionModel", name := "firstHands", desc := "(I)I" } : Jvm.MethodName)) ∈ lw_all := lw_g (lw_at lw_m8 173 rfl) rfl
theorem q2007 : (Jvm.Cond.code ({ cls := "ToolUnionModel", name := "firstHands", desc := "(I)I" } : Jvm.MethodName) prog_14_method_88_code (4 : Nat) (Option.some Jvm.ClassFile.FieldType.int)) ∈ lw_all := lw_g (lw_at lw_m8 174 rfl) rfl
theorem q2009 : (Jvm.Cond.instanceMethod ({ cls := "ToolUnionModel", name := "serves", desc := "(II)I" } : Jvm.MethodName)) ∈ lw_all := lw_g (lw_at lw_m8 176 rfl) rfl
theorem q2010 : (Jvm.Cond.selects "ToolUnionModel" ({ cls := "ToolUnionModel", name := "serves", desc := "(II)I" } : Jvm.MethodName) ({ cls := "ToolUnionModel", name := "serves", desc := "(II)I" } : Jvm.MethodName)) ∈ lw_all := lw_g (lw_at lw_m8 177 rfl) rfl
theorem q2011 : (Jvm.Cond.code ({ cls := "ToolUnionModel", name := "serves", desc := "(II)I" } : Jvm.MethodName) prog_14_method_132_code (3 : Nat) (Option.some Jvm.ClassFile.FieldType.int)) ∈ lw_all := lw_g (lw_at lw_m8 178 rfl) rfl
theorem q2013 : (Jvm.Cond.instanceMethod ({ cls := "ToolUnionModel", name := "tells", desc := "(III)I" } : Jvm.MethodName)) ∈ lw_all := lw_g (lw_at lw_m8 180 rfl) rfl
theorem q2014 : (Jvm.Cond.selects "ToolUnionModel" ({ cls := "ToolUnionModel", name := "tells", desc := "(III)I" } : Jvm.MethodName) ({ cls := "ToolUnionModel", name := "tells", desc := "(III)I" } : Jvm.MethodName)) ∈ lw_all := lw_g (lw_at lw_m8 181 rfl) rfl
theorem q2015 : (Jvm.Cond.code ({ cls := "ToolUnionModel", name := "tells", desc := "(III)I" } : Jvm.MethodName) prog_14_method_133_code (4 : Nat) (Option.some Jvm.ClassFile.FieldType.int)) ∈ lw_all := lw_g (lw_at lw_m8 182 rfl) rfl
theorem q2017 : (Jvm.Cond.instanceMethod ({ cls := "ToolUnionModel", name := "book", desc := "(II)I" } : Jvm.MethodName)) ∈ lw_all := lw_g (lw_at lw_m8 184 rfl) rfl
theorem q2018 : (Jvm.Cond.selects "ToolUnionModel" ({ cls := "ToolUnionModel", name := "book", desc := "(II)I" } : Jvm.MethodName) ({ cls := "ToolUnionModel", name := "book", desc := "(II)I" } : Jvm.MethodName)) ∈ lw_all := lw_g (lw_at lw_m8 185 rfl) rfl
theorem q2019 : (Jvm.Cond.code ({ cls := "ToolUnionModel", name := "book", desc := "(II)I" } : Jvm.MethodName) prog_14_method_134_code (3 : Nat) (Option.some Jvm.ClassFile.FieldType.int)) ∈ lw_all := lw_g (lw_at lw_m8 186 rfl) rfl
theorem q2021 : (Jvm.Cond.instanceMethod ({ cls := "ToolUnionModel", name := "image", desc := "(Z)Z" } : Jvm.MethodName)) ∈ lw_all := lw_g (lw_at lw_m8 188 rfl) rfl
theorem q2022 : (Jvm.Cond.selects "ToolUnionModel" ({ cls := "ToolUnionModel", name := "image", desc := "(Z)Z" } : Jvm.MethodName) ({ cls := "ToolUnionModel", name := "image", desc := "(Z)Z" } : Jvm.MethodName)) ∈ lw_all := lw_g (lw_at lw_m8 189 rfl) rfl
theorem q2023 : (Jvm.Cond.code ({ cls := "ToolUnionModel", name := "image", desc := "(Z)Z" } : Jvm.MethodName) prog_14_method_135_code (3 : Nat) (Option.some Jvm.ClassFile.FieldType.boolean)) ∈ lw_all := lw_g (lw_at lw_m8 190 rfl) rfl
theorem q2025 : (Jvm.Cond.instanceMethod ({ cls := "ToolUnionModel", name := "look", desc := "(I)I" } : Jvm.MethodName)) ∈ lw_all := lw_g (lw_at lw_m8 192 rfl) rfl
theorem q2026 : (Jvm.Cond.selects "ToolUnionModel" ({ cls := "ToolUnionModel", name := "look", desc := "(I)I" } : Jvm.MethodName) ({ cls := "ToolUnionModel", name := "look", desc := "(I)I" } : Jvm.MethodName)) ∈ lw_all := lw_g (lw_at lw_m8 193 rfl) rfl
theorem q2027 : (Jvm.Cond.code ({ cls := "ToolUnionModel", name := "look", desc := "(I)I" } : Jvm.MethodName) prog_14_method_136_code (2 : Nat) (Option.some Jvm.ClassFile.FieldType.int)) ∈ lw_all := lw_g (lw_at lw_m8 194 rfl) rfl
theorem in_X3 : ∀ w ∈ wsX30, w ∈ lw_all := lw_in wsX30 [1389, 1391, 1393, 1395, 1397, 1399, 1401, 1403, 1405, 1407, 1409, 1411, 1413, 1415, 1417, 1419, 1421, 1423, 1425, 1427, 1429, 1431, 1433, 1435, 1437, 1439, 1441, 1443, 1445, 1447, 1449, 1451, 1453, 1455, 1457, 1459, 1461, 1463, 1465] (by decide +kernel) (by decide +kernel)
