/-! ToolUnion -/
set_option maxRecDepth 100000
def RX0 : String := "ToolUnion"
def TX0 : u_T := fun k => match k with
  | 0 => ("ToolUnion", "tape", "[B", true)
  | 1 => ("ToolUnion", "taped", "I", false)
  | 2 => ("ToolUnion", "firstWords", "[[Ljava/lang/String;", true)
  | 3 => ("ToolUnion", "lawAsked", "[Ljava/lang/String;", true)
  | 4 => ("ToolUnion", "others", "[Ljava/lang/String;", true)
  | 5 => ("ToolUnion", "nothing", "[Ljava/lang/String;", true)
  | 6 => ("ToolUnion", "words", "[Ljava/lang/String;", false)
  | 7 => ("ToolUnion", "asked", "[Ljava/lang/String;", false)
  | 8 => ("ToolUnion", "joins", "[Ljava/lang/String;", false)
  | 9 => ("ToolUnion", "token", "LToolUnion$Token;", false)
  | 10 => ("ToolUnion", "spot", "I", false)
  | 11 => ("ToolUnion", "from", "I", false)
  | 12 => ("ToolUnion", "value", "I", false)
  | 13 => ("ToolUnion", "open", "I", false)
  | 14 => ("ToolUnion", "faultKind", "I", false)
  | 15 => ("ToolUnion", "faultPlace", "I", false)
  | 16 => ("ToolUnion", "serving", "LToolUnion$Text;", false)
  | 17 => ("ToolUnion", "edges", "LToolUnion$Text;", false)
  | 18 => ("ToolUnion", "hull", "[LToolUnion$Work;", false)
  | 19 => ("ToolUnion", "rota", "[LToolUnion$Turn;", false)
  | 20 => ("ToolUnion", "kindOf", "[I", true)
  | 21 => ("ToolUnion", "branchOf", "[I", true)
  | 22 => ("ToolUnion", "toolLeft", "[I", true)
  | 23 => ("ToolUnion", "votes", "[I", true)
  | 24 => ("ToolUnion", "off", "[I", true)
  | 25 => ("ToolUnion", "skill", "[I", true)
  | 26 => ("ToolUnion", "manLeft", "[I", true)
  | 27 => ("ToolUnion", "tools", "I", false)
  | 28 => ("ToolUnion", "men", "I", false)
  | 29 => ("ToolUnion", "rust", "I", false)
  | 30 => ("ToolUnion", "quota", "I", false)
  | 31 => ("ToolUnion", "lawHas", "[I", true)
  | 32 => ("ToolUnion", "yard", "LToolUnion$Yard;", true)
  | 33 => ("ToolUnion", "thought", "LToolUnion$Yard;", true)
  | 34 => ("ToolUnion", "kept", "LToolUnion$Yard;", true)
  | 35 => ("ToolUnion", "book", "[I", true)
  | 36 => ("ToolUnion", "ahead", "[LToolUnion$Yard;", true)
  | 37 => ("ToolUnion", "undoable", "I", false)
  | 38 => ("ToolUnion", "handMany", "I", false)
  | 39 => ("ToolUnion", "handTool", "I", false)
  | 40 => ("ToolUnion", "handMan", "I", false)
  | 41 => ("ToolUnion", "canServe", "[Z", true)
  | 42 => ("ToolUnion", "canBe", "[Z", true)
  | 43 => ("ToolUnion", "far", "[B", true)
  | 44 => ("ToolUnion", "mateOf", "[I", true)
  | 45 => ("ToolUnion", "holds", "[I", true)
  | 46 => ("ToolUnion", "refusedBy", "[I", true)
  | 47 => ("ToolUnion", "seenAhead", "[I", true)
  | 48 => ("ToolUnion", "seenBehind", "[I", true)
  | 49 => ("ToolUnion", "ordersFrom", "[I", true)
  | 50 => ("ToolUnion", "seenMany", "I", false)
  | 51 => ("ToolUnion", "rows", "[[I", true)
  | 52 => ("ToolUnion", "keptRows", "[[I", true)
  | 53 => ("ToolUnion", "keptOther", "[I", true)
  | 54 => ("ToolUnion", "keptServing", "LToolUnion$Text;", false)
  | 55 => ("ToolUnion", "keptEdges", "LToolUnion$Text;", false)
  | 56 => ("ToolUnion", "keptHull", "[LToolUnion$Work;", false)
  | _ => ("ToolUnion", "keptRota", "[LToolUnion$Turn;", false)
def tyX0 : Nat → FieldType := fun k => match k with
  | 0 => .array .byte
  | 1 => .int
  | 2 => .array (.array (.object "java/lang/String"))
  | 3 => .array (.object "java/lang/String")
  | 4 => .array (.object "java/lang/String")
  | 5 => .array (.object "java/lang/String")
  | 6 => .array (.object "java/lang/String")
  | 7 => .array (.object "java/lang/String")
  | 8 => .array (.object "java/lang/String")
  | 9 => .object "ToolUnion$Token"
  | 10 => .int
  | 11 => .int
  | 12 => .int
  | 13 => .int
  | 14 => .int
  | 15 => .int
  | 16 => .object "ToolUnion$Text"
  | 17 => .object "ToolUnion$Text"
  | 18 => .array (.object "ToolUnion$Work")
  | 19 => .array (.object "ToolUnion$Turn")
  | 20 => .array .int
  | 21 => .array .int
  | 22 => .array .int
  | 23 => .array .int
  | 24 => .array .int
  | 25 => .array .int
  | 26 => .array .int
  | 27 => .int
  | 28 => .int
  | 29 => .int
  | 30 => .int
  | 31 => .array .int
  | 32 => .object "ToolUnion$Yard"
  | 33 => .object "ToolUnion$Yard"
  | 34 => .object "ToolUnion$Yard"
  | 35 => .array .int
  | 36 => .array (.object "ToolUnion$Yard")
  | 37 => .int
  | 38 => .int
  | 39 => .int
  | 40 => .int
  | 41 => .array .boolean
  | 42 => .array .boolean
  | 43 => .array .byte
  | 44 => .array .int
  | 45 => .array .int
  | 46 => .array .int
  | 47 => .array .int
  | 48 => .array .int
  | 49 => .array .int
  | 50 => .int
  | 51 => .array (.array .int)
  | 52 => .array (.array .int)
  | 53 => .array .int
  | 54 => .object "ToolUnion$Text"
  | 55 => .object "ToolUnion$Text"
  | 56 => .array (.object "ToolUnion$Work")
  | _ => .array (.object "ToolUnion$Turn")
abbrev wsX00 : List Cond := u_ws RX0 TX0 58
set_option maxRecDepth 100000 in
theorem nmX0 : ∀ a, a < 58 → ∀ b, b < 58 → a ≠ b → (TX0 a).2.1 ≠ (TX0 b).2.1 := by decide +kernel
set_option maxRecDepth 100000 in
theorem tyX0_ok : ∀ k, k < 58 → parseFieldDescriptor (TX0 k).2.2.1 = some (tyX0 k) := by decide +kernel
abbrev cX0_init : ByteArray := prog_1_method_5_code
def yX0_init : MethodName := ⟨RX0, "<init>", "()V"⟩
def dkwX0_init_25 : List UInt8 := [184, 0, 224, 177]
abbrev dktX0_init_25 : List UInt8 := dkwX0_init_25 ++ []
def dkwX0_init_24 : List UInt8 := [189, 0, 210, 181, 0, 215, 42, 8, 188, 10, 181, 0, 218, 42, 180, 0, 164, 180, 0, 221, 16, 15]
abbrev dktX0_init_24 : List UInt8 := dkwX0_init_24 ++ dktX0_init_25
def dkwX0_init_23 : List UInt8 := [42, 180, 0, 201, 83, 89, 16, 9, 42, 180, 0, 204, 83, 181, 0, 211, 42, 42, 180, 0, 211, 190]
abbrev dktX0_init_23 : List UInt8 := dkwX0_init_23 ++ dktX0_init_24
def dkwX0_init_22 : List UInt8 := [42, 180, 0, 148, 83, 89, 16, 6, 42, 180, 0, 150, 83, 89, 16, 7, 42, 180, 0, 174, 83, 89, 16, 8]
abbrev dktX0_init_22 : List UInt8 := dkwX0_init_22 ++ dktX0_init_23
def dkwX0_init_21 : List UInt8 := [83, 89, 5, 42, 180, 0, 139, 83, 89, 6, 42, 180, 0, 142, 83, 89, 7, 42, 180, 0, 145, 83, 89, 8]
abbrev dktX0_init_21 : List UInt8 := dkwX0_init_21 ++ dktX0_init_22
def dkwX0_init_20 : List UInt8 := [188, 10, 181, 0, 207, 42, 16, 10, 189, 0, 210, 89, 3, 42, 180, 0, 132, 83, 89, 4, 42, 180, 0, 136]
abbrev dktX0_init_20 : List UInt8 := dkwX0_init_20 ++ dktX0_init_21
def dkwX0_init_19 : List UInt8 := [181, 0, 198, 42, 16, 12, 188, 10, 181, 0, 201, 42, 16, 12, 188, 10, 181, 0, 204, 42, 17, 1, 0]
abbrev dktX0_init_19 : List UInt8 := dkwX0_init_19 ++ dktX0_init_20
def dkwX0_init_18 : List UInt8 := [181, 0, 189, 42, 7, 188, 10, 181, 0, 192, 42, 16, 8, 188, 10, 181, 0, 195, 42, 7, 188, 10]
abbrev dktX0_init_18 : List UInt8 := dkwX0_init_18 ++ dktX0_init_19
def dkwX0_init_17 : List UInt8 := [42, 16, 32, 188, 4, 181, 0, 181, 42, 17, 1, 0, 188, 4, 181, 0, 185, 42, 18, 188, 188, 8]
abbrev dktX0_init_17 : List UInt8 := dkwX0_init_17 ++ dktX0_init_18
def dkwX0_init_16 : List UInt8 := [183, 0, 161, 181, 0, 171, 42, 17, 3, 32, 188, 10, 181, 0, 174, 42, 16, 6, 189, 0, 159, 181, 0, 177]
abbrev dktX0_init_16 : List UInt8 := dkwX0_init_16 ++ dktX0_init_17
def dkwX0_init_15 : List UInt8 := [183, 0, 161, 181, 0, 164, 42, 187, 0, 159, 89, 42, 183, 0, 161, 181, 0, 168, 42, 187, 0, 159, 89, 42]
abbrev dktX0_init_15 : List UInt8 := dkwX0_init_15 ++ dktX0_init_16
def dkwX0_init_14 : List UInt8 := [181, 0, 150, 42, 4, 181, 0, 153, 42, 16, 10, 188, 10, 181, 0, 156, 42, 187, 0, 159, 89, 42]
abbrev dktX0_init_14 : List UInt8 := dkwX0_init_14 ++ dktX0_init_15
def dkwX0_init_13 : List UInt8 := [181, 0, 142, 42, 16, 8, 188, 10, 181, 0, 145, 42, 7, 188, 10, 181, 0, 148, 42, 7, 188, 10]
abbrev dktX0_init_13 : List UInt8 := dkwX0_init_13 ++ dktX0_init_14
def dkwX0_init_12 : List UInt8 := [181, 0, 132, 42, 16, 8, 188, 10, 181, 0, 136, 42, 16, 8, 188, 10, 181, 0, 139, 42, 16, 8, 188, 10]
abbrev dktX0_init_12 : List UInt8 := dkwX0_init_12 ++ dktX0_init_13
def dkwX0_init_11 : List UInt8 := [181, 0, 117, 42, 3, 189, 0, 120, 181, 0, 122, 42, 3, 189, 0, 126, 181, 0, 128, 42, 16, 8, 188, 10]
abbrev dktX0_init_11 : List UInt8 := dkwX0_init_11 ++ dktX0_init_12
def dkwX0_init_10 : List UInt8 := [181, 0, 106, 42, 187, 0, 110, 89, 183, 0, 112, 181, 0, 113, 42, 187, 0, 110, 89, 183, 0, 112]
abbrev dktX0_init_10 : List UInt8 := dkwX0_init_10 ++ dktX0_init_11
def dkwX0_init_9 : List UInt8 := [180, 0, 94, 181, 0, 97, 42, 42, 180, 0, 94, 181, 0, 100, 42, 42, 180, 0, 94, 181, 0, 103, 42, 2]
abbrev dktX0_init_9 : List UInt8 := dkwX0_init_9 ++ dktX0_init_10
def dkwX0_init_8 : List UInt8 := [89, 5, 18, 87, 83, 89, 6, 18, 89, 83, 181, 0, 91, 42, 3, 189, 0, 30, 181, 0, 94, 42, 42]
abbrev dktX0_init_8 : List UInt8 := dkwX0_init_8 ++ dktX0_init_9
def dkwX0_init_7 : List UInt8 := [89, 16, 9, 18, 78, 83, 181, 0, 80, 42, 7, 189, 0, 30, 89, 3, 18, 83, 83, 89, 4, 18, 85, 83]
abbrev dktX0_init_7 : List UInt8 := dkwX0_init_7 ++ dktX0_init_8
def dkwX0_init_6 : List UInt8 := [83, 89, 8, 18, 70, 83, 89, 16, 6, 18, 72, 83, 89, 16, 7, 18, 74, 83, 89, 16, 8, 18, 76, 83]
abbrev dktX0_init_6 : List UInt8 := dkwX0_init_6 ++ dktX0_init_7
def dkwX0_init_5 : List UInt8 := [89, 3, 18, 60, 83, 89, 4, 18, 62, 83, 89, 5, 18, 64, 83, 89, 6, 18, 66, 83, 89, 7, 18, 68]
abbrev dktX0_init_5 : List UInt8 := dkwX0_init_5 ++ dktX0_init_6
def dkwX0_init_4 : List UInt8 := [5, 18, 42, 83, 89, 6, 18, 52, 83, 89, 7, 18, 54, 83, 83, 181, 0, 56, 42, 16, 10, 189, 0, 30]
abbrev dktX0_init_4 : List UInt8 := dkwX0_init_4 ++ dktX0_init_5
def dkwX0_init_3 : List UInt8 := [83, 89, 5, 18, 46, 83, 83, 89, 6, 8, 189, 0, 30, 89, 3, 18, 48, 83, 89, 4, 18, 50, 83, 89]
abbrev dktX0_init_3 : List UInt8 := dkwX0_init_3 ++ dktX0_init_4
def dkwX0_init_2 : List UInt8 := [18, 38, 83, 89, 5, 18, 40, 83, 83, 89, 5, 6, 189, 0, 30, 89, 3, 18, 42, 83, 89, 4, 18, 44]
abbrev dktX0_init_2 : List UInt8 := dkwX0_init_2 ++ dktX0_init_3
def dkwX0_init_1 : List UInt8 := [89, 3, 18, 32, 83, 89, 4, 18, 34, 83, 83, 89, 4, 6, 189, 0, 30, 89, 3, 18, 36, 83, 89, 4]
abbrev dktX0_init_1 : List UInt8 := dkwX0_init_1 ++ dktX0_init_2
def dkwX0_init_0 : List UInt8 := [42, 183, 0, 16, 42, 17, 1, 144, 188, 8, 181, 0, 24, 42, 7, 189, 0, 28, 89, 3, 5, 189, 0, 30]
abbrev dktX0_init_0 : List UInt8 := dkwX0_init_0 ++ dktX0_init_1
theorem dksX0_init_0 : cX0_init.data.toList.drop 0 = dktX0_init_0 := by decide +kernel
theorem dksX0_init_1 : cX0_init.data.toList.drop 24 = dktX0_init_1 := dk_seg dksX0_init_0 24 rfl rfl
theorem dksX0_init_2 : cX0_init.data.toList.drop 48 = dktX0_init_2 := dk_seg dksX0_init_1 24 rfl rfl
theorem dksX0_init_3 : cX0_init.data.toList.drop 72 = dktX0_init_3 := dk_seg dksX0_init_2 24 rfl rfl
theorem dksX0_init_4 : cX0_init.data.toList.drop 96 = dktX0_init_4 := dk_seg dksX0_init_3 24 rfl rfl
theorem dksX0_init_5 : cX0_init.data.toList.drop 120 = dktX0_init_5 := dk_seg dksX0_init_4 24 rfl rfl
theorem dksX0_init_6 : cX0_init.data.toList.drop 144 = dktX0_init_6 := dk_seg dksX0_init_5 24 rfl rfl
theorem dksX0_init_7 : cX0_init.data.toList.drop 168 = dktX0_init_7 := dk_seg dksX0_init_6 24 rfl rfl
theorem dksX0_init_8 : cX0_init.data.toList.drop 192 = dktX0_init_8 := dk_seg dksX0_init_7 24 rfl rfl
theorem dksX0_init_9 : cX0_init.data.toList.drop 215 = dktX0_init_9 := dk_seg dksX0_init_8 23 rfl rfl
theorem dksX0_init_10 : cX0_init.data.toList.drop 239 = dktX0_init_10 := dk_seg dksX0_init_9 24 rfl rfl
theorem dksX0_init_11 : cX0_init.data.toList.drop 261 = dktX0_init_11 := dk_seg dksX0_init_10 22 rfl rfl
theorem dksX0_init_12 : cX0_init.data.toList.drop 285 = dktX0_init_12 := dk_seg dksX0_init_11 24 rfl rfl
theorem dksX0_init_13 : cX0_init.data.toList.drop 309 = dktX0_init_13 := dk_seg dksX0_init_12 24 rfl rfl
theorem dksX0_init_14 : cX0_init.data.toList.drop 331 = dktX0_init_14 := dk_seg dksX0_init_13 22 rfl rfl
theorem dksX0_init_15 : cX0_init.data.toList.drop 353 = dktX0_init_15 := dk_seg dksX0_init_14 22 rfl rfl
theorem dksX0_init_16 : cX0_init.data.toList.drop 377 = dktX0_init_16 := dk_seg dksX0_init_15 24 rfl rfl
theorem dksX0_init_17 : cX0_init.data.toList.drop 401 = dktX0_init_17 := dk_seg dksX0_init_16 24 rfl rfl
theorem dksX0_init_18 : cX0_init.data.toList.drop 423 = dktX0_init_18 := dk_seg dksX0_init_17 22 rfl rfl
theorem dksX0_init_19 : cX0_init.data.toList.drop 445 = dktX0_init_19 := dk_seg dksX0_init_18 22 rfl rfl
theorem dksX0_init_20 : cX0_init.data.toList.drop 468 = dktX0_init_20 := dk_seg dksX0_init_19 23 rfl rfl
theorem dksX0_init_21 : cX0_init.data.toList.drop 492 = dktX0_init_21 := dk_seg dksX0_init_20 24 rfl rfl
theorem dksX0_init_22 : cX0_init.data.toList.drop 516 = dktX0_init_22 := dk_seg dksX0_init_21 24 rfl rfl
theorem dksX0_init_23 : cX0_init.data.toList.drop 540 = dktX0_init_23 := dk_seg dksX0_init_22 24 rfl rfl
theorem dksX0_init_24 : cX0_init.data.toList.drop 562 = dktX0_init_24 := dk_seg dksX0_init_23 22 rfl rfl
theorem dksX0_init_25 : cX0_init.data.toList.drop 584 = dktX0_init_25 := dk_seg dksX0_init_24 22 rfl rfl
theorem dX0_init_0 : decode cX0_init 0 = .ok (.aload_n 0, 1) := dk_42 (dk_at dksX0_init_0 0 rfl rfl)
theorem dX0_init_1 : decode cX0_init 1 = .ok (.invokespecial 16, 3) := dk_183 0 16 (dk_at dksX0_init_0 1 rfl rfl)
theorem dX0_init_4 : decode cX0_init 4 = .ok (.aload_n 0, 1) := dk_42 (dk_at dksX0_init_0 4 rfl rfl)
theorem dX0_init_5 : decode cX0_init 5 = .ok (.sipush 400, 3) := dk_17 1 144 (dk_at dksX0_init_0 5 rfl rfl)
theorem dX0_init_8 : decode cX0_init 8 = .ok (.newarray .byte, 2) := dk_188_8 (dk_at dksX0_init_0 8 rfl rfl)
theorem dX0_init_10 : decode cX0_init 10 = .ok (.putfield 24, 3) := dk_181 0 24 (dk_at dksX0_init_0 10 rfl rfl)
theorem dX0_init_13 : decode cX0_init 13 = .ok (.aload_n 0, 1) := dk_42 (dk_at dksX0_init_0 13 rfl rfl)
theorem dX0_init_14 : decode cX0_init 14 = .ok (.iconst 4, 1) := dk_7 (dk_at dksX0_init_0 14 rfl rfl)
theorem dX0_init_15 : decode cX0_init 15 = .ok (.anewarray 28, 3) := dk_189 0 28 (dk_at dksX0_init_0 15 rfl rfl)
theorem dX0_init_18 : decode cX0_init 18 = .ok (.dup, 1) := dk_89 (dk_at dksX0_init_0 18 rfl rfl)
theorem dX0_init_19 : decode cX0_init 19 = .ok (.iconst 0, 1) := dk_3 (dk_at dksX0_init_0 19 rfl rfl)
theorem dX0_init_20 : decode cX0_init 20 = .ok (.iconst 2, 1) := dk_5 (dk_at dksX0_init_0 20 rfl rfl)
theorem dX0_init_21 : decode cX0_init 21 = .ok (.anewarray 30, 3) := dk_189 0 30 (dk_at dksX0_init_0 21 rfl rfl)
theorem dX0_init_24 : decode cX0_init 24 = .ok (.dup, 1) := dk_89 (dk_at dksX0_init_1 0 rfl rfl)
theorem dX0_init_25 : decode cX0_init 25 = .ok (.iconst 0, 1) := dk_3 (dk_at dksX0_init_1 1 rfl rfl)
theorem dX0_init_26 : decode cX0_init 26 = .ok (.ldc 32, 2) := dk_18 32 (dk_at dksX0_init_1 2 rfl rfl)
theorem dX0_init_28 : decode cX0_init 28 = .ok (.aastore, 1) := dk_83 (dk_at dksX0_init_1 4 rfl rfl)
theorem dX0_init_29 : decode cX0_init 29 = .ok (.dup, 1) := dk_89 (dk_at dksX0_init_1 5 rfl rfl)
theorem dX0_init_30 : decode cX0_init 30 = .ok (.iconst 1, 1) := dk_4 (dk_at dksX0_init_1 6 rfl rfl)
theorem dX0_init_31 : decode cX0_init 31 = .ok (.ldc 34, 2) := dk_18 34 (dk_at dksX0_init_1 7 rfl rfl)
theorem dX0_init_33 : decode cX0_init 33 = .ok (.aastore, 1) := dk_83 (dk_at dksX0_init_1 9 rfl rfl)
theorem dX0_init_34 : decode cX0_init 34 = .ok (.aastore, 1) := dk_83 (dk_at dksX0_init_1 10 rfl rfl)
theorem dX0_init_35 : decode cX0_init 35 = .ok (.dup, 1) := dk_89 (dk_at dksX0_init_1 11 rfl rfl)
theorem dX0_init_36 : decode cX0_init 36 = .ok (.iconst 1, 1) := dk_4 (dk_at dksX0_init_1 12 rfl rfl)
theorem dX0_init_37 : decode cX0_init 37 = .ok (.iconst 3, 1) := dk_6 (dk_at dksX0_init_1 13 rfl rfl)
theorem dX0_init_38 : decode cX0_init 38 = .ok (.anewarray 30, 3) := dk_189 0 30 (dk_at dksX0_init_1 14 rfl rfl)
theorem dX0_init_41 : decode cX0_init 41 = .ok (.dup, 1) := dk_89 (dk_at dksX0_init_1 17 rfl rfl)
theorem dX0_init_42 : decode cX0_init 42 = .ok (.iconst 0, 1) := dk_3 (dk_at dksX0_init_1 18 rfl rfl)
theorem dX0_init_43 : decode cX0_init 43 = .ok (.ldc 36, 2) := dk_18 36 (dk_at dksX0_init_1 19 rfl rfl)
theorem dX0_init_45 : decode cX0_init 45 = .ok (.aastore, 1) := dk_83 (dk_at dksX0_init_1 21 rfl rfl)
theorem dX0_init_46 : decode cX0_init 46 = .ok (.dup, 1) := dk_89 (dk_at dksX0_init_1 22 rfl rfl)
theorem dX0_init_47 : decode cX0_init 47 = .ok (.iconst 1, 1) := dk_4 (dk_at dksX0_init_1 23 rfl rfl)
theorem dX0_init_48 : decode cX0_init 48 = .ok (.ldc 38, 2) := dk_18 38 (dk_at dksX0_init_2 0 rfl rfl)
theorem dX0_init_50 : decode cX0_init 50 = .ok (.aastore, 1) := dk_83 (dk_at dksX0_init_2 2 rfl rfl)
theorem dX0_init_51 : decode cX0_init 51 = .ok (.dup, 1) := dk_89 (dk_at dksX0_init_2 3 rfl rfl)
theorem dX0_init_52 : decode cX0_init 52 = .ok (.iconst 2, 1) := dk_5 (dk_at dksX0_init_2 4 rfl rfl)
theorem dX0_init_53 : decode cX0_init 53 = .ok (.ldc 40, 2) := dk_18 40 (dk_at dksX0_init_2 5 rfl rfl)
theorem dX0_init_55 : decode cX0_init 55 = .ok (.aastore, 1) := dk_83 (dk_at dksX0_init_2 7 rfl rfl)
theorem dX0_init_56 : decode cX0_init 56 = .ok (.aastore, 1) := dk_83 (dk_at dksX0_init_2 8 rfl rfl)
theorem dX0_init_57 : decode cX0_init 57 = .ok (.dup, 1) := dk_89 (dk_at dksX0_init_2 9 rfl rfl)
theorem dX0_init_58 : decode cX0_init 58 = .ok (.iconst 2, 1) := dk_5 (dk_at dksX0_init_2 10 rfl rfl)
theorem dX0_init_59 : decode cX0_init 59 = .ok (.iconst 3, 1) := dk_6 (dk_at dksX0_init_2 11 rfl rfl)
theorem dX0_init_60 : decode cX0_init 60 = .ok (.anewarray 30, 3) := dk_189 0 30 (dk_at dksX0_init_2 12 rfl rfl)
theorem dX0_init_63 : decode cX0_init 63 = .ok (.dup, 1) := dk_89 (dk_at dksX0_init_2 15 rfl rfl)
theorem dX0_init_64 : decode cX0_init 64 = .ok (.iconst 0, 1) := dk_3 (dk_at dksX0_init_2 16 rfl rfl)
theorem dX0_init_65 : decode cX0_init 65 = .ok (.ldc 42, 2) := dk_18 42 (dk_at dksX0_init_2 17 rfl rfl)
theorem dX0_init_67 : decode cX0_init 67 = .ok (.aastore, 1) := dk_83 (dk_at dksX0_init_2 19 rfl rfl)
theorem dX0_init_68 : decode cX0_init 68 = .ok (.dup, 1) := dk_89 (dk_at dksX0_init_2 20 rfl rfl)
theorem dX0_init_69 : decode cX0_init 69 = .ok (.iconst 1, 1) := dk_4 (dk_at dksX0_init_2 21 rfl rfl)
theorem dX0_init_70 : decode cX0_init 70 = .ok (.ldc 44, 2) := dk_18 44 (dk_at dksX0_init_2 22 rfl rfl)
theorem dX0_init_72 : decode cX0_init 72 = .ok (.aastore, 1) := dk_83 (dk_at dksX0_init_3 0 rfl rfl)
theorem dX0_init_73 : decode cX0_init 73 = .ok (.dup, 1) := dk_89 (dk_at dksX0_init_3 1 rfl rfl)
theorem dX0_init_74 : decode cX0_init 74 = .ok (.iconst 2, 1) := dk_5 (dk_at dksX0_init_3 2 rfl rfl)
theorem dX0_init_75 : decode cX0_init 75 = .ok (.ldc 46, 2) := dk_18 46 (dk_at dksX0_init_3 3 rfl rfl)
theorem dX0_init_77 : decode cX0_init 77 = .ok (.aastore, 1) := dk_83 (dk_at dksX0_init_3 5 rfl rfl)
theorem dX0_init_78 : decode cX0_init 78 = .ok (.aastore, 1) := dk_83 (dk_at dksX0_init_3 6 rfl rfl)
theorem dX0_init_79 : decode cX0_init 79 = .ok (.dup, 1) := dk_89 (dk_at dksX0_init_3 7 rfl rfl)
theorem dX0_init_80 : decode cX0_init 80 = .ok (.iconst 3, 1) := dk_6 (dk_at dksX0_init_3 8 rfl rfl)
theorem dX0_init_81 : decode cX0_init 81 = .ok (.iconst 5, 1) := dk_8 (dk_at dksX0_init_3 9 rfl rfl)
theorem dX0_init_82 : decode cX0_init 82 = .ok (.anewarray 30, 3) := dk_189 0 30 (dk_at dksX0_init_3 10 rfl rfl)
theorem dX0_init_85 : decode cX0_init 85 = .ok (.dup, 1) := dk_89 (dk_at dksX0_init_3 13 rfl rfl)
theorem dX0_init_86 : decode cX0_init 86 = .ok (.iconst 0, 1) := dk_3 (dk_at dksX0_init_3 14 rfl rfl)
theorem dX0_init_87 : decode cX0_init 87 = .ok (.ldc 48, 2) := dk_18 48 (dk_at dksX0_init_3 15 rfl rfl)
theorem dX0_init_89 : decode cX0_init 89 = .ok (.aastore, 1) := dk_83 (dk_at dksX0_init_3 17 rfl rfl)
theorem dX0_init_90 : decode cX0_init 90 = .ok (.dup, 1) := dk_89 (dk_at dksX0_init_3 18 rfl rfl)
theorem dX0_init_91 : decode cX0_init 91 = .ok (.iconst 1, 1) := dk_4 (dk_at dksX0_init_3 19 rfl rfl)
theorem dX0_init_92 : decode cX0_init 92 = .ok (.ldc 50, 2) := dk_18 50 (dk_at dksX0_init_3 20 rfl rfl)
theorem dX0_init_94 : decode cX0_init 94 = .ok (.aastore, 1) := dk_83 (dk_at dksX0_init_3 22 rfl rfl)
theorem dX0_init_95 : decode cX0_init 95 = .ok (.dup, 1) := dk_89 (dk_at dksX0_init_3 23 rfl rfl)
theorem dX0_init_96 : decode cX0_init 96 = .ok (.iconst 2, 1) := dk_5 (dk_at dksX0_init_4 0 rfl rfl)
theorem dX0_init_97 : decode cX0_init 97 = .ok (.ldc 42, 2) := dk_18 42 (dk_at dksX0_init_4 1 rfl rfl)
theorem dX0_init_99 : decode cX0_init 99 = .ok (.aastore, 1) := dk_83 (dk_at dksX0_init_4 3 rfl rfl)
theorem dX0_init_100 : decode cX0_init 100 = .ok (.dup, 1) := dk_89 (dk_at dksX0_init_4 4 rfl rfl)
theorem dX0_init_101 : decode cX0_init 101 = .ok (.iconst 3, 1) := dk_6 (dk_at dksX0_init_4 5 rfl rfl)
theorem dX0_init_102 : decode cX0_init 102 = .ok (.ldc 52, 2) := dk_18 52 (dk_at dksX0_init_4 6 rfl rfl)
theorem dX0_init_104 : decode cX0_init 104 = .ok (.aastore, 1) := dk_83 (dk_at dksX0_init_4 8 rfl rfl)
theorem dX0_init_105 : decode cX0_init 105 = .ok (.dup, 1) := dk_89 (dk_at dksX0_init_4 9 rfl rfl)
theorem dX0_init_106 : decode cX0_init 106 = .ok (.iconst 4, 1) := dk_7 (dk_at dksX0_init_4 10 rfl rfl)
theorem dX0_init_107 : decode cX0_init 107 = .ok (.ldc 54, 2) := dk_18 54 (dk_at dksX0_init_4 11 rfl rfl)
theorem dX0_init_109 : decode cX0_init 109 = .ok (.aastore, 1) := dk_83 (dk_at dksX0_init_4 13 rfl rfl)
theorem dX0_init_110 : decode cX0_init 110 = .ok (.aastore, 1) := dk_83 (dk_at dksX0_init_4 14 rfl rfl)
theorem dX0_init_111 : decode cX0_init 111 = .ok (.putfield 56, 3) := dk_181 0 56 (dk_at dksX0_init_4 15 rfl rfl)
theorem dX0_init_114 : decode cX0_init 114 = .ok (.aload_n 0, 1) := dk_42 (dk_at dksX0_init_4 18 rfl rfl)
theorem dX0_init_115 : decode cX0_init 115 = .ok (.bipush 10, 2) := dk_16 10 (dk_at dksX0_init_4 19 rfl rfl)
theorem dX0_init_117 : decode cX0_init 117 = .ok (.anewarray 30, 3) := dk_189 0 30 (dk_at dksX0_init_4 21 rfl rfl)
theorem dX0_init_120 : decode cX0_init 120 = .ok (.dup, 1) := dk_89 (dk_at dksX0_init_5 0 rfl rfl)
theorem dX0_init_121 : decode cX0_init 121 = .ok (.iconst 0, 1) := dk_3 (dk_at dksX0_init_5 1 rfl rfl)
theorem dX0_init_122 : decode cX0_init 122 = .ok (.ldc 60, 2) := dk_18 60 (dk_at dksX0_init_5 2 rfl rfl)
theorem dX0_init_124 : decode cX0_init 124 = .ok (.aastore, 1) := dk_83 (dk_at dksX0_init_5 4 rfl rfl)
theorem dX0_init_125 : decode cX0_init 125 = .ok (.dup, 1) := dk_89 (dk_at dksX0_init_5 5 rfl rfl)
theorem dX0_init_126 : decode cX0_init 126 = .ok (.iconst 1, 1) := dk_4 (dk_at dksX0_init_5 6 rfl rfl)
theorem dX0_init_127 : decode cX0_init 127 = .ok (.ldc 62, 2) := dk_18 62 (dk_at dksX0_init_5 7 rfl rfl)
theorem dX0_init_129 : decode cX0_init 129 = .ok (.aastore, 1) := dk_83 (dk_at dksX0_init_5 9 rfl rfl)
theorem dX0_init_130 : decode cX0_init 130 = .ok (.dup, 1) := dk_89 (dk_at dksX0_init_5 10 rfl rfl)
theorem dX0_init_131 : decode cX0_init 131 = .ok (.iconst 2, 1) := dk_5 (dk_at dksX0_init_5 11 rfl rfl)
theorem dX0_init_132 : decode cX0_init 132 = .ok (.ldc 64, 2) := dk_18 64 (dk_at dksX0_init_5 12 rfl rfl)
theorem dX0_init_134 : decode cX0_init 134 = .ok (.aastore, 1) := dk_83 (dk_at dksX0_init_5 14 rfl rfl)
theorem dX0_init_135 : decode cX0_init 135 = .ok (.dup, 1) := dk_89 (dk_at dksX0_init_5 15 rfl rfl)
theorem dX0_init_136 : decode cX0_init 136 = .ok (.iconst 3, 1) := dk_6 (dk_at dksX0_init_5 16 rfl rfl)
theorem dX0_init_137 : decode cX0_init 137 = .ok (.ldc 66, 2) := dk_18 66 (dk_at dksX0_init_5 17 rfl rfl)
theorem dX0_init_139 : decode cX0_init 139 = .ok (.aastore, 1) := dk_83 (dk_at dksX0_init_5 19 rfl rfl)
theorem dX0_init_140 : decode cX0_init 140 = .ok (.dup, 1) := dk_89 (dk_at dksX0_init_5 20 rfl rfl)
theorem dX0_init_141 : decode cX0_init 141 = .ok (.iconst 4, 1) := dk_7 (dk_at dksX0_init_5 21 rfl rfl)
theorem dX0_init_142 : decode cX0_init 142 = .ok (.ldc 68, 2) := dk_18 68 (dk_at dksX0_init_5 22 rfl rfl)
theorem dX0_init_144 : decode cX0_init 144 = .ok (.aastore, 1) := dk_83 (dk_at dksX0_init_6 0 rfl rfl)
theorem dX0_init_145 : decode cX0_init 145 = .ok (.dup, 1) := dk_89 (dk_at dksX0_init_6 1 rfl rfl)
theorem dX0_init_146 : decode cX0_init 146 = .ok (.iconst 5, 1) := dk_8 (dk_at dksX0_init_6 2 rfl rfl)
theorem dX0_init_147 : decode cX0_init 147 = .ok (.ldc 70, 2) := dk_18 70 (dk_at dksX0_init_6 3 rfl rfl)
theorem dX0_init_149 : decode cX0_init 149 = .ok (.aastore, 1) := dk_83 (dk_at dksX0_init_6 5 rfl rfl)
theorem dX0_init_150 : decode cX0_init 150 = .ok (.dup, 1) := dk_89 (dk_at dksX0_init_6 6 rfl rfl)
theorem dX0_init_151 : decode cX0_init 151 = .ok (.bipush 6, 2) := dk_16 6 (dk_at dksX0_init_6 7 rfl rfl)
theorem dX0_init_153 : decode cX0_init 153 = .ok (.ldc 72, 2) := dk_18 72 (dk_at dksX0_init_6 9 rfl rfl)
theorem dX0_init_155 : decode cX0_init 155 = .ok (.aastore, 1) := dk_83 (dk_at dksX0_init_6 11 rfl rfl)
theorem dX0_init_156 : decode cX0_init 156 = .ok (.dup, 1) := dk_89 (dk_at dksX0_init_6 12 rfl rfl)
theorem dX0_init_157 : decode cX0_init 157 = .ok (.bipush 7, 2) := dk_16 7 (dk_at dksX0_init_6 13 rfl rfl)
theorem dX0_init_159 : decode cX0_init 159 = .ok (.ldc 74, 2) := dk_18 74 (dk_at dksX0_init_6 15 rfl rfl)
theorem dX0_init_161 : decode cX0_init 161 = .ok (.aastore, 1) := dk_83 (dk_at dksX0_init_6 17 rfl rfl)
theorem dX0_init_162 : decode cX0_init 162 = .ok (.dup, 1) := dk_89 (dk_at dksX0_init_6 18 rfl rfl)
theorem dX0_init_163 : decode cX0_init 163 = .ok (.bipush 8, 2) := dk_16 8 (dk_at dksX0_init_6 19 rfl rfl)
theorem dX0_init_165 : decode cX0_init 165 = .ok (.ldc 76, 2) := dk_18 76 (dk_at dksX0_init_6 21 rfl rfl)
theorem dX0_init_167 : decode cX0_init 167 = .ok (.aastore, 1) := dk_83 (dk_at dksX0_init_6 23 rfl rfl)
theorem dX0_init_168 : decode cX0_init 168 = .ok (.dup, 1) := dk_89 (dk_at dksX0_init_7 0 rfl rfl)
theorem dX0_init_169 : decode cX0_init 169 = .ok (.bipush 9, 2) := dk_16 9 (dk_at dksX0_init_7 1 rfl rfl)
theorem dX0_init_171 : decode cX0_init 171 = .ok (.ldc 78, 2) := dk_18 78 (dk_at dksX0_init_7 3 rfl rfl)
theorem dX0_init_173 : decode cX0_init 173 = .ok (.aastore, 1) := dk_83 (dk_at dksX0_init_7 5 rfl rfl)
theorem dX0_init_174 : decode cX0_init 174 = .ok (.putfield 80, 3) := dk_181 0 80 (dk_at dksX0_init_7 6 rfl rfl)
theorem dX0_init_177 : decode cX0_init 177 = .ok (.aload_n 0, 1) := dk_42 (dk_at dksX0_init_7 9 rfl rfl)
theorem dX0_init_178 : decode cX0_init 178 = .ok (.iconst 4, 1) := dk_7 (dk_at dksX0_init_7 10 rfl rfl)
theorem dX0_init_179 : decode cX0_init 179 = .ok (.anewarray 30, 3) := dk_189 0 30 (dk_at dksX0_init_7 11 rfl rfl)
theorem dX0_init_182 : decode cX0_init 182 = .ok (.dup, 1) := dk_89 (dk_at dksX0_init_7 14 rfl rfl)
theorem dX0_init_183 : decode cX0_init 183 = .ok (.iconst 0, 1) := dk_3 (dk_at dksX0_init_7 15 rfl rfl)
theorem dX0_init_184 : decode cX0_init 184 = .ok (.ldc 83, 2) := dk_18 83 (dk_at dksX0_init_7 16 rfl rfl)
theorem dX0_init_186 : decode cX0_init 186 = .ok (.aastore, 1) := dk_83 (dk_at dksX0_init_7 18 rfl rfl)
theorem dX0_init_187 : decode cX0_init 187 = .ok (.dup, 1) := dk_89 (dk_at dksX0_init_7 19 rfl rfl)
theorem dX0_init_188 : decode cX0_init 188 = .ok (.iconst 1, 1) := dk_4 (dk_at dksX0_init_7 20 rfl rfl)
theorem dX0_init_189 : decode cX0_init 189 = .ok (.ldc 85, 2) := dk_18 85 (dk_at dksX0_init_7 21 rfl rfl)
theorem dX0_init_191 : decode cX0_init 191 = .ok (.aastore, 1) := dk_83 (dk_at dksX0_init_7 23 rfl rfl)
theorem dX0_init_192 : decode cX0_init 192 = .ok (.dup, 1) := dk_89 (dk_at dksX0_init_8 0 rfl rfl)
theorem dX0_init_193 : decode cX0_init 193 = .ok (.iconst 2, 1) := dk_5 (dk_at dksX0_init_8 1 rfl rfl)
theorem dX0_init_194 : decode cX0_init 194 = .ok (.ldc 87, 2) := dk_18 87 (dk_at dksX0_init_8 2 rfl rfl)
theorem dX0_init_196 : decode cX0_init 196 = .ok (.aastore, 1) := dk_83 (dk_at dksX0_init_8 4 rfl rfl)
theorem dX0_init_197 : decode cX0_init 197 = .ok (.dup, 1) := dk_89 (dk_at dksX0_init_8 5 rfl rfl)
theorem dX0_init_198 : decode cX0_init 198 = .ok (.iconst 3, 1) := dk_6 (dk_at dksX0_init_8 6 rfl rfl)
theorem dX0_init_199 : decode cX0_init 199 = .ok (.ldc 89, 2) := dk_18 89 (dk_at dksX0_init_8 7 rfl rfl)
theorem dX0_init_201 : decode cX0_init 201 = .ok (.aastore, 1) := dk_83 (dk_at dksX0_init_8 9 rfl rfl)
theorem dX0_init_202 : decode cX0_init 202 = .ok (.putfield 91, 3) := dk_181 0 91 (dk_at dksX0_init_8 10 rfl rfl)
theorem dX0_init_205 : decode cX0_init 205 = .ok (.aload_n 0, 1) := dk_42 (dk_at dksX0_init_8 13 rfl rfl)
theorem dX0_init_206 : decode cX0_init 206 = .ok (.iconst 0, 1) := dk_3 (dk_at dksX0_init_8 14 rfl rfl)
theorem dX0_init_207 : decode cX0_init 207 = .ok (.anewarray 30, 3) := dk_189 0 30 (dk_at dksX0_init_8 15 rfl rfl)
theorem dX0_init_210 : decode cX0_init 210 = .ok (.putfield 94, 3) := dk_181 0 94 (dk_at dksX0_init_8 18 rfl rfl)
theorem dX0_init_213 : decode cX0_init 213 = .ok (.aload_n 0, 1) := dk_42 (dk_at dksX0_init_8 21 rfl rfl)
theorem dX0_init_214 : decode cX0_init 214 = .ok (.aload_n 0, 1) := dk_42 (dk_at dksX0_init_8 22 rfl rfl)
theorem dX0_init_215 : decode cX0_init 215 = .ok (.getfield 94, 3) := dk_180 0 94 (dk_at dksX0_init_9 0 rfl rfl)
theorem dX0_init_218 : decode cX0_init 218 = .ok (.putfield 97, 3) := dk_181 0 97 (dk_at dksX0_init_9 3 rfl rfl)
theorem dX0_init_221 : decode cX0_init 221 = .ok (.aload_n 0, 1) := dk_42 (dk_at dksX0_init_9 6 rfl rfl)
theorem dX0_init_222 : decode cX0_init 222 = .ok (.aload_n 0, 1) := dk_42 (dk_at dksX0_init_9 7 rfl rfl)
theorem dX0_init_223 : decode cX0_init 223 = .ok (.getfield 94, 3) := dk_180 0 94 (dk_at dksX0_init_9 8 rfl rfl)
theorem dX0_init_226 : decode cX0_init 226 = .ok (.putfield 100, 3) := dk_181 0 100 (dk_at dksX0_init_9 11 rfl rfl)
theorem dX0_init_229 : decode cX0_init 229 = .ok (.aload_n 0, 1) := dk_42 (dk_at dksX0_init_9 14 rfl rfl)
theorem dX0_init_230 : decode cX0_init 230 = .ok (.aload_n 0, 1) := dk_42 (dk_at dksX0_init_9 15 rfl rfl)
theorem dX0_init_231 : decode cX0_init 231 = .ok (.getfield 94, 3) := dk_180 0 94 (dk_at dksX0_init_9 16 rfl rfl)
theorem dX0_init_234 : decode cX0_init 234 = .ok (.putfield 103, 3) := dk_181 0 103 (dk_at dksX0_init_9 19 rfl rfl)
theorem dX0_init_237 : decode cX0_init 237 = .ok (.aload_n 0, 1) := dk_42 (dk_at dksX0_init_9 22 rfl rfl)
theorem dX0_init_238 : decode cX0_init 238 = .ok (.iconst (-1), 1) := dk_2 (dk_at dksX0_init_9 23 rfl rfl)
theorem dX0_init_239 : decode cX0_init 239 = .ok (.putfield 106, 3) := dk_181 0 106 (dk_at dksX0_init_10 0 rfl rfl)
theorem dX0_init_242 : decode cX0_init 242 = .ok (.aload_n 0, 1) := dk_42 (dk_at dksX0_init_10 3 rfl rfl)
theorem dX0_init_243 : decode cX0_init 243 = .ok (.new 110, 3) := dk_187 0 110 (dk_at dksX0_init_10 4 rfl rfl)
theorem dX0_init_246 : decode cX0_init 246 = .ok (.dup, 1) := dk_89 (dk_at dksX0_init_10 7 rfl rfl)
theorem dX0_init_247 : decode cX0_init 247 = .ok (.invokespecial 112, 3) := dk_183 0 112 (dk_at dksX0_init_10 8 rfl rfl)
theorem dX0_init_250 : decode cX0_init 250 = .ok (.putfield 113, 3) := dk_181 0 113 (dk_at dksX0_init_10 11 rfl rfl)
theorem dX0_init_253 : decode cX0_init 253 = .ok (.aload_n 0, 1) := dk_42 (dk_at dksX0_init_10 14 rfl rfl)
theorem dX0_init_254 : decode cX0_init 254 = .ok (.new 110, 3) := dk_187 0 110 (dk_at dksX0_init_10 15 rfl rfl)
theorem dX0_init_257 : decode cX0_init 257 = .ok (.dup, 1) := dk_89 (dk_at dksX0_init_10 18 rfl rfl)
theorem dX0_init_258 : decode cX0_init 258 = .ok (.invokespecial 112, 3) := dk_183 0 112 (dk_at dksX0_init_10 19 rfl rfl)
theorem dX0_init_261 : decode cX0_init 261 = .ok (.putfield 117, 3) := dk_181 0 117 (dk_at dksX0_init_11 0 rfl rfl)
theorem dX0_init_264 : decode cX0_init 264 = .ok (.aload_n 0, 1) := dk_42 (dk_at dksX0_init_11 3 rfl rfl)
theorem dX0_init_265 : decode cX0_init 265 = .ok (.iconst 0, 1) := dk_3 (dk_at dksX0_init_11 4 rfl rfl)
theorem dX0_init_266 : decode cX0_init 266 = .ok (.anewarray 120, 3) := dk_189 0 120 (dk_at dksX0_init_11 5 rfl rfl)
theorem dX0_init_269 : decode cX0_init 269 = .ok (.putfield 122, 3) := dk_181 0 122 (dk_at dksX0_init_11 8 rfl rfl)
theorem dX0_init_272 : decode cX0_init 272 = .ok (.aload_n 0, 1) := dk_42 (dk_at dksX0_init_11 11 rfl rfl)
theorem dX0_init_273 : decode cX0_init 273 = .ok (.iconst 0, 1) := dk_3 (dk_at dksX0_init_11 12 rfl rfl)
theorem dX0_init_274 : decode cX0_init 274 = .ok (.anewarray 126, 3) := dk_189 0 126 (dk_at dksX0_init_11 13 rfl rfl)
theorem dX0_init_277 : decode cX0_init 277 = .ok (.putfield 128, 3) := dk_181 0 128 (dk_at dksX0_init_11 16 rfl rfl)
theorem dX0_init_280 : decode cX0_init 280 = .ok (.aload_n 0, 1) := dk_42 (dk_at dksX0_init_11 19 rfl rfl)
theorem dX0_init_281 : decode cX0_init 281 = .ok (.bipush 8, 2) := dk_16 8 (dk_at dksX0_init_11 20 rfl rfl)
theorem dX0_init_283 : decode cX0_init 283 = .ok (.newarray .int, 2) := dk_188_10 (dk_at dksX0_init_11 22 rfl rfl)
theorem dX0_init_285 : decode cX0_init 285 = .ok (.putfield 132, 3) := dk_181 0 132 (dk_at dksX0_init_12 0 rfl rfl)
theorem dX0_init_288 : decode cX0_init 288 = .ok (.aload_n 0, 1) := dk_42 (dk_at dksX0_init_12 3 rfl rfl)
theorem dX0_init_289 : decode cX0_init 289 = .ok (.bipush 8, 2) := dk_16 8 (dk_at dksX0_init_12 4 rfl rfl)
theorem dX0_init_291 : decode cX0_init 291 = .ok (.newarray .int, 2) := dk_188_10 (dk_at dksX0_init_12 6 rfl rfl)
theorem dX0_init_293 : decode cX0_init 293 = .ok (.putfield 136, 3) := dk_181 0 136 (dk_at dksX0_init_12 8 rfl rfl)
theorem dX0_init_296 : decode cX0_init 296 = .ok (.aload_n 0, 1) := dk_42 (dk_at dksX0_init_12 11 rfl rfl)
theorem dX0_init_297 : decode cX0_init 297 = .ok (.bipush 8, 2) := dk_16 8 (dk_at dksX0_init_12 12 rfl rfl)
theorem dX0_init_299 : decode cX0_init 299 = .ok (.newarray .int, 2) := dk_188_10 (dk_at dksX0_init_12 14 rfl rfl)
theorem dX0_init_301 : decode cX0_init 301 = .ok (.putfield 139, 3) := dk_181 0 139 (dk_at dksX0_init_12 16 rfl rfl)
theorem dX0_init_304 : decode cX0_init 304 = .ok (.aload_n 0, 1) := dk_42 (dk_at dksX0_init_12 19 rfl rfl)
theorem dX0_init_305 : decode cX0_init 305 = .ok (.bipush 8, 2) := dk_16 8 (dk_at dksX0_init_12 20 rfl rfl)
theorem dX0_init_307 : decode cX0_init 307 = .ok (.newarray .int, 2) := dk_188_10 (dk_at dksX0_init_12 22 rfl rfl)
theorem dX0_init_309 : decode cX0_init 309 = .ok (.putfield 142, 3) := dk_181 0 142 (dk_at dksX0_init_13 0 rfl rfl)
theorem dX0_init_312 : decode cX0_init 312 = .ok (.aload_n 0, 1) := dk_42 (dk_at dksX0_init_13 3 rfl rfl)
theorem dX0_init_313 : decode cX0_init 313 = .ok (.bipush 8, 2) := dk_16 8 (dk_at dksX0_init_13 4 rfl rfl)
theorem dX0_init_315 : decode cX0_init 315 = .ok (.newarray .int, 2) := dk_188_10 (dk_at dksX0_init_13 6 rfl rfl)
theorem dX0_init_317 : decode cX0_init 317 = .ok (.putfield 145, 3) := dk_181 0 145 (dk_at dksX0_init_13 8 rfl rfl)
theorem dX0_init_320 : decode cX0_init 320 = .ok (.aload_n 0, 1) := dk_42 (dk_at dksX0_init_13 11 rfl rfl)
theorem dX0_init_321 : decode cX0_init 321 = .ok (.iconst 4, 1) := dk_7 (dk_at dksX0_init_13 12 rfl rfl)
theorem dX0_init_322 : decode cX0_init 322 = .ok (.newarray .int, 2) := dk_188_10 (dk_at dksX0_init_13 13 rfl rfl)
theorem dX0_init_324 : decode cX0_init 324 = .ok (.putfield 148, 3) := dk_181 0 148 (dk_at dksX0_init_13 15 rfl rfl)
theorem dX0_init_327 : decode cX0_init 327 = .ok (.aload_n 0, 1) := dk_42 (dk_at dksX0_init_13 18 rfl rfl)
theorem dX0_init_328 : decode cX0_init 328 = .ok (.iconst 4, 1) := dk_7 (dk_at dksX0_init_13 19 rfl rfl)
theorem dX0_init_329 : decode cX0_init 329 = .ok (.newarray .int, 2) := dk_188_10 (dk_at dksX0_init_13 20 rfl rfl)
theorem dX0_init_331 : decode cX0_init 331 = .ok (.putfield 150, 3) := dk_181 0 150 (dk_at dksX0_init_14 0 rfl rfl)
theorem dX0_init_334 : decode cX0_init 334 = .ok (.aload_n 0, 1) := dk_42 (dk_at dksX0_init_14 3 rfl rfl)
theorem dX0_init_335 : decode cX0_init 335 = .ok (.iconst 1, 1) := dk_4 (dk_at dksX0_init_14 4 rfl rfl)
theorem dX0_init_336 : decode cX0_init 336 = .ok (.putfield 153, 3) := dk_181 0 153 (dk_at dksX0_init_14 5 rfl rfl)
theorem dX0_init_339 : decode cX0_init 339 = .ok (.aload_n 0, 1) := dk_42 (dk_at dksX0_init_14 8 rfl rfl)
theorem dX0_init_340 : decode cX0_init 340 = .ok (.bipush 10, 2) := dk_16 10 (dk_at dksX0_init_14 9 rfl rfl)
theorem dX0_init_342 : decode cX0_init 342 = .ok (.newarray .int, 2) := dk_188_10 (dk_at dksX0_init_14 11 rfl rfl)
theorem dX0_init_344 : decode cX0_init 344 = .ok (.putfield 156, 3) := dk_181 0 156 (dk_at dksX0_init_14 13 rfl rfl)
theorem dX0_init_347 : decode cX0_init 347 = .ok (.aload_n 0, 1) := dk_42 (dk_at dksX0_init_14 16 rfl rfl)
theorem dX0_init_348 : decode cX0_init 348 = .ok (.new 159, 3) := dk_187 0 159 (dk_at dksX0_init_14 17 rfl rfl)
theorem dX0_init_351 : decode cX0_init 351 = .ok (.dup, 1) := dk_89 (dk_at dksX0_init_14 20 rfl rfl)
theorem dX0_init_352 : decode cX0_init 352 = .ok (.aload_n 0, 1) := dk_42 (dk_at dksX0_init_14 21 rfl rfl)
theorem dX0_init_353 : decode cX0_init 353 = .ok (.invokespecial 161, 3) := dk_183 0 161 (dk_at dksX0_init_15 0 rfl rfl)
theorem dX0_init_356 : decode cX0_init 356 = .ok (.putfield 164, 3) := dk_181 0 164 (dk_at dksX0_init_15 3 rfl rfl)
theorem dX0_init_359 : decode cX0_init 359 = .ok (.aload_n 0, 1) := dk_42 (dk_at dksX0_init_15 6 rfl rfl)
theorem dX0_init_360 : decode cX0_init 360 = .ok (.new 159, 3) := dk_187 0 159 (dk_at dksX0_init_15 7 rfl rfl)
theorem dX0_init_363 : decode cX0_init 363 = .ok (.dup, 1) := dk_89 (dk_at dksX0_init_15 10 rfl rfl)
theorem dX0_init_364 : decode cX0_init 364 = .ok (.aload_n 0, 1) := dk_42 (dk_at dksX0_init_15 11 rfl rfl)
theorem dX0_init_365 : decode cX0_init 365 = .ok (.invokespecial 161, 3) := dk_183 0 161 (dk_at dksX0_init_15 12 rfl rfl)
theorem dX0_init_368 : decode cX0_init 368 = .ok (.putfield 168, 3) := dk_181 0 168 (dk_at dksX0_init_15 15 rfl rfl)
theorem dX0_init_371 : decode cX0_init 371 = .ok (.aload_n 0, 1) := dk_42 (dk_at dksX0_init_15 18 rfl rfl)
theorem dX0_init_372 : decode cX0_init 372 = .ok (.new 159, 3) := dk_187 0 159 (dk_at dksX0_init_15 19 rfl rfl)
theorem dX0_init_375 : decode cX0_init 375 = .ok (.dup, 1) := dk_89 (dk_at dksX0_init_15 22 rfl rfl)
theorem dX0_init_376 : decode cX0_init 376 = .ok (.aload_n 0, 1) := dk_42 (dk_at dksX0_init_15 23 rfl rfl)
theorem dX0_init_377 : decode cX0_init 377 = .ok (.invokespecial 161, 3) := dk_183 0 161 (dk_at dksX0_init_16 0 rfl rfl)
theorem dX0_init_380 : decode cX0_init 380 = .ok (.putfield 171, 3) := dk_181 0 171 (dk_at dksX0_init_16 3 rfl rfl)
theorem dX0_init_383 : decode cX0_init 383 = .ok (.aload_n 0, 1) := dk_42 (dk_at dksX0_init_16 6 rfl rfl)
theorem dX0_init_384 : decode cX0_init 384 = .ok (.sipush 800, 3) := dk_17 3 32 (dk_at dksX0_init_16 7 rfl rfl)
theorem dX0_init_387 : decode cX0_init 387 = .ok (.newarray .int, 2) := dk_188_10 (dk_at dksX0_init_16 10 rfl rfl)
theorem dX0_init_389 : decode cX0_init 389 = .ok (.putfield 174, 3) := dk_181 0 174 (dk_at dksX0_init_16 12 rfl rfl)
theorem dX0_init_392 : decode cX0_init 392 = .ok (.aload_n 0, 1) := dk_42 (dk_at dksX0_init_16 15 rfl rfl)
theorem dX0_init_393 : decode cX0_init 393 = .ok (.bipush 6, 2) := dk_16 6 (dk_at dksX0_init_16 16 rfl rfl)
theorem dX0_init_395 : decode cX0_init 395 = .ok (.anewarray 159, 3) := dk_189 0 159 (dk_at dksX0_init_16 18 rfl rfl)
theorem dX0_init_398 : decode cX0_init 398 = .ok (.putfield 177, 3) := dk_181 0 177 (dk_at dksX0_init_16 21 rfl rfl)
theorem dX0_init_401 : decode cX0_init 401 = .ok (.aload_n 0, 1) := dk_42 (dk_at dksX0_init_17 0 rfl rfl)
theorem dX0_init_402 : decode cX0_init 402 = .ok (.bipush 32, 2) := dk_16 32 (dk_at dksX0_init_17 1 rfl rfl)
theorem dX0_init_404 : decode cX0_init 404 = .ok (.newarray .boolean, 2) := dk_188_4 (dk_at dksX0_init_17 3 rfl rfl)
theorem dX0_init_406 : decode cX0_init 406 = .ok (.putfield 181, 3) := dk_181 0 181 (dk_at dksX0_init_17 5 rfl rfl)
theorem dX0_init_409 : decode cX0_init 409 = .ok (.aload_n 0, 1) := dk_42 (dk_at dksX0_init_17 8 rfl rfl)
theorem dX0_init_410 : decode cX0_init 410 = .ok (.sipush 256, 3) := dk_17 1 0 (dk_at dksX0_init_17 9 rfl rfl)
theorem dX0_init_413 : decode cX0_init 413 = .ok (.newarray .boolean, 2) := dk_188_4 (dk_at dksX0_init_17 12 rfl rfl)
theorem dX0_init_415 : decode cX0_init 415 = .ok (.putfield 185, 3) := dk_181 0 185 (dk_at dksX0_init_17 14 rfl rfl)
theorem dX0_init_418 : decode cX0_init 418 = .ok (.aload_n 0, 1) := dk_42 (dk_at dksX0_init_17 17 rfl rfl)
theorem dX0_init_419 : decode cX0_init 419 = .ok (.ldc 188, 2) := dk_18 188 (dk_at dksX0_init_17 18 rfl rfl)
theorem dX0_init_421 : decode cX0_init 421 = .ok (.newarray .byte, 2) := dk_188_8 (dk_at dksX0_init_17 20 rfl rfl)
theorem dX0_init_423 : decode cX0_init 423 = .ok (.putfield 189, 3) := dk_181 0 189 (dk_at dksX0_init_18 0 rfl rfl)
theorem dX0_init_426 : decode cX0_init 426 = .ok (.aload_n 0, 1) := dk_42 (dk_at dksX0_init_18 3 rfl rfl)
theorem dX0_init_427 : decode cX0_init 427 = .ok (.iconst 4, 1) := dk_7 (dk_at dksX0_init_18 4 rfl rfl)
theorem dX0_init_428 : decode cX0_init 428 = .ok (.newarray .int, 2) := dk_188_10 (dk_at dksX0_init_18 5 rfl rfl)
theorem dX0_init_430 : decode cX0_init 430 = .ok (.putfield 192, 3) := dk_181 0 192 (dk_at dksX0_init_18 7 rfl rfl)
theorem dX0_init_433 : decode cX0_init 433 = .ok (.aload_n 0, 1) := dk_42 (dk_at dksX0_init_18 10 rfl rfl)
theorem dX0_init_434 : decode cX0_init 434 = .ok (.bipush 8, 2) := dk_16 8 (dk_at dksX0_init_18 11 rfl rfl)
theorem dX0_init_436 : decode cX0_init 436 = .ok (.newarray .int, 2) := dk_188_10 (dk_at dksX0_init_18 13 rfl rfl)
theorem dX0_init_438 : decode cX0_init 438 = .ok (.putfield 195, 3) := dk_181 0 195 (dk_at dksX0_init_18 15 rfl rfl)
theorem dX0_init_441 : decode cX0_init 441 = .ok (.aload_n 0, 1) := dk_42 (dk_at dksX0_init_18 18 rfl rfl)
theorem dX0_init_442 : decode cX0_init 442 = .ok (.iconst 4, 1) := dk_7 (dk_at dksX0_init_18 19 rfl rfl)
theorem dX0_init_443 : decode cX0_init 443 = .ok (.newarray .int, 2) := dk_188_10 (dk_at dksX0_init_18 20 rfl rfl)
theorem dX0_init_445 : decode cX0_init 445 = .ok (.putfield 198, 3) := dk_181 0 198 (dk_at dksX0_init_19 0 rfl rfl)
theorem dX0_init_448 : decode cX0_init 448 = .ok (.aload_n 0, 1) := dk_42 (dk_at dksX0_init_19 3 rfl rfl)
theorem dX0_init_449 : decode cX0_init 449 = .ok (.bipush 12, 2) := dk_16 12 (dk_at dksX0_init_19 4 rfl rfl)
theorem dX0_init_451 : decode cX0_init 451 = .ok (.newarray .int, 2) := dk_188_10 (dk_at dksX0_init_19 6 rfl rfl)
theorem dX0_init_453 : decode cX0_init 453 = .ok (.putfield 201, 3) := dk_181 0 201 (dk_at dksX0_init_19 8 rfl rfl)
theorem dX0_init_456 : decode cX0_init 456 = .ok (.aload_n 0, 1) := dk_42 (dk_at dksX0_init_19 11 rfl rfl)
theorem dX0_init_457 : decode cX0_init 457 = .ok (.bipush 12, 2) := dk_16 12 (dk_at dksX0_init_19 12 rfl rfl)
theorem dX0_init_459 : decode cX0_init 459 = .ok (.newarray .int, 2) := dk_188_10 (dk_at dksX0_init_19 14 rfl rfl)
theorem dX0_init_461 : decode cX0_init 461 = .ok (.putfield 204, 3) := dk_181 0 204 (dk_at dksX0_init_19 16 rfl rfl)
theorem dX0_init_464 : decode cX0_init 464 = .ok (.aload_n 0, 1) := dk_42 (dk_at dksX0_init_19 19 rfl rfl)
theorem dX0_init_465 : decode cX0_init 465 = .ok (.sipush 256, 3) := dk_17 1 0 (dk_at dksX0_init_19 20 rfl rfl)
theorem dX0_init_468 : decode cX0_init 468 = .ok (.newarray .int, 2) := dk_188_10 (dk_at dksX0_init_20 0 rfl rfl)
theorem dX0_init_470 : decode cX0_init 470 = .ok (.putfield 207, 3) := dk_181 0 207 (dk_at dksX0_init_20 2 rfl rfl)
theorem dX0_init_473 : decode cX0_init 473 = .ok (.aload_n 0, 1) := dk_42 (dk_at dksX0_init_20 5 rfl rfl)
theorem dX0_init_474 : decode cX0_init 474 = .ok (.bipush 10, 2) := dk_16 10 (dk_at dksX0_init_20 6 rfl rfl)
theorem dX0_init_476 : decode cX0_init 476 = .ok (.anewarray 210, 3) := dk_189 0 210 (dk_at dksX0_init_20 8 rfl rfl)
theorem dX0_init_479 : decode cX0_init 479 = .ok (.dup, 1) := dk_89 (dk_at dksX0_init_20 11 rfl rfl)
theorem dX0_init_480 : decode cX0_init 480 = .ok (.iconst 0, 1) := dk_3 (dk_at dksX0_init_20 12 rfl rfl)
theorem dX0_init_481 : decode cX0_init 481 = .ok (.aload_n 0, 1) := dk_42 (dk_at dksX0_init_20 13 rfl rfl)
theorem dX0_init_482 : decode cX0_init 482 = .ok (.getfield 132, 3) := dk_180 0 132 (dk_at dksX0_init_20 14 rfl rfl)
theorem dX0_init_485 : decode cX0_init 485 = .ok (.aastore, 1) := dk_83 (dk_at dksX0_init_20 17 rfl rfl)
theorem dX0_init_486 : decode cX0_init 486 = .ok (.dup, 1) := dk_89 (dk_at dksX0_init_20 18 rfl rfl)
theorem dX0_init_487 : decode cX0_init 487 = .ok (.iconst 1, 1) := dk_4 (dk_at dksX0_init_20 19 rfl rfl)
theorem dX0_init_488 : decode cX0_init 488 = .ok (.aload_n 0, 1) := dk_42 (dk_at dksX0_init_20 20 rfl rfl)
theorem dX0_init_489 : decode cX0_init 489 = .ok (.getfield 136, 3) := dk_180 0 136 (dk_at dksX0_init_20 21 rfl rfl)
theorem dX0_init_492 : decode cX0_init 492 = .ok (.aastore, 1) := dk_83 (dk_at dksX0_init_21 0 rfl rfl)
theorem dX0_init_493 : decode cX0_init 493 = .ok (.dup, 1) := dk_89 (dk_at dksX0_init_21 1 rfl rfl)
theorem dX0_init_494 : decode cX0_init 494 = .ok (.iconst 2, 1) := dk_5 (dk_at dksX0_init_21 2 rfl rfl)
theorem dX0_init_495 : decode cX0_init 495 = .ok (.aload_n 0, 1) := dk_42 (dk_at dksX0_init_21 3 rfl rfl)
theorem dX0_init_496 : decode cX0_init 496 = .ok (.getfield 139, 3) := dk_180 0 139 (dk_at dksX0_init_21 4 rfl rfl)
theorem dX0_init_499 : decode cX0_init 499 = .ok (.aastore, 1) := dk_83 (dk_at dksX0_init_21 7 rfl rfl)
theorem dX0_init_500 : decode cX0_init 500 = .ok (.dup, 1) := dk_89 (dk_at dksX0_init_21 8 rfl rfl)
theorem dX0_init_501 : decode cX0_init 501 = .ok (.iconst 3, 1) := dk_6 (dk_at dksX0_init_21 9 rfl rfl)
theorem dX0_init_502 : decode cX0_init 502 = .ok (.aload_n 0, 1) := dk_42 (dk_at dksX0_init_21 10 rfl rfl)
theorem dX0_init_503 : decode cX0_init 503 = .ok (.getfield 142, 3) := dk_180 0 142 (dk_at dksX0_init_21 11 rfl rfl)
theorem dX0_init_506 : decode cX0_init 506 = .ok (.aastore, 1) := dk_83 (dk_at dksX0_init_21 14 rfl rfl)
theorem dX0_init_507 : decode cX0_init 507 = .ok (.dup, 1) := dk_89 (dk_at dksX0_init_21 15 rfl rfl)
theorem dX0_init_508 : decode cX0_init 508 = .ok (.iconst 4, 1) := dk_7 (dk_at dksX0_init_21 16 rfl rfl)
theorem dX0_init_509 : decode cX0_init 509 = .ok (.aload_n 0, 1) := dk_42 (dk_at dksX0_init_21 17 rfl rfl)
theorem dX0_init_510 : decode cX0_init 510 = .ok (.getfield 145, 3) := dk_180 0 145 (dk_at dksX0_init_21 18 rfl rfl)
theorem dX0_init_513 : decode cX0_init 513 = .ok (.aastore, 1) := dk_83 (dk_at dksX0_init_21 21 rfl rfl)
theorem dX0_init_514 : decode cX0_init 514 = .ok (.dup, 1) := dk_89 (dk_at dksX0_init_21 22 rfl rfl)
theorem dX0_init_515 : decode cX0_init 515 = .ok (.iconst 5, 1) := dk_8 (dk_at dksX0_init_21 23 rfl rfl)
theorem dX0_init_516 : decode cX0_init 516 = .ok (.aload_n 0, 1) := dk_42 (dk_at dksX0_init_22 0 rfl rfl)
theorem dX0_init_517 : decode cX0_init 517 = .ok (.getfield 148, 3) := dk_180 0 148 (dk_at dksX0_init_22 1 rfl rfl)
theorem dX0_init_520 : decode cX0_init 520 = .ok (.aastore, 1) := dk_83 (dk_at dksX0_init_22 4 rfl rfl)
theorem dX0_init_521 : decode cX0_init 521 = .ok (.dup, 1) := dk_89 (dk_at dksX0_init_22 5 rfl rfl)
theorem dX0_init_522 : decode cX0_init 522 = .ok (.bipush 6, 2) := dk_16 6 (dk_at dksX0_init_22 6 rfl rfl)
theorem dX0_init_524 : decode cX0_init 524 = .ok (.aload_n 0, 1) := dk_42 (dk_at dksX0_init_22 8 rfl rfl)
theorem dX0_init_525 : decode cX0_init 525 = .ok (.getfield 150, 3) := dk_180 0 150 (dk_at dksX0_init_22 9 rfl rfl)
theorem dX0_init_528 : decode cX0_init 528 = .ok (.aastore, 1) := dk_83 (dk_at dksX0_init_22 12 rfl rfl)
theorem dX0_init_529 : decode cX0_init 529 = .ok (.dup, 1) := dk_89 (dk_at dksX0_init_22 13 rfl rfl)
theorem dX0_init_530 : decode cX0_init 530 = .ok (.bipush 7, 2) := dk_16 7 (dk_at dksX0_init_22 14 rfl rfl)
theorem dX0_init_532 : decode cX0_init 532 = .ok (.aload_n 0, 1) := dk_42 (dk_at dksX0_init_22 16 rfl rfl)
theorem dX0_init_533 : decode cX0_init 533 = .ok (.getfield 174, 3) := dk_180 0 174 (dk_at dksX0_init_22 17 rfl rfl)
theorem dX0_init_536 : decode cX0_init 536 = .ok (.aastore, 1) := dk_83 (dk_at dksX0_init_22 20 rfl rfl)
theorem dX0_init_537 : decode cX0_init 537 = .ok (.dup, 1) := dk_89 (dk_at dksX0_init_22 21 rfl rfl)
theorem dX0_init_538 : decode cX0_init 538 = .ok (.bipush 8, 2) := dk_16 8 (dk_at dksX0_init_22 22 rfl rfl)
theorem dX0_init_540 : decode cX0_init 540 = .ok (.aload_n 0, 1) := dk_42 (dk_at dksX0_init_23 0 rfl rfl)
theorem dX0_init_541 : decode cX0_init 541 = .ok (.getfield 201, 3) := dk_180 0 201 (dk_at dksX0_init_23 1 rfl rfl)
theorem dX0_init_544 : decode cX0_init 544 = .ok (.aastore, 1) := dk_83 (dk_at dksX0_init_23 4 rfl rfl)
theorem dX0_init_545 : decode cX0_init 545 = .ok (.dup, 1) := dk_89 (dk_at dksX0_init_23 5 rfl rfl)
theorem dX0_init_546 : decode cX0_init 546 = .ok (.bipush 9, 2) := dk_16 9 (dk_at dksX0_init_23 6 rfl rfl)
theorem dX0_init_548 : decode cX0_init 548 = .ok (.aload_n 0, 1) := dk_42 (dk_at dksX0_init_23 8 rfl rfl)
theorem dX0_init_549 : decode cX0_init 549 = .ok (.getfield 204, 3) := dk_180 0 204 (dk_at dksX0_init_23 9 rfl rfl)
theorem dX0_init_552 : decode cX0_init 552 = .ok (.aastore, 1) := dk_83 (dk_at dksX0_init_23 12 rfl rfl)
theorem dX0_init_553 : decode cX0_init 553 = .ok (.putfield 211, 3) := dk_181 0 211 (dk_at dksX0_init_23 13 rfl rfl)
theorem dX0_init_556 : decode cX0_init 556 = .ok (.aload_n 0, 1) := dk_42 (dk_at dksX0_init_23 16 rfl rfl)
theorem dX0_init_557 : decode cX0_init 557 = .ok (.aload_n 0, 1) := dk_42 (dk_at dksX0_init_23 17 rfl rfl)
theorem dX0_init_558 : decode cX0_init 558 = .ok (.getfield 211, 3) := dk_180 0 211 (dk_at dksX0_init_23 18 rfl rfl)
theorem dX0_init_561 : decode cX0_init 561 = .ok (.arraylength, 1) := dk_190 (dk_at dksX0_init_23 21 rfl rfl)
theorem dX0_init_562 : decode cX0_init 562 = .ok (.anewarray 210, 3) := dk_189 0 210 (dk_at dksX0_init_24 0 rfl rfl)
theorem dX0_init_565 : decode cX0_init 565 = .ok (.putfield 215, 3) := dk_181 0 215 (dk_at dksX0_init_24 3 rfl rfl)
theorem dX0_init_568 : decode cX0_init 568 = .ok (.aload_n 0, 1) := dk_42 (dk_at dksX0_init_24 6 rfl rfl)
theorem dX0_init_569 : decode cX0_init 569 = .ok (.iconst 5, 1) := dk_8 (dk_at dksX0_init_24 7 rfl rfl)
theorem dX0_init_570 : decode cX0_init 570 = .ok (.newarray .int, 2) := dk_188_10 (dk_at dksX0_init_24 8 rfl rfl)
theorem dX0_init_572 : decode cX0_init 572 = .ok (.putfield 218, 3) := dk_181 0 218 (dk_at dksX0_init_24 10 rfl rfl)
theorem dX0_init_575 : decode cX0_init 575 = .ok (.aload_n 0, 1) := dk_42 (dk_at dksX0_init_24 13 rfl rfl)
theorem dX0_init_576 : decode cX0_init 576 = .ok (.getfield 164, 3) := dk_180 0 164 (dk_at dksX0_init_24 14 rfl rfl)
theorem dX0_init_579 : decode cX0_init 579 = .ok (.getfield 221, 3) := dk_180 0 221 (dk_at dksX0_init_24 17 rfl rfl)
theorem dX0_init_582 : decode cX0_init 582 = .ok (.bipush 15, 2) := dk_16 15 (dk_at dksX0_init_24 20 rfl rfl)
theorem dX0_init_584 : decode cX0_init 584 = .ok (.invokestatic 224, 3) := dk_184 0 224 (dk_at dksX0_init_25 0 rfl rfl)
theorem dX0_init_587 : decode cX0_init 587 = .ok (.return_, 1) := dk_177 (dk_at dksX0_init_25 3 rfl rfl)
abbrev cX0_feed : ByteArray := prog_1_method_7_code
def yX0_feed : MethodName := ⟨RX0, "feed", "(IIIII)I"⟩
def dkwX0_feed_2 : List UInt8 := [172]
abbrev dktX0_feed_2 : List UInt8 := dkwX0_feed_2 ++ []
def dkwX0_feed_1 : List UInt8 := [182, 0, 233, 42, 29, 182, 0, 233, 42, 21, 4, 182, 0, 233, 42, 21, 5, 182, 0, 233, 42, 180, 0, 230]
abbrev dktX0_feed_1 : List UInt8 := dkwX0_feed_1 ++ dktX0_feed_2
def dkwX0_feed_0 : List UInt8 := [42, 180, 0, 230, 16, 20, 96, 17, 1, 144, 164, 0, 5, 2, 172, 42, 27, 182, 0, 233, 42, 28]
abbrev dktX0_feed_0 : List UInt8 := dkwX0_feed_0 ++ dktX0_feed_1
theorem dksX0_feed_0 : cX0_feed.data.toList.drop 0 = dktX0_feed_0 := by decide +kernel
theorem dksX0_feed_1 : cX0_feed.data.toList.drop 22 = dktX0_feed_1 := dk_seg dksX0_feed_0 22 rfl rfl
theorem dksX0_feed_2 : cX0_feed.data.toList.drop 46 = dktX0_feed_2 := dk_seg dksX0_feed_1 24 rfl rfl
theorem dX0_feed_0 : decode cX0_feed 0 = .ok (.aload_n 0, 1) := dk_42 (dk_at dksX0_feed_0 0 rfl rfl)
theorem dX0_feed_1 : decode cX0_feed 1 = .ok (.getfield 230, 3) := dk_180 0 230 (dk_at dksX0_feed_0 1 rfl rfl)
theorem dX0_feed_4 : decode cX0_feed 4 = .ok (.bipush 20, 2) := dk_16 20 (dk_at dksX0_feed_0 4 rfl rfl)
theorem dX0_feed_6 : decode cX0_feed 6 = .ok (.iadd, 1) := dk_96 (dk_at dksX0_feed_0 6 rfl rfl)
theorem dX0_feed_7 : decode cX0_feed 7 = .ok (.sipush 400, 3) := dk_17 1 144 (dk_at dksX0_feed_0 7 rfl rfl)
theorem dX0_feed_10 : decode cX0_feed 10 = .ok (.if_icmp .le 5, 3) := dk_164 0 5 (dk_at dksX0_feed_0 10 rfl rfl)
theorem dX0_feed_13 : decode cX0_feed 13 = .ok (.iconst (-1), 1) := dk_2 (dk_at dksX0_feed_0 13 rfl rfl)
theorem dX0_feed_14 : decode cX0_feed 14 = .ok (.ireturn, 1) := dk_172 (dk_at dksX0_feed_0 14 rfl rfl)
theorem dX0_feed_15 : decode cX0_feed 15 = .ok (.aload_n 0, 1) := dk_42 (dk_at dksX0_feed_0 15 rfl rfl)
theorem dX0_feed_16 : decode cX0_feed 16 = .ok (.iload_n 1, 1) := dk_27 (dk_at dksX0_feed_0 16 rfl rfl)
theorem dX0_feed_17 : decode cX0_feed 17 = .ok (.invokevirtual 233, 3) := dk_182 0 233 (dk_at dksX0_feed_0 17 rfl rfl)
theorem dX0_feed_20 : decode cX0_feed 20 = .ok (.aload_n 0, 1) := dk_42 (dk_at dksX0_feed_0 20 rfl rfl)
theorem dX0_feed_21 : decode cX0_feed 21 = .ok (.iload_n 2, 1) := dk_28 (dk_at dksX0_feed_0 21 rfl rfl)
theorem dX0_feed_22 : decode cX0_feed 22 = .ok (.invokevirtual 233, 3) := dk_182 0 233 (dk_at dksX0_feed_1 0 rfl rfl)
theorem dX0_feed_25 : decode cX0_feed 25 = .ok (.aload_n 0, 1) := dk_42 (dk_at dksX0_feed_1 3 rfl rfl)
theorem dX0_feed_26 : decode cX0_feed 26 = .ok (.iload_n 3, 1) := dk_29 (dk_at dksX0_feed_1 4 rfl rfl)
theorem dX0_feed_27 : decode cX0_feed 27 = .ok (.invokevirtual 233, 3) := dk_182 0 233 (dk_at dksX0_feed_1 5 rfl rfl)
theorem dX0_feed_30 : decode cX0_feed 30 = .ok (.aload_n 0, 1) := dk_42 (dk_at dksX0_feed_1 8 rfl rfl)
theorem dX0_feed_31 : decode cX0_feed 31 = .ok (.iload 4, 2) := dk_21 4 (dk_at dksX0_feed_1 9 rfl rfl)
theorem dX0_feed_33 : decode cX0_feed 33 = .ok (.invokevirtual 233, 3) := dk_182 0 233 (dk_at dksX0_feed_1 11 rfl rfl)
theorem dX0_feed_36 : decode cX0_feed 36 = .ok (.aload_n 0, 1) := dk_42 (dk_at dksX0_feed_1 14 rfl rfl)
theorem dX0_feed_37 : decode cX0_feed 37 = .ok (.iload 5, 2) := dk_21 5 (dk_at dksX0_feed_1 15 rfl rfl)
theorem dX0_feed_39 : decode cX0_feed 39 = .ok (.invokevirtual 233, 3) := dk_182 0 233 (dk_at dksX0_feed_1 17 rfl rfl)
theorem dX0_feed_42 : decode cX0_feed 42 = .ok (.aload_n 0, 1) := dk_42 (dk_at dksX0_feed_1 20 rfl rfl)
theorem dX0_feed_43 : decode cX0_feed 43 = .ok (.getfield 230, 3) := dk_180 0 230 (dk_at dksX0_feed_1 21 rfl rfl)
theorem dX0_feed_46 : decode cX0_feed 46 = .ok (.ireturn, 1) := dk_172 (dk_at dksX0_feed_2 0 rfl rfl)
abbrev cX0_puts : ByteArray := prog_1_method_6_code
def yX0_puts : MethodName := ⟨RX0, "puts", "(I)V"⟩
def dkwX0_puts_1 : List UInt8 := [180, 0, 230, 4, 96, 181, 0, 230, 132, 2, 248, 167, 255, 226, 177]
abbrev dktX0_puts_1 : List UInt8 := dkwX0_puts_1 ++ []
def dkwX0_puts_0 : List UInt8 := [16, 24, 61, 28, 155, 0, 32, 42, 180, 0, 24, 42, 180, 0, 230, 27, 28, 122, 145, 84, 42, 89]
abbrev dktX0_puts_0 : List UInt8 := dkwX0_puts_0 ++ dktX0_puts_1
theorem dksX0_puts_0 : cX0_puts.data.toList.drop 0 = dktX0_puts_0 := by decide +kernel
theorem dksX0_puts_1 : cX0_puts.data.toList.drop 22 = dktX0_puts_1 := dk_seg dksX0_puts_0 22 rfl rfl
theorem dX0_puts_0 : decode cX0_puts 0 = .ok (.bipush 24, 2) := dk_16 24 (dk_at dksX0_puts_0 0 rfl rfl)
theorem dX0_puts_2 : decode cX0_puts 2 = .ok (.istore_n 2, 1) := dk_61 (dk_at dksX0_puts_0 2 rfl rfl)
theorem dX0_puts_3 : decode cX0_puts 3 = .ok (.iload_n 2, 1) := dk_28 (dk_at dksX0_puts_0 3 rfl rfl)
theorem dX0_puts_4 : decode cX0_puts 4 = .ok (.ifCond .lt 32, 3) := dk_155 0 32 (dk_at dksX0_puts_0 4 rfl rfl)
theorem dX0_puts_7 : decode cX0_puts 7 = .ok (.aload_n 0, 1) := dk_42 (dk_at dksX0_puts_0 7 rfl rfl)
theorem dX0_puts_8 : decode cX0_puts 8 = .ok (.getfield 24, 3) := dk_180 0 24 (dk_at dksX0_puts_0 8 rfl rfl)
theorem dX0_puts_11 : decode cX0_puts 11 = .ok (.aload_n 0, 1) := dk_42 (dk_at dksX0_puts_0 11 rfl rfl)
theorem dX0_puts_12 : decode cX0_puts 12 = .ok (.getfield 230, 3) := dk_180 0 230 (dk_at dksX0_puts_0 12 rfl rfl)
theorem dX0_puts_15 : decode cX0_puts 15 = .ok (.iload_n 1, 1) := dk_27 (dk_at dksX0_puts_0 15 rfl rfl)
theorem dX0_puts_16 : decode cX0_puts 16 = .ok (.iload_n 2, 1) := dk_28 (dk_at dksX0_puts_0 16 rfl rfl)
theorem dX0_puts_17 : decode cX0_puts 17 = .ok (.ishr, 1) := dk_122 (dk_at dksX0_puts_0 17 rfl rfl)
theorem dX0_puts_18 : decode cX0_puts 18 = .ok (.i2b, 1) := dk_145 (dk_at dksX0_puts_0 18 rfl rfl)
theorem dX0_puts_19 : decode cX0_puts 19 = .ok (.bastore, 1) := dk_84 (dk_at dksX0_puts_0 19 rfl rfl)
theorem dX0_puts_20 : decode cX0_puts 20 = .ok (.aload_n 0, 1) := dk_42 (dk_at dksX0_puts_0 20 rfl rfl)
theorem dX0_puts_21 : decode cX0_puts 21 = .ok (.dup, 1) := dk_89 (dk_at dksX0_puts_0 21 rfl rfl)
theorem dX0_puts_22 : decode cX0_puts 22 = .ok (.getfield 230, 3) := dk_180 0 230 (dk_at dksX0_puts_1 0 rfl rfl)
theorem dX0_puts_25 : decode cX0_puts 25 = .ok (.iconst 1, 1) := dk_4 (dk_at dksX0_puts_1 3 rfl rfl)
theorem dX0_puts_26 : decode cX0_puts 26 = .ok (.iadd, 1) := dk_96 (dk_at dksX0_puts_1 4 rfl rfl)
theorem dX0_puts_27 : decode cX0_puts 27 = .ok (.putfield 230, 3) := dk_181 0 230 (dk_at dksX0_puts_1 5 rfl rfl)
theorem dX0_puts_30 : decode cX0_puts 30 = .ok (.iinc 2 (-8), 3) := dk_132 2 248 (dk_at dksX0_puts_1 8 rfl rfl)
theorem dX0_puts_33 : decode cX0_puts 33 = .ok (.goto (-30), 3) := dk_167 255 226 (dk_at dksX0_puts_1 11 rfl rfl)
theorem dX0_puts_36 : decode cX0_puts 36 = .ok (.return_, 1) := dk_177 (dk_at dksX0_puts_1 14 rfl rfl)
abbrev cX0_end : ByteArray := prog_1_method_8_code
def yX0_end : MethodName := ⟨RX0, "end", "(I)Z"⟩
def dkwX0_end_0 : List UInt8 := [27, 3, 42, 180, 0, 230, 184, 0, 237, 154, 0, 5, 3, 172, 42, 27, 181, 0, 230, 4, 172]
abbrev dktX0_end_0 : List UInt8 := dkwX0_end_0 ++ []
theorem dksX0_end_0 : cX0_end.data.toList.drop 0 = dktX0_end_0 := by decide +kernel
theorem dX0_end_0 : decode cX0_end 0 = .ok (.iload_n 1, 1) := dk_27 (dk_at dksX0_end_0 0 rfl rfl)
theorem dX0_end_1 : decode cX0_end 1 = .ok (.iconst 0, 1) := dk_3 (dk_at dksX0_end_0 1 rfl rfl)
theorem dX0_end_2 : decode cX0_end 2 = .ok (.aload_n 0, 1) := dk_42 (dk_at dksX0_end_0 2 rfl rfl)
theorem dX0_end_3 : decode cX0_end 3 = .ok (.getfield 230, 3) := dk_180 0 230 (dk_at dksX0_end_0 3 rfl rfl)
theorem dX0_end_6 : decode cX0_end 6 = .ok (.invokestatic 237, 3) := dk_184 0 237 (dk_at dksX0_end_0 6 rfl rfl)
theorem dX0_end_9 : decode cX0_end 9 = .ok (.ifCond .ne 5, 3) := dk_154 0 5 (dk_at dksX0_end_0 9 rfl rfl)
theorem dX0_end_12 : decode cX0_end 12 = .ok (.iconst 0, 1) := dk_3 (dk_at dksX0_end_0 12 rfl rfl)
theorem dX0_end_13 : decode cX0_end 13 = .ok (.ireturn, 1) := dk_172 (dk_at dksX0_end_0 13 rfl rfl)
theorem dX0_end_14 : decode cX0_end 14 = .ok (.aload_n 0, 1) := dk_42 (dk_at dksX0_end_0 14 rfl rfl)
theorem dX0_end_15 : decode cX0_end 15 = .ok (.iload_n 1, 1) := dk_27 (dk_at dksX0_end_0 15 rfl rfl)
theorem dX0_end_16 : decode cX0_end 16 = .ok (.putfield 230, 3) := dk_181 0 230 (dk_at dksX0_end_0 16 rfl rfl)
theorem dX0_end_19 : decode cX0_end 19 = .ok (.iconst 1, 1) := dk_4 (dk_at dksX0_end_0 19 rfl rfl)
theorem dX0_end_20 : decode cX0_end 20 = .ok (.ireturn, 1) := dk_172 (dk_at dksX0_end_0 20 rfl rfl)
abbrev cX0_isIn : ByteArray := prog_1_method_1_code
def yX0_isIn : MethodName := ⟨RX0, "isIn", "(III)Z"⟩
def dkwX0_isIn_0 : List UInt8 := [26, 27, 161, 0, 12, 26, 28, 163, 0, 7, 4, 167, 0, 4, 3, 172]
abbrev dktX0_isIn_0 : List UInt8 := dkwX0_isIn_0 ++ []
theorem dksX0_isIn_0 : cX0_isIn.data.toList.drop 0 = dktX0_isIn_0 := by decide +kernel
theorem dX0_isIn_0 : decode cX0_isIn 0 = .ok (.iload_n 0, 1) := dk_26 (dk_at dksX0_isIn_0 0 rfl rfl)
theorem dX0_isIn_1 : decode cX0_isIn 1 = .ok (.iload_n 1, 1) := dk_27 (dk_at dksX0_isIn_0 1 rfl rfl)
theorem dX0_isIn_2 : decode cX0_isIn 2 = .ok (.if_icmp .lt 12, 3) := dk_161 0 12 (dk_at dksX0_isIn_0 2 rfl rfl)
theorem dX0_isIn_5 : decode cX0_isIn 5 = .ok (.iload_n 0, 1) := dk_26 (dk_at dksX0_isIn_0 5 rfl rfl)
theorem dX0_isIn_6 : decode cX0_isIn 6 = .ok (.iload_n 2, 1) := dk_28 (dk_at dksX0_isIn_0 6 rfl rfl)
theorem dX0_isIn_7 : decode cX0_isIn 7 = .ok (.if_icmp .gt 7, 3) := dk_163 0 7 (dk_at dksX0_isIn_0 7 rfl rfl)
theorem dX0_isIn_10 : decode cX0_isIn 10 = .ok (.iconst 1, 1) := dk_4 (dk_at dksX0_isIn_0 10 rfl rfl)
theorem dX0_isIn_11 : decode cX0_isIn 11 = .ok (.goto 4, 3) := dk_167 0 4 (dk_at dksX0_isIn_0 11 rfl rfl)
theorem dX0_isIn_14 : decode cX0_isIn 14 = .ok (.iconst 0, 1) := dk_3 (dk_at dksX0_isIn_0 14 rfl rfl)
theorem dX0_isIn_15 : decode cX0_isIn 15 = .ok (.ireturn, 1) := dk_172 (dk_at dksX0_isIn_0 15 rfl rfl)
abbrev cX0_text : ByteArray := prog_1_method_36_code
def yX0_text : MethodName := ⟨RX0, "text", "(I)I"⟩
def dkwX0_text_3 : List UInt8 := [191]
abbrev dktX0_text_3 : List UInt8 := dkwX0_text_3 ++ []
def dkwX0_text_2 : List UInt8 := [180, 1, 186, 181, 0, 106, 2, 62, 42, 3, 181, 0, 230, 29, 172, 58, 4, 42, 3, 181, 0, 230, 25, 4]
abbrev dktX0_text_2 : List UInt8 := dkwX0_text_2 ++ dktX0_text_3
def dkwX0_text_1 : List UInt8 := [167, 0, 4, 2, 61, 42, 3, 181, 0, 230, 28, 172, 77, 42, 44, 180, 1, 184, 181, 1, 178, 42, 44]
abbrev dktX0_text_1 : List UInt8 := dkwX0_text_1 ++ dktX0_text_2
def dkwX0_text_0 : List UInt8 := [42, 3, 181, 1, 178, 42, 2, 181, 0, 106, 27, 3, 6, 184, 0, 237, 153, 0, 11, 42, 27, 182, 1, 181]
abbrev dktX0_text_0 : List UInt8 := dkwX0_text_0 ++ dktX0_text_1
theorem dksX0_text_0 : cX0_text.data.toList.drop 0 = dktX0_text_0 := by decide +kernel
theorem dksX0_text_1 : cX0_text.data.toList.drop 24 = dktX0_text_1 := dk_seg dksX0_text_0 24 rfl rfl
theorem dksX0_text_2 : cX0_text.data.toList.drop 47 = dktX0_text_2 := dk_seg dksX0_text_1 23 rfl rfl
theorem dksX0_text_3 : cX0_text.data.toList.drop 71 = dktX0_text_3 := dk_seg dksX0_text_2 24 rfl rfl
theorem dX0_text_0 : decode cX0_text 0 = .ok (.aload_n 0, 1) := dk_42 (dk_at dksX0_text_0 0 rfl rfl)
theorem dX0_text_1 : decode cX0_text 1 = .ok (.iconst 0, 1) := dk_3 (dk_at dksX0_text_0 1 rfl rfl)
theorem dX0_text_2 : decode cX0_text 2 = .ok (.putfield 434, 3) := dk_181 1 178 (dk_at dksX0_text_0 2 rfl rfl)
theorem dX0_text_5 : decode cX0_text 5 = .ok (.aload_n 0, 1) := dk_42 (dk_at dksX0_text_0 5 rfl rfl)
theorem dX0_text_6 : decode cX0_text 6 = .ok (.iconst (-1), 1) := dk_2 (dk_at dksX0_text_0 6 rfl rfl)
theorem dX0_text_7 : decode cX0_text 7 = .ok (.putfield 106, 3) := dk_181 0 106 (dk_at dksX0_text_0 7 rfl rfl)
theorem dX0_text_10 : decode cX0_text 10 = .ok (.iload_n 1, 1) := dk_27 (dk_at dksX0_text_0 10 rfl rfl)
theorem dX0_text_11 : decode cX0_text 11 = .ok (.iconst 0, 1) := dk_3 (dk_at dksX0_text_0 11 rfl rfl)
theorem dX0_text_12 : decode cX0_text 12 = .ok (.iconst 3, 1) := dk_6 (dk_at dksX0_text_0 12 rfl rfl)
theorem dX0_text_13 : decode cX0_text 13 = .ok (.invokestatic 237, 3) := dk_184 0 237 (dk_at dksX0_text_0 13 rfl rfl)
theorem dX0_text_16 : decode cX0_text 16 = .ok (.ifCond .eq 11, 3) := dk_153 0 11 (dk_at dksX0_text_0 16 rfl rfl)
theorem dX0_text_19 : decode cX0_text 19 = .ok (.aload_n 0, 1) := dk_42 (dk_at dksX0_text_0 19 rfl rfl)
theorem dX0_text_20 : decode cX0_text 20 = .ok (.iload_n 1, 1) := dk_27 (dk_at dksX0_text_0 20 rfl rfl)
theorem dX0_text_21 : decode cX0_text 21 = .ok (.invokevirtual 437, 3) := dk_182 1 181 (dk_at dksX0_text_0 21 rfl rfl)
theorem dX0_text_24 : decode cX0_text 24 = .ok (.goto 4, 3) := dk_167 0 4 (dk_at dksX0_text_1 0 rfl rfl)
theorem dX0_text_27 : decode cX0_text 27 = .ok (.iconst (-1), 1) := dk_2 (dk_at dksX0_text_1 3 rfl rfl)
theorem dX0_text_28 : decode cX0_text 28 = .ok (.istore_n 2, 1) := dk_61 (dk_at dksX0_text_1 4 rfl rfl)
theorem dX0_text_29 : decode cX0_text 29 = .ok (.aload_n 0, 1) := dk_42 (dk_at dksX0_text_1 5 rfl rfl)
theorem dX0_text_30 : decode cX0_text 30 = .ok (.iconst 0, 1) := dk_3 (dk_at dksX0_text_1 6 rfl rfl)
theorem dX0_text_31 : decode cX0_text 31 = .ok (.putfield 230, 3) := dk_181 0 230 (dk_at dksX0_text_1 7 rfl rfl)
theorem dX0_text_34 : decode cX0_text 34 = .ok (.iload_n 2, 1) := dk_28 (dk_at dksX0_text_1 10 rfl rfl)
theorem dX0_text_35 : decode cX0_text 35 = .ok (.ireturn, 1) := dk_172 (dk_at dksX0_text_1 11 rfl rfl)
theorem dX0_text_36 : decode cX0_text 36 = .ok (.astore_n 2, 1) := dk_77 (dk_at dksX0_text_1 12 rfl rfl)
theorem dX0_text_37 : decode cX0_text 37 = .ok (.aload_n 0, 1) := dk_42 (dk_at dksX0_text_1 13 rfl rfl)
theorem dX0_text_38 : decode cX0_text 38 = .ok (.aload_n 2, 1) := dk_44 (dk_at dksX0_text_1 14 rfl rfl)
theorem dX0_text_39 : decode cX0_text 39 = .ok (.getfield 440, 3) := dk_180 1 184 (dk_at dksX0_text_1 15 rfl rfl)
theorem dX0_text_42 : decode cX0_text 42 = .ok (.putfield 434, 3) := dk_181 1 178 (dk_at dksX0_text_1 18 rfl rfl)
theorem dX0_text_45 : decode cX0_text 45 = .ok (.aload_n 0, 1) := dk_42 (dk_at dksX0_text_1 21 rfl rfl)
theorem dX0_text_46 : decode cX0_text 46 = .ok (.aload_n 2, 1) := dk_44 (dk_at dksX0_text_1 22 rfl rfl)
theorem dX0_text_47 : decode cX0_text 47 = .ok (.getfield 442, 3) := dk_180 1 186 (dk_at dksX0_text_2 0 rfl rfl)
theorem dX0_text_50 : decode cX0_text 50 = .ok (.putfield 106, 3) := dk_181 0 106 (dk_at dksX0_text_2 3 rfl rfl)
theorem dX0_text_53 : decode cX0_text 53 = .ok (.iconst (-1), 1) := dk_2 (dk_at dksX0_text_2 6 rfl rfl)
theorem dX0_text_54 : decode cX0_text 54 = .ok (.istore_n 3, 1) := dk_62 (dk_at dksX0_text_2 7 rfl rfl)
theorem dX0_text_55 : decode cX0_text 55 = .ok (.aload_n 0, 1) := dk_42 (dk_at dksX0_text_2 8 rfl rfl)
theorem dX0_text_56 : decode cX0_text 56 = .ok (.iconst 0, 1) := dk_3 (dk_at dksX0_text_2 9 rfl rfl)
theorem dX0_text_57 : decode cX0_text 57 = .ok (.putfield 230, 3) := dk_181 0 230 (dk_at dksX0_text_2 10 rfl rfl)
theorem dX0_text_60 : decode cX0_text 60 = .ok (.iload_n 3, 1) := dk_29 (dk_at dksX0_text_2 13 rfl rfl)
theorem dX0_text_61 : decode cX0_text 61 = .ok (.ireturn, 1) := dk_172 (dk_at dksX0_text_2 14 rfl rfl)
theorem dX0_text_62 : decode cX0_text 62 = .ok (.astore 4, 2) := dk_58 4 (dk_at dksX0_text_2 15 rfl rfl)
theorem dX0_text_64 : decode cX0_text 64 = .ok (.aload_n 0, 1) := dk_42 (dk_at dksX0_text_2 17 rfl rfl)
theorem dX0_text_65 : decode cX0_text 65 = .ok (.iconst 0, 1) := dk_3 (dk_at dksX0_text_2 18 rfl rfl)
theorem dX0_text_66 : decode cX0_text 66 = .ok (.putfield 230, 3) := dk_181 0 230 (dk_at dksX0_text_2 19 rfl rfl)
theorem dX0_text_69 : decode cX0_text 69 = .ok (.aload 4, 2) := dk_25 4 (dk_at dksX0_text_2 22 rfl rfl)
theorem dX0_text_71 : decode cX0_text 71 = .ok (.athrow, 1) := dk_191 (dk_at dksX0_text_3 0 rfl rfl)
abbrev cX0_readsText : ByteArray := prog_1_method_35_code
def yX0_readsText : MethodName := ⟨RX0, "readsText", "(I)I"⟩
def dkwX0_readsText_2 : List UInt8 := [27, 4, 160, 0, 11, 42, 44, 181, 0, 117, 167, 0, 8, 42, 44, 181, 0, 113, 44, 180, 1, 112, 172]
abbrev dktX0_readsText_2 : List UInt8 := dkwX0_readsText_2 ++ []
def dkwX0_readsText_1 : List UInt8 := [42, 42, 182, 1, 166, 182, 1, 170, 172, 42, 27, 4, 160, 0, 7, 4, 167, 0, 4, 3, 182, 1, 174, 77]
abbrev dktX0_readsText_1 : List UInt8 := dkwX0_readsText_1 ++ dktX0_readsText_2
def dkwX0_readsText_0 : List UInt8 := [42, 27, 182, 1, 155, 27, 5, 160, 0, 12, 42, 42, 182, 1, 158, 182, 1, 162, 172, 27, 6, 160, 0, 12]
abbrev dktX0_readsText_0 : List UInt8 := dkwX0_readsText_0 ++ dktX0_readsText_1
theorem dksX0_readsText_0 : cX0_readsText.data.toList.drop 0 = dktX0_readsText_0 := by decide +kernel
theorem dksX0_readsText_1 : cX0_readsText.data.toList.drop 24 = dktX0_readsText_1 := dk_seg dksX0_readsText_0 24 rfl rfl
theorem dksX0_readsText_2 : cX0_readsText.data.toList.drop 48 = dktX0_readsText_2 := dk_seg dksX0_readsText_1 24 rfl rfl
theorem dX0_readsText_0 : decode cX0_readsText 0 = .ok (.aload_n 0, 1) := dk_42 (dk_at dksX0_readsText_0 0 rfl rfl)
theorem dX0_readsText_1 : decode cX0_readsText 1 = .ok (.iload_n 1, 1) := dk_27 (dk_at dksX0_readsText_0 1 rfl rfl)
theorem dX0_readsText_2 : decode cX0_readsText 2 = .ok (.invokevirtual 411, 3) := dk_182 1 155 (dk_at dksX0_readsText_0 2 rfl rfl)
theorem dX0_readsText_5 : decode cX0_readsText 5 = .ok (.iload_n 1, 1) := dk_27 (dk_at dksX0_readsText_0 5 rfl rfl)
theorem dX0_readsText_6 : decode cX0_readsText 6 = .ok (.iconst 2, 1) := dk_5 (dk_at dksX0_readsText_0 6 rfl rfl)
theorem dX0_readsText_7 : decode cX0_readsText 7 = .ok (.if_icmp .ne 12, 3) := dk_160 0 12 (dk_at dksX0_readsText_0 7 rfl rfl)
theorem dX0_readsText_10 : decode cX0_readsText 10 = .ok (.aload_n 0, 1) := dk_42 (dk_at dksX0_readsText_0 10 rfl rfl)
theorem dX0_readsText_11 : decode cX0_readsText 11 = .ok (.aload_n 0, 1) := dk_42 (dk_at dksX0_readsText_0 11 rfl rfl)
theorem dX0_readsText_12 : decode cX0_readsText 12 = .ok (.invokevirtual 414, 3) := dk_182 1 158 (dk_at dksX0_readsText_0 12 rfl rfl)
theorem dX0_readsText_15 : decode cX0_readsText 15 = .ok (.invokevirtual 418, 3) := dk_182 1 162 (dk_at dksX0_readsText_0 15 rfl rfl)
theorem dX0_readsText_18 : decode cX0_readsText 18 = .ok (.ireturn, 1) := dk_172 (dk_at dksX0_readsText_0 18 rfl rfl)
theorem dX0_readsText_19 : decode cX0_readsText 19 = .ok (.iload_n 1, 1) := dk_27 (dk_at dksX0_readsText_0 19 rfl rfl)
theorem dX0_readsText_20 : decode cX0_readsText 20 = .ok (.iconst 3, 1) := dk_6 (dk_at dksX0_readsText_0 20 rfl rfl)
theorem dX0_readsText_21 : decode cX0_readsText 21 = .ok (.if_icmp .ne 12, 3) := dk_160 0 12 (dk_at dksX0_readsText_0 21 rfl rfl)
theorem dX0_readsText_24 : decode cX0_readsText 24 = .ok (.aload_n 0, 1) := dk_42 (dk_at dksX0_readsText_1 0 rfl rfl)
theorem dX0_readsText_25 : decode cX0_readsText 25 = .ok (.aload_n 0, 1) := dk_42 (dk_at dksX0_readsText_1 1 rfl rfl)
theorem dX0_readsText_26 : decode cX0_readsText 26 = .ok (.invokevirtual 422, 3) := dk_182 1 166 (dk_at dksX0_readsText_1 2 rfl rfl)
theorem dX0_readsText_29 : decode cX0_readsText 29 = .ok (.invokevirtual 426, 3) := dk_182 1 170 (dk_at dksX0_readsText_1 5 rfl rfl)
theorem dX0_readsText_32 : decode cX0_readsText 32 = .ok (.ireturn, 1) := dk_172 (dk_at dksX0_readsText_1 8 rfl rfl)
theorem dX0_readsText_33 : decode cX0_readsText 33 = .ok (.aload_n 0, 1) := dk_42 (dk_at dksX0_readsText_1 9 rfl rfl)
theorem dX0_readsText_34 : decode cX0_readsText 34 = .ok (.iload_n 1, 1) := dk_27 (dk_at dksX0_readsText_1 10 rfl rfl)
theorem dX0_readsText_35 : decode cX0_readsText 35 = .ok (.iconst 1, 1) := dk_4 (dk_at dksX0_readsText_1 11 rfl rfl)
theorem dX0_readsText_36 : decode cX0_readsText 36 = .ok (.if_icmp .ne 7, 3) := dk_160 0 7 (dk_at dksX0_readsText_1 12 rfl rfl)
theorem dX0_readsText_39 : decode cX0_readsText 39 = .ok (.iconst 1, 1) := dk_4 (dk_at dksX0_readsText_1 15 rfl rfl)
theorem dX0_readsText_40 : decode cX0_readsText 40 = .ok (.goto 4, 3) := dk_167 0 4 (dk_at dksX0_readsText_1 16 rfl rfl)
theorem dX0_readsText_43 : decode cX0_readsText 43 = .ok (.iconst 0, 1) := dk_3 (dk_at dksX0_readsText_1 19 rfl rfl)
theorem dX0_readsText_44 : decode cX0_readsText 44 = .ok (.invokevirtual 430, 3) := dk_182 1 174 (dk_at dksX0_readsText_1 20 rfl rfl)
theorem dX0_readsText_47 : decode cX0_readsText 47 = .ok (.astore_n 2, 1) := dk_77 (dk_at dksX0_readsText_1 23 rfl rfl)
theorem dX0_readsText_48 : decode cX0_readsText 48 = .ok (.iload_n 1, 1) := dk_27 (dk_at dksX0_readsText_2 0 rfl rfl)
theorem dX0_readsText_49 : decode cX0_readsText 49 = .ok (.iconst 1, 1) := dk_4 (dk_at dksX0_readsText_2 1 rfl rfl)
theorem dX0_readsText_50 : decode cX0_readsText 50 = .ok (.if_icmp .ne 11, 3) := dk_160 0 11 (dk_at dksX0_readsText_2 2 rfl rfl)
theorem dX0_readsText_53 : decode cX0_readsText 53 = .ok (.aload_n 0, 1) := dk_42 (dk_at dksX0_readsText_2 5 rfl rfl)
theorem dX0_readsText_54 : decode cX0_readsText 54 = .ok (.aload_n 2, 1) := dk_44 (dk_at dksX0_readsText_2 6 rfl rfl)
theorem dX0_readsText_55 : decode cX0_readsText 55 = .ok (.putfield 117, 3) := dk_181 0 117 (dk_at dksX0_readsText_2 7 rfl rfl)
theorem dX0_readsText_58 : decode cX0_readsText 58 = .ok (.goto 8, 3) := dk_167 0 8 (dk_at dksX0_readsText_2 10 rfl rfl)
theorem dX0_readsText_61 : decode cX0_readsText 61 = .ok (.aload_n 0, 1) := dk_42 (dk_at dksX0_readsText_2 13 rfl rfl)
theorem dX0_readsText_62 : decode cX0_readsText 62 = .ok (.aload_n 2, 1) := dk_44 (dk_at dksX0_readsText_2 14 rfl rfl)
theorem dX0_readsText_63 : decode cX0_readsText 63 = .ok (.putfield 113, 3) := dk_181 0 113 (dk_at dksX0_readsText_2 15 rfl rfl)
theorem dX0_readsText_66 : decode cX0_readsText 66 = .ok (.aload_n 2, 1) := dk_44 (dk_at dksX0_readsText_2 18 rfl rfl)
theorem dX0_readsText_67 : decode cX0_readsText 67 = .ok (.getfield 368, 3) := dk_180 1 112 (dk_at dksX0_readsText_2 19 rfl rfl)
theorem dX0_readsText_70 : decode cX0_readsText 70 = .ok (.ireturn, 1) := dk_172 (dk_at dksX0_readsText_2 22 rfl rfl)
abbrev cX0_openText : ByteArray := prog_1_method_32_code
def yX0_openText : MethodName := ⟨RX0, "openText", "(I)V"⟩
def dkwX0_openText_2 : List UInt8 := [181, 0, 103, 42, 3, 181, 0, 245, 42, 3, 181, 1, 82, 42, 182, 1, 60, 177]
abbrev dktX0_openText_2 : List UInt8 := dkwX0_openText_2 ++ []
def dkwX0_openText_1 : List UInt8 := [180, 0, 94, 181, 0, 100, 42, 27, 4, 163, 0, 10, 42, 180, 0, 91, 167, 0, 7, 42, 180, 0, 94]
abbrev dktX0_openText_1 : List UInt8 := dkwX0_openText_1 ++ dktX0_openText_2
def dkwX0_openText_0 : List UInt8 := [42, 42, 180, 0, 56, 27, 50, 181, 0, 97, 42, 27, 4, 163, 0, 10, 42, 180, 0, 80, 167, 0, 7, 42]
abbrev dktX0_openText_0 : List UInt8 := dkwX0_openText_0 ++ dktX0_openText_1
theorem dksX0_openText_0 : cX0_openText.data.toList.drop 0 = dktX0_openText_0 := by decide +kernel
theorem dksX0_openText_1 : cX0_openText.data.toList.drop 24 = dktX0_openText_1 := dk_seg dksX0_openText_0 24 rfl rfl
theorem dksX0_openText_2 : cX0_openText.data.toList.drop 47 = dktX0_openText_2 := dk_seg dksX0_openText_1 23 rfl rfl
theorem dX0_openText_0 : decode cX0_openText 0 = .ok (.aload_n 0, 1) := dk_42 (dk_at dksX0_openText_0 0 rfl rfl)
theorem dX0_openText_1 : decode cX0_openText 1 = .ok (.aload_n 0, 1) := dk_42 (dk_at dksX0_openText_0 1 rfl rfl)
theorem dX0_openText_2 : decode cX0_openText 2 = .ok (.getfield 56, 3) := dk_180 0 56 (dk_at dksX0_openText_0 2 rfl rfl)
theorem dX0_openText_5 : decode cX0_openText 5 = .ok (.iload_n 1, 1) := dk_27 (dk_at dksX0_openText_0 5 rfl rfl)
theorem dX0_openText_6 : decode cX0_openText 6 = .ok (.aaload, 1) := dk_50 (dk_at dksX0_openText_0 6 rfl rfl)
theorem dX0_openText_7 : decode cX0_openText 7 = .ok (.putfield 97, 3) := dk_181 0 97 (dk_at dksX0_openText_0 7 rfl rfl)
theorem dX0_openText_10 : decode cX0_openText 10 = .ok (.aload_n 0, 1) := dk_42 (dk_at dksX0_openText_0 10 rfl rfl)
theorem dX0_openText_11 : decode cX0_openText 11 = .ok (.iload_n 1, 1) := dk_27 (dk_at dksX0_openText_0 11 rfl rfl)
theorem dX0_openText_12 : decode cX0_openText 12 = .ok (.iconst 1, 1) := dk_4 (dk_at dksX0_openText_0 12 rfl rfl)
theorem dX0_openText_13 : decode cX0_openText 13 = .ok (.if_icmp .gt 10, 3) := dk_163 0 10 (dk_at dksX0_openText_0 13 rfl rfl)
theorem dX0_openText_16 : decode cX0_openText 16 = .ok (.aload_n 0, 1) := dk_42 (dk_at dksX0_openText_0 16 rfl rfl)
theorem dX0_openText_17 : decode cX0_openText 17 = .ok (.getfield 80, 3) := dk_180 0 80 (dk_at dksX0_openText_0 17 rfl rfl)
theorem dX0_openText_20 : decode cX0_openText 20 = .ok (.goto 7, 3) := dk_167 0 7 (dk_at dksX0_openText_0 20 rfl rfl)
theorem dX0_openText_23 : decode cX0_openText 23 = .ok (.aload_n 0, 1) := dk_42 (dk_at dksX0_openText_0 23 rfl rfl)
theorem dX0_openText_24 : decode cX0_openText 24 = .ok (.getfield 94, 3) := dk_180 0 94 (dk_at dksX0_openText_1 0 rfl rfl)
theorem dX0_openText_27 : decode cX0_openText 27 = .ok (.putfield 100, 3) := dk_181 0 100 (dk_at dksX0_openText_1 3 rfl rfl)
theorem dX0_openText_30 : decode cX0_openText 30 = .ok (.aload_n 0, 1) := dk_42 (dk_at dksX0_openText_1 6 rfl rfl)
theorem dX0_openText_31 : decode cX0_openText 31 = .ok (.iload_n 1, 1) := dk_27 (dk_at dksX0_openText_1 7 rfl rfl)
theorem dX0_openText_32 : decode cX0_openText 32 = .ok (.iconst 1, 1) := dk_4 (dk_at dksX0_openText_1 8 rfl rfl)
theorem dX0_openText_33 : decode cX0_openText 33 = .ok (.if_icmp .gt 10, 3) := dk_163 0 10 (dk_at dksX0_openText_1 9 rfl rfl)
theorem dX0_openText_36 : decode cX0_openText 36 = .ok (.aload_n 0, 1) := dk_42 (dk_at dksX0_openText_1 12 rfl rfl)
theorem dX0_openText_37 : decode cX0_openText 37 = .ok (.getfield 91, 3) := dk_180 0 91 (dk_at dksX0_openText_1 13 rfl rfl)
theorem dX0_openText_40 : decode cX0_openText 40 = .ok (.goto 7, 3) := dk_167 0 7 (dk_at dksX0_openText_1 16 rfl rfl)
theorem dX0_openText_43 : decode cX0_openText 43 = .ok (.aload_n 0, 1) := dk_42 (dk_at dksX0_openText_1 19 rfl rfl)
theorem dX0_openText_44 : decode cX0_openText 44 = .ok (.getfield 94, 3) := dk_180 0 94 (dk_at dksX0_openText_1 20 rfl rfl)
theorem dX0_openText_47 : decode cX0_openText 47 = .ok (.putfield 103, 3) := dk_181 0 103 (dk_at dksX0_openText_2 0 rfl rfl)
theorem dX0_openText_50 : decode cX0_openText 50 = .ok (.aload_n 0, 1) := dk_42 (dk_at dksX0_openText_2 3 rfl rfl)
theorem dX0_openText_51 : decode cX0_openText 51 = .ok (.iconst 0, 1) := dk_3 (dk_at dksX0_openText_2 4 rfl rfl)
theorem dX0_openText_52 : decode cX0_openText 52 = .ok (.putfield 245, 3) := dk_181 0 245 (dk_at dksX0_openText_2 5 rfl rfl)
theorem dX0_openText_55 : decode cX0_openText 55 = .ok (.aload_n 0, 1) := dk_42 (dk_at dksX0_openText_2 8 rfl rfl)
theorem dX0_openText_56 : decode cX0_openText 56 = .ok (.iconst 0, 1) := dk_3 (dk_at dksX0_openText_2 9 rfl rfl)
theorem dX0_openText_57 : decode cX0_openText 57 = .ok (.putfield 338, 3) := dk_181 1 82 (dk_at dksX0_openText_2 10 rfl rfl)
theorem dX0_openText_60 : decode cX0_openText 60 = .ok (.aload_n 0, 1) := dk_42 (dk_at dksX0_openText_2 13 rfl rfl)
theorem dX0_openText_61 : decode cX0_openText 61 = .ok (.invokevirtual 316, 3) := dk_182 1 60 (dk_at dksX0_openText_2 14 rfl rfl)
theorem dX0_openText_64 : decode cX0_openText 64 = .ok (.return_, 1) := dk_177 (dk_at dksX0_openText_2 17 rfl rfl)
abbrev cX0_readNext : ByteArray := prog_1_method_16_code
def yX0_readNext : MethodName := ⟨RX0, "readNext", "()V"⟩
def dkwX0_readNext_12 : List UInt8 := [178, 1, 15, 181, 1, 2, 42, 27, 181, 1, 18, 177]
abbrev dktX0_readNext_12 : List UInt8 := dkwX0_readNext_12 ++ []
def dkwX0_readNext_11 : List UInt8 := [163, 0, 35, 42, 178, 1, 39, 181, 1, 2, 167, 0, 25, 19, 1, 42, 27, 182, 1, 44, 155, 0, 15, 42]
abbrev dktX0_readNext_11 : List UInt8 := dkwX0_readNext_11 ++ dktX0_readNext_12
def dkwX0_readNext_10 : List UInt8 := [89, 180, 0, 245, 4, 96, 181, 0, 245, 167, 255, 203, 42, 180, 0, 245, 42, 180, 0, 248, 100, 7]
abbrev dktX0_readNext_10 : List UInt8 := dkwX0_readNext_10 ++ dktX0_readNext_11
def dkwX0_readNext_9 : List UInt8 := [42, 180, 1, 18, 104, 42, 42, 180, 0, 245, 182, 0, 250, 96, 16, 48, 100, 184, 0, 1, 181, 1, 18, 42]
abbrev dktX0_readNext_9 : List UInt8 := dkwX0_readNext_9 ++ dktX0_readNext_10
def dkwX0_readNext_8 : List UInt8 := [100, 181, 1, 18, 42, 42, 180, 0, 245, 182, 0, 250, 184, 1, 35, 153, 0, 45, 42, 19, 1, 38, 16, 10]
abbrev dktX0_readNext_8 : List UInt8 := dkwX0_readNext_8 ++ dktX0_readNext_9
def dkwX0_readNext_7 : List UInt8 := [160, 0, 129, 42, 178, 1, 24, 181, 1, 2, 167, 0, 119, 27, 184, 1, 35, 153, 0, 90, 42, 27, 16, 48]
abbrev dktX0_readNext_7 : List UInt8 := dkwX0_readNext_7 ++ dktX0_readNext_8
def dkwX0_readNext_6 : List UInt8 := [160, 0, 153, 42, 42, 180, 0, 100, 182, 1, 31, 2, 160, 0, 141, 42, 42, 180, 0, 103, 182, 1, 31, 2]
abbrev dktX0_readNext_6 : List UInt8 := dkwX0_readNext_6 ++ dktX0_readNext_7
def dkwX0_readNext_5 : List UInt8 := [181, 0, 245, 167, 255, 232, 42, 178, 1, 6, 181, 1, 2, 42, 42, 180, 0, 97, 182, 1, 31, 2]
abbrev dktX0_readNext_5 : List UInt8 := dkwX0_readNext_5 ++ dktX0_readNext_6
def dkwX0_readNext_4 : List UInt8 := [153, 0, 83, 42, 42, 180, 0, 245, 182, 0, 250, 184, 1, 27, 153, 0, 16, 42, 89, 180, 0, 245, 4, 96]
abbrev dktX0_readNext_4 : List UInt8 := dkwX0_readNext_4 ++ dktX0_readNext_5
def dkwX0_readNext_3 : List UInt8 := [181, 1, 2, 27, 2, 160, 0, 4, 177, 42, 89, 180, 0, 245, 4, 96, 181, 0, 245, 27, 184, 1, 27]
abbrev dktX0_readNext_3 : List UInt8 := dkwX0_readNext_3 ++ dktX0_readNext_4
def dkwX0_readNext_2 : List UInt8 := [42, 42, 180, 0, 245, 182, 0, 250, 60, 42, 27, 2, 160, 0, 9, 178, 1, 21, 167, 0, 6, 178, 1, 24]
abbrev dktX0_readNext_2 : List UInt8 := dkwX0_readNext_2 ++ dktX0_readNext_3
def dkwX0_readNext_1 : List UInt8 := [160, 0, 16, 42, 89, 180, 0, 245, 4, 96, 181, 0, 245, 167, 255, 220, 42, 42, 180, 0, 245, 181, 0, 248]
abbrev dktX0_readNext_1 : List UInt8 := dkwX0_readNext_1 ++ dktX0_readNext_2
def dkwX0_readNext_0 : List UInt8 := [42, 42, 180, 0, 245, 182, 0, 250, 16, 32, 159, 0, 16, 42, 42, 180, 0, 245, 182, 0, 250, 16, 10]
abbrev dktX0_readNext_0 : List UInt8 := dkwX0_readNext_0 ++ dktX0_readNext_1
theorem dksX0_readNext_0 : cX0_readNext.data.toList.drop 0 = dktX0_readNext_0 := by decide +kernel
theorem dksX0_readNext_1 : cX0_readNext.data.toList.drop 23 = dktX0_readNext_1 := dk_seg dksX0_readNext_0 23 rfl rfl
theorem dksX0_readNext_2 : cX0_readNext.data.toList.drop 47 = dktX0_readNext_2 := dk_seg dksX0_readNext_1 24 rfl rfl
theorem dksX0_readNext_3 : cX0_readNext.data.toList.drop 71 = dktX0_readNext_3 := dk_seg dksX0_readNext_2 24 rfl rfl
theorem dksX0_readNext_4 : cX0_readNext.data.toList.drop 94 = dktX0_readNext_4 := dk_seg dksX0_readNext_3 23 rfl rfl
theorem dksX0_readNext_5 : cX0_readNext.data.toList.drop 118 = dktX0_readNext_5 := dk_seg dksX0_readNext_4 24 rfl rfl
theorem dksX0_readNext_6 : cX0_readNext.data.toList.drop 140 = dktX0_readNext_6 := dk_seg dksX0_readNext_5 22 rfl rfl
theorem dksX0_readNext_7 : cX0_readNext.data.toList.drop 164 = dktX0_readNext_7 := dk_seg dksX0_readNext_6 24 rfl rfl
theorem dksX0_readNext_8 : cX0_readNext.data.toList.drop 188 = dktX0_readNext_8 := dk_seg dksX0_readNext_7 24 rfl rfl
theorem dksX0_readNext_9 : cX0_readNext.data.toList.drop 212 = dktX0_readNext_9 := dk_seg dksX0_readNext_8 24 rfl rfl
theorem dksX0_readNext_10 : cX0_readNext.data.toList.drop 236 = dktX0_readNext_10 := dk_seg dksX0_readNext_9 24 rfl rfl
theorem dksX0_readNext_11 : cX0_readNext.data.toList.drop 258 = dktX0_readNext_11 := dk_seg dksX0_readNext_10 22 rfl rfl
theorem dksX0_readNext_12 : cX0_readNext.data.toList.drop 282 = dktX0_readNext_12 := dk_seg dksX0_readNext_11 24 rfl rfl
theorem dX0_readNext_0 : decode cX0_readNext 0 = .ok (.aload_n 0, 1) := dk_42 (dk_at dksX0_readNext_0 0 rfl rfl)
theorem dX0_readNext_1 : decode cX0_readNext 1 = .ok (.aload_n 0, 1) := dk_42 (dk_at dksX0_readNext_0 1 rfl rfl)
theorem dX0_readNext_2 : decode cX0_readNext 2 = .ok (.getfield 245, 3) := dk_180 0 245 (dk_at dksX0_readNext_0 2 rfl rfl)
theorem dX0_readNext_5 : decode cX0_readNext 5 = .ok (.invokevirtual 250, 3) := dk_182 0 250 (dk_at dksX0_readNext_0 5 rfl rfl)
theorem dX0_readNext_8 : decode cX0_readNext 8 = .ok (.bipush 32, 2) := dk_16 32 (dk_at dksX0_readNext_0 8 rfl rfl)
theorem dX0_readNext_10 : decode cX0_readNext 10 = .ok (.if_icmp .eq 16, 3) := dk_159 0 16 (dk_at dksX0_readNext_0 10 rfl rfl)
theorem dX0_readNext_13 : decode cX0_readNext 13 = .ok (.aload_n 0, 1) := dk_42 (dk_at dksX0_readNext_0 13 rfl rfl)
theorem dX0_readNext_14 : decode cX0_readNext 14 = .ok (.aload_n 0, 1) := dk_42 (dk_at dksX0_readNext_0 14 rfl rfl)
theorem dX0_readNext_15 : decode cX0_readNext 15 = .ok (.getfield 245, 3) := dk_180 0 245 (dk_at dksX0_readNext_0 15 rfl rfl)
theorem dX0_readNext_18 : decode cX0_readNext 18 = .ok (.invokevirtual 250, 3) := dk_182 0 250 (dk_at dksX0_readNext_0 18 rfl rfl)
theorem dX0_readNext_21 : decode cX0_readNext 21 = .ok (.bipush 10, 2) := dk_16 10 (dk_at dksX0_readNext_0 21 rfl rfl)
theorem dX0_readNext_23 : decode cX0_readNext 23 = .ok (.if_icmp .ne 16, 3) := dk_160 0 16 (dk_at dksX0_readNext_1 0 rfl rfl)
theorem dX0_readNext_26 : decode cX0_readNext 26 = .ok (.aload_n 0, 1) := dk_42 (dk_at dksX0_readNext_1 3 rfl rfl)
theorem dX0_readNext_27 : decode cX0_readNext 27 = .ok (.dup, 1) := dk_89 (dk_at dksX0_readNext_1 4 rfl rfl)
theorem dX0_readNext_28 : decode cX0_readNext 28 = .ok (.getfield 245, 3) := dk_180 0 245 (dk_at dksX0_readNext_1 5 rfl rfl)
theorem dX0_readNext_31 : decode cX0_readNext 31 = .ok (.iconst 1, 1) := dk_4 (dk_at dksX0_readNext_1 8 rfl rfl)
theorem dX0_readNext_32 : decode cX0_readNext 32 = .ok (.iadd, 1) := dk_96 (dk_at dksX0_readNext_1 9 rfl rfl)
theorem dX0_readNext_33 : decode cX0_readNext 33 = .ok (.putfield 245, 3) := dk_181 0 245 (dk_at dksX0_readNext_1 10 rfl rfl)
theorem dX0_readNext_36 : decode cX0_readNext 36 = .ok (.goto (-36), 3) := dk_167 255 220 (dk_at dksX0_readNext_1 13 rfl rfl)
theorem dX0_readNext_39 : decode cX0_readNext 39 = .ok (.aload_n 0, 1) := dk_42 (dk_at dksX0_readNext_1 16 rfl rfl)
theorem dX0_readNext_40 : decode cX0_readNext 40 = .ok (.aload_n 0, 1) := dk_42 (dk_at dksX0_readNext_1 17 rfl rfl)
theorem dX0_readNext_41 : decode cX0_readNext 41 = .ok (.getfield 245, 3) := dk_180 0 245 (dk_at dksX0_readNext_1 18 rfl rfl)
theorem dX0_readNext_44 : decode cX0_readNext 44 = .ok (.putfield 248, 3) := dk_181 0 248 (dk_at dksX0_readNext_1 21 rfl rfl)
theorem dX0_readNext_47 : decode cX0_readNext 47 = .ok (.aload_n 0, 1) := dk_42 (dk_at dksX0_readNext_2 0 rfl rfl)
theorem dX0_readNext_48 : decode cX0_readNext 48 = .ok (.aload_n 0, 1) := dk_42 (dk_at dksX0_readNext_2 1 rfl rfl)
theorem dX0_readNext_49 : decode cX0_readNext 49 = .ok (.getfield 245, 3) := dk_180 0 245 (dk_at dksX0_readNext_2 2 rfl rfl)
theorem dX0_readNext_52 : decode cX0_readNext 52 = .ok (.invokevirtual 250, 3) := dk_182 0 250 (dk_at dksX0_readNext_2 5 rfl rfl)
theorem dX0_readNext_55 : decode cX0_readNext 55 = .ok (.istore_n 1, 1) := dk_60 (dk_at dksX0_readNext_2 8 rfl rfl)
theorem dX0_readNext_56 : decode cX0_readNext 56 = .ok (.aload_n 0, 1) := dk_42 (dk_at dksX0_readNext_2 9 rfl rfl)
theorem dX0_readNext_57 : decode cX0_readNext 57 = .ok (.iload_n 1, 1) := dk_27 (dk_at dksX0_readNext_2 10 rfl rfl)
theorem dX0_readNext_58 : decode cX0_readNext 58 = .ok (.iconst (-1), 1) := dk_2 (dk_at dksX0_readNext_2 11 rfl rfl)
theorem dX0_readNext_59 : decode cX0_readNext 59 = .ok (.if_icmp .ne 9, 3) := dk_160 0 9 (dk_at dksX0_readNext_2 12 rfl rfl)
theorem dX0_readNext_62 : decode cX0_readNext 62 = .ok (.getstatic 277, 3) := dk_178 1 21 (dk_at dksX0_readNext_2 15 rfl rfl)
theorem dX0_readNext_65 : decode cX0_readNext 65 = .ok (.goto 6, 3) := dk_167 0 6 (dk_at dksX0_readNext_2 18 rfl rfl)
theorem dX0_readNext_68 : decode cX0_readNext 68 = .ok (.getstatic 280, 3) := dk_178 1 24 (dk_at dksX0_readNext_2 21 rfl rfl)
theorem dX0_readNext_71 : decode cX0_readNext 71 = .ok (.putfield 258, 3) := dk_181 1 2 (dk_at dksX0_readNext_3 0 rfl rfl)
theorem dX0_readNext_74 : decode cX0_readNext 74 = .ok (.iload_n 1, 1) := dk_27 (dk_at dksX0_readNext_3 3 rfl rfl)
theorem dX0_readNext_75 : decode cX0_readNext 75 = .ok (.iconst (-1), 1) := dk_2 (dk_at dksX0_readNext_3 4 rfl rfl)
theorem dX0_readNext_76 : decode cX0_readNext 76 = .ok (.if_icmp .ne 4, 3) := dk_160 0 4 (dk_at dksX0_readNext_3 5 rfl rfl)
theorem dX0_readNext_79 : decode cX0_readNext 79 = .ok (.return_, 1) := dk_177 (dk_at dksX0_readNext_3 8 rfl rfl)
theorem dX0_readNext_80 : decode cX0_readNext 80 = .ok (.aload_n 0, 1) := dk_42 (dk_at dksX0_readNext_3 9 rfl rfl)
theorem dX0_readNext_81 : decode cX0_readNext 81 = .ok (.dup, 1) := dk_89 (dk_at dksX0_readNext_3 10 rfl rfl)
theorem dX0_readNext_82 : decode cX0_readNext 82 = .ok (.getfield 245, 3) := dk_180 0 245 (dk_at dksX0_readNext_3 11 rfl rfl)
theorem dX0_readNext_85 : decode cX0_readNext 85 = .ok (.iconst 1, 1) := dk_4 (dk_at dksX0_readNext_3 14 rfl rfl)
theorem dX0_readNext_86 : decode cX0_readNext 86 = .ok (.iadd, 1) := dk_96 (dk_at dksX0_readNext_3 15 rfl rfl)
theorem dX0_readNext_87 : decode cX0_readNext 87 = .ok (.putfield 245, 3) := dk_181 0 245 (dk_at dksX0_readNext_3 16 rfl rfl)
theorem dX0_readNext_90 : decode cX0_readNext 90 = .ok (.iload_n 1, 1) := dk_27 (dk_at dksX0_readNext_3 19 rfl rfl)
theorem dX0_readNext_91 : decode cX0_readNext 91 = .ok (.invokestatic 283, 3) := dk_184 1 27 (dk_at dksX0_readNext_3 20 rfl rfl)
theorem dX0_readNext_94 : decode cX0_readNext 94 = .ok (.ifCond .eq 83, 3) := dk_153 0 83 (dk_at dksX0_readNext_4 0 rfl rfl)
theorem dX0_readNext_97 : decode cX0_readNext 97 = .ok (.aload_n 0, 1) := dk_42 (dk_at dksX0_readNext_4 3 rfl rfl)
theorem dX0_readNext_98 : decode cX0_readNext 98 = .ok (.aload_n 0, 1) := dk_42 (dk_at dksX0_readNext_4 4 rfl rfl)
theorem dX0_readNext_99 : decode cX0_readNext 99 = .ok (.getfield 245, 3) := dk_180 0 245 (dk_at dksX0_readNext_4 5 rfl rfl)
theorem dX0_readNext_102 : decode cX0_readNext 102 = .ok (.invokevirtual 250, 3) := dk_182 0 250 (dk_at dksX0_readNext_4 8 rfl rfl)
theorem dX0_readNext_105 : decode cX0_readNext 105 = .ok (.invokestatic 283, 3) := dk_184 1 27 (dk_at dksX0_readNext_4 11 rfl rfl)
theorem dX0_readNext_108 : decode cX0_readNext 108 = .ok (.ifCond .eq 16, 3) := dk_153 0 16 (dk_at dksX0_readNext_4 14 rfl rfl)
theorem dX0_readNext_111 : decode cX0_readNext 111 = .ok (.aload_n 0, 1) := dk_42 (dk_at dksX0_readNext_4 17 rfl rfl)
theorem dX0_readNext_112 : decode cX0_readNext 112 = .ok (.dup, 1) := dk_89 (dk_at dksX0_readNext_4 18 rfl rfl)
theorem dX0_readNext_113 : decode cX0_readNext 113 = .ok (.getfield 245, 3) := dk_180 0 245 (dk_at dksX0_readNext_4 19 rfl rfl)
theorem dX0_readNext_116 : decode cX0_readNext 116 = .ok (.iconst 1, 1) := dk_4 (dk_at dksX0_readNext_4 22 rfl rfl)
theorem dX0_readNext_117 : decode cX0_readNext 117 = .ok (.iadd, 1) := dk_96 (dk_at dksX0_readNext_4 23 rfl rfl)
theorem dX0_readNext_118 : decode cX0_readNext 118 = .ok (.putfield 245, 3) := dk_181 0 245 (dk_at dksX0_readNext_5 0 rfl rfl)
theorem dX0_readNext_121 : decode cX0_readNext 121 = .ok (.goto (-24), 3) := dk_167 255 232 (dk_at dksX0_readNext_5 3 rfl rfl)
theorem dX0_readNext_124 : decode cX0_readNext 124 = .ok (.aload_n 0, 1) := dk_42 (dk_at dksX0_readNext_5 6 rfl rfl)
theorem dX0_readNext_125 : decode cX0_readNext 125 = .ok (.getstatic 262, 3) := dk_178 1 6 (dk_at dksX0_readNext_5 7 rfl rfl)
theorem dX0_readNext_128 : decode cX0_readNext 128 = .ok (.putfield 258, 3) := dk_181 1 2 (dk_at dksX0_readNext_5 10 rfl rfl)
theorem dX0_readNext_131 : decode cX0_readNext 131 = .ok (.aload_n 0, 1) := dk_42 (dk_at dksX0_readNext_5 13 rfl rfl)
theorem dX0_readNext_132 : decode cX0_readNext 132 = .ok (.aload_n 0, 1) := dk_42 (dk_at dksX0_readNext_5 14 rfl rfl)
theorem dX0_readNext_133 : decode cX0_readNext 133 = .ok (.getfield 97, 3) := dk_180 0 97 (dk_at dksX0_readNext_5 15 rfl rfl)
theorem dX0_readNext_136 : decode cX0_readNext 136 = .ok (.invokevirtual 287, 3) := dk_182 1 31 (dk_at dksX0_readNext_5 18 rfl rfl)
theorem dX0_readNext_139 : decode cX0_readNext 139 = .ok (.iconst (-1), 1) := dk_2 (dk_at dksX0_readNext_5 21 rfl rfl)
theorem dX0_readNext_140 : decode cX0_readNext 140 = .ok (.if_icmp .ne 153, 3) := dk_160 0 153 (dk_at dksX0_readNext_6 0 rfl rfl)
theorem dX0_readNext_143 : decode cX0_readNext 143 = .ok (.aload_n 0, 1) := dk_42 (dk_at dksX0_readNext_6 3 rfl rfl)
theorem dX0_readNext_144 : decode cX0_readNext 144 = .ok (.aload_n 0, 1) := dk_42 (dk_at dksX0_readNext_6 4 rfl rfl)
theorem dX0_readNext_145 : decode cX0_readNext 145 = .ok (.getfield 100, 3) := dk_180 0 100 (dk_at dksX0_readNext_6 5 rfl rfl)
theorem dX0_readNext_148 : decode cX0_readNext 148 = .ok (.invokevirtual 287, 3) := dk_182 1 31 (dk_at dksX0_readNext_6 8 rfl rfl)
theorem dX0_readNext_151 : decode cX0_readNext 151 = .ok (.iconst (-1), 1) := dk_2 (dk_at dksX0_readNext_6 11 rfl rfl)
theorem dX0_readNext_152 : decode cX0_readNext 152 = .ok (.if_icmp .ne 141, 3) := dk_160 0 141 (dk_at dksX0_readNext_6 12 rfl rfl)
theorem dX0_readNext_155 : decode cX0_readNext 155 = .ok (.aload_n 0, 1) := dk_42 (dk_at dksX0_readNext_6 15 rfl rfl)
theorem dX0_readNext_156 : decode cX0_readNext 156 = .ok (.aload_n 0, 1) := dk_42 (dk_at dksX0_readNext_6 16 rfl rfl)
theorem dX0_readNext_157 : decode cX0_readNext 157 = .ok (.getfield 103, 3) := dk_180 0 103 (dk_at dksX0_readNext_6 17 rfl rfl)
theorem dX0_readNext_160 : decode cX0_readNext 160 = .ok (.invokevirtual 287, 3) := dk_182 1 31 (dk_at dksX0_readNext_6 20 rfl rfl)
theorem dX0_readNext_163 : decode cX0_readNext 163 = .ok (.iconst (-1), 1) := dk_2 (dk_at dksX0_readNext_6 23 rfl rfl)
theorem dX0_readNext_164 : decode cX0_readNext 164 = .ok (.if_icmp .ne 129, 3) := dk_160 0 129 (dk_at dksX0_readNext_7 0 rfl rfl)
theorem dX0_readNext_167 : decode cX0_readNext 167 = .ok (.aload_n 0, 1) := dk_42 (dk_at dksX0_readNext_7 3 rfl rfl)
theorem dX0_readNext_168 : decode cX0_readNext 168 = .ok (.getstatic 280, 3) := dk_178 1 24 (dk_at dksX0_readNext_7 4 rfl rfl)
theorem dX0_readNext_171 : decode cX0_readNext 171 = .ok (.putfield 258, 3) := dk_181 1 2 (dk_at dksX0_readNext_7 7 rfl rfl)
theorem dX0_readNext_174 : decode cX0_readNext 174 = .ok (.goto 119, 3) := dk_167 0 119 (dk_at dksX0_readNext_7 10 rfl rfl)
theorem dX0_readNext_177 : decode cX0_readNext 177 = .ok (.iload_n 1, 1) := dk_27 (dk_at dksX0_readNext_7 13 rfl rfl)
theorem dX0_readNext_178 : decode cX0_readNext 178 = .ok (.invokestatic 291, 3) := dk_184 1 35 (dk_at dksX0_readNext_7 14 rfl rfl)
theorem dX0_readNext_181 : decode cX0_readNext 181 = .ok (.ifCond .eq 90, 3) := dk_153 0 90 (dk_at dksX0_readNext_7 17 rfl rfl)
theorem dX0_readNext_184 : decode cX0_readNext 184 = .ok (.aload_n 0, 1) := dk_42 (dk_at dksX0_readNext_7 20 rfl rfl)
theorem dX0_readNext_185 : decode cX0_readNext 185 = .ok (.iload_n 1, 1) := dk_27 (dk_at dksX0_readNext_7 21 rfl rfl)
theorem dX0_readNext_186 : decode cX0_readNext 186 = .ok (.bipush 48, 2) := dk_16 48 (dk_at dksX0_readNext_7 22 rfl rfl)
theorem dX0_readNext_188 : decode cX0_readNext 188 = .ok (.isub, 1) := dk_100 (dk_at dksX0_readNext_8 0 rfl rfl)
theorem dX0_readNext_189 : decode cX0_readNext 189 = .ok (.putfield 274, 3) := dk_181 1 18 (dk_at dksX0_readNext_8 1 rfl rfl)
theorem dX0_readNext_192 : decode cX0_readNext 192 = .ok (.aload_n 0, 1) := dk_42 (dk_at dksX0_readNext_8 4 rfl rfl)
theorem dX0_readNext_193 : decode cX0_readNext 193 = .ok (.aload_n 0, 1) := dk_42 (dk_at dksX0_readNext_8 5 rfl rfl)
theorem dX0_readNext_194 : decode cX0_readNext 194 = .ok (.getfield 245, 3) := dk_180 0 245 (dk_at dksX0_readNext_8 6 rfl rfl)
theorem dX0_readNext_197 : decode cX0_readNext 197 = .ok (.invokevirtual 250, 3) := dk_182 0 250 (dk_at dksX0_readNext_8 9 rfl rfl)
theorem dX0_readNext_200 : decode cX0_readNext 200 = .ok (.invokestatic 291, 3) := dk_184 1 35 (dk_at dksX0_readNext_8 12 rfl rfl)
theorem dX0_readNext_203 : decode cX0_readNext 203 = .ok (.ifCond .eq 45, 3) := dk_153 0 45 (dk_at dksX0_readNext_8 15 rfl rfl)
theorem dX0_readNext_206 : decode cX0_readNext 206 = .ok (.aload_n 0, 1) := dk_42 (dk_at dksX0_readNext_8 18 rfl rfl)
theorem dX0_readNext_207 : decode cX0_readNext 207 = .ok (.ldc_w 294, 3) := dk_19 1 38 (dk_at dksX0_readNext_8 19 rfl rfl)
theorem dX0_readNext_210 : decode cX0_readNext 210 = .ok (.bipush 10, 2) := dk_16 10 (dk_at dksX0_readNext_8 22 rfl rfl)
theorem dX0_readNext_212 : decode cX0_readNext 212 = .ok (.aload_n 0, 1) := dk_42 (dk_at dksX0_readNext_9 0 rfl rfl)
theorem dX0_readNext_213 : decode cX0_readNext 213 = .ok (.getfield 274, 3) := dk_180 1 18 (dk_at dksX0_readNext_9 1 rfl rfl)
theorem dX0_readNext_216 : decode cX0_readNext 216 = .ok (.imul, 1) := dk_104 (dk_at dksX0_readNext_9 4 rfl rfl)
theorem dX0_readNext_217 : decode cX0_readNext 217 = .ok (.aload_n 0, 1) := dk_42 (dk_at dksX0_readNext_9 5 rfl rfl)
theorem dX0_readNext_218 : decode cX0_readNext 218 = .ok (.aload_n 0, 1) := dk_42 (dk_at dksX0_readNext_9 6 rfl rfl)
theorem dX0_readNext_219 : decode cX0_readNext 219 = .ok (.getfield 245, 3) := dk_180 0 245 (dk_at dksX0_readNext_9 7 rfl rfl)
theorem dX0_readNext_222 : decode cX0_readNext 222 = .ok (.invokevirtual 250, 3) := dk_182 0 250 (dk_at dksX0_readNext_9 10 rfl rfl)
theorem dX0_readNext_225 : decode cX0_readNext 225 = .ok (.iadd, 1) := dk_96 (dk_at dksX0_readNext_9 13 rfl rfl)
theorem dX0_readNext_226 : decode cX0_readNext 226 = .ok (.bipush 48, 2) := dk_16 48 (dk_at dksX0_readNext_9 14 rfl rfl)
theorem dX0_readNext_228 : decode cX0_readNext 228 = .ok (.isub, 1) := dk_100 (dk_at dksX0_readNext_9 16 rfl rfl)
theorem dX0_readNext_229 : decode cX0_readNext 229 = .ok (.invokestatic 1, 3) := dk_184 0 1 (dk_at dksX0_readNext_9 17 rfl rfl)
theorem dX0_readNext_232 : decode cX0_readNext 232 = .ok (.putfield 274, 3) := dk_181 1 18 (dk_at dksX0_readNext_9 20 rfl rfl)
theorem dX0_readNext_235 : decode cX0_readNext 235 = .ok (.aload_n 0, 1) := dk_42 (dk_at dksX0_readNext_9 23 rfl rfl)
theorem dX0_readNext_236 : decode cX0_readNext 236 = .ok (.dup, 1) := dk_89 (dk_at dksX0_readNext_10 0 rfl rfl)
theorem dX0_readNext_237 : decode cX0_readNext 237 = .ok (.getfield 245, 3) := dk_180 0 245 (dk_at dksX0_readNext_10 1 rfl rfl)
theorem dX0_readNext_240 : decode cX0_readNext 240 = .ok (.iconst 1, 1) := dk_4 (dk_at dksX0_readNext_10 4 rfl rfl)
theorem dX0_readNext_241 : decode cX0_readNext 241 = .ok (.iadd, 1) := dk_96 (dk_at dksX0_readNext_10 5 rfl rfl)
theorem dX0_readNext_242 : decode cX0_readNext 242 = .ok (.putfield 245, 3) := dk_181 0 245 (dk_at dksX0_readNext_10 6 rfl rfl)
theorem dX0_readNext_245 : decode cX0_readNext 245 = .ok (.goto (-53), 3) := dk_167 255 203 (dk_at dksX0_readNext_10 9 rfl rfl)
theorem dX0_readNext_248 : decode cX0_readNext 248 = .ok (.aload_n 0, 1) := dk_42 (dk_at dksX0_readNext_10 12 rfl rfl)
theorem dX0_readNext_249 : decode cX0_readNext 249 = .ok (.getfield 245, 3) := dk_180 0 245 (dk_at dksX0_readNext_10 13 rfl rfl)
theorem dX0_readNext_252 : decode cX0_readNext 252 = .ok (.aload_n 0, 1) := dk_42 (dk_at dksX0_readNext_10 16 rfl rfl)
theorem dX0_readNext_253 : decode cX0_readNext 253 = .ok (.getfield 248, 3) := dk_180 0 248 (dk_at dksX0_readNext_10 17 rfl rfl)
theorem dX0_readNext_256 : decode cX0_readNext 256 = .ok (.isub, 1) := dk_100 (dk_at dksX0_readNext_10 20 rfl rfl)
theorem dX0_readNext_257 : decode cX0_readNext 257 = .ok (.iconst 4, 1) := dk_7 (dk_at dksX0_readNext_10 21 rfl rfl)
theorem dX0_readNext_258 : decode cX0_readNext 258 = .ok (.if_icmp .gt 35, 3) := dk_163 0 35 (dk_at dksX0_readNext_11 0 rfl rfl)
theorem dX0_readNext_261 : decode cX0_readNext 261 = .ok (.aload_n 0, 1) := dk_42 (dk_at dksX0_readNext_11 3 rfl rfl)
theorem dX0_readNext_262 : decode cX0_readNext 262 = .ok (.getstatic 295, 3) := dk_178 1 39 (dk_at dksX0_readNext_11 4 rfl rfl)
theorem dX0_readNext_265 : decode cX0_readNext 265 = .ok (.putfield 258, 3) := dk_181 1 2 (dk_at dksX0_readNext_11 7 rfl rfl)
theorem dX0_readNext_268 : decode cX0_readNext 268 = .ok (.goto 25, 3) := dk_167 0 25 (dk_at dksX0_readNext_11 10 rfl rfl)
theorem dX0_readNext_271 : decode cX0_readNext 271 = .ok (.ldc_w 298, 3) := dk_19 1 42 (dk_at dksX0_readNext_11 13 rfl rfl)
theorem dX0_readNext_274 : decode cX0_readNext 274 = .ok (.iload_n 1, 1) := dk_27 (dk_at dksX0_readNext_11 16 rfl rfl)
theorem dX0_readNext_275 : decode cX0_readNext 275 = .ok (.invokevirtual 300, 3) := dk_182 1 44 (dk_at dksX0_readNext_11 17 rfl rfl)
theorem dX0_readNext_278 : decode cX0_readNext 278 = .ok (.ifCond .lt 15, 3) := dk_155 0 15 (dk_at dksX0_readNext_11 20 rfl rfl)
theorem dX0_readNext_281 : decode cX0_readNext 281 = .ok (.aload_n 0, 1) := dk_42 (dk_at dksX0_readNext_11 23 rfl rfl)
theorem dX0_readNext_282 : decode cX0_readNext 282 = .ok (.getstatic 271, 3) := dk_178 1 15 (dk_at dksX0_readNext_12 0 rfl rfl)
theorem dX0_readNext_285 : decode cX0_readNext 285 = .ok (.putfield 258, 3) := dk_181 1 2 (dk_at dksX0_readNext_12 3 rfl rfl)
theorem dX0_readNext_288 : decode cX0_readNext 288 = .ok (.aload_n 0, 1) := dk_42 (dk_at dksX0_readNext_12 6 rfl rfl)
theorem dX0_readNext_289 : decode cX0_readNext 289 = .ok (.iload_n 1, 1) := dk_27 (dk_at dksX0_readNext_12 7 rfl rfl)
theorem dX0_readNext_290 : decode cX0_readNext 290 = .ok (.putfield 274, 3) := dk_181 1 18 (dk_at dksX0_readNext_12 8 rfl rfl)
theorem dX0_readNext_293 : decode cX0_readNext 293 = .ok (.return_, 1) := dk_177 (dk_at dksX0_readNext_12 11 rfl rfl)
abbrev cX0_raw : ByteArray := prog_1_method_9_code
def yX0_raw : MethodName := ⟨RX0, "raw", "(I)I"⟩
def dkwX0_raw_0 : List UInt8 := [27, 42, 180, 0, 230, 162, 0, 16, 42, 180, 0, 24, 27, 51, 17, 0, 255, 126, 167, 0, 4, 2, 172]
abbrev dktX0_raw_0 : List UInt8 := dkwX0_raw_0 ++ []
theorem dksX0_raw_0 : cX0_raw.data.toList.drop 0 = dktX0_raw_0 := by decide +kernel
theorem dX0_raw_0 : decode cX0_raw 0 = .ok (.iload_n 1, 1) := dk_27 (dk_at dksX0_raw_0 0 rfl rfl)
theorem dX0_raw_1 : decode cX0_raw 1 = .ok (.aload_n 0, 1) := dk_42 (dk_at dksX0_raw_0 1 rfl rfl)
theorem dX0_raw_2 : decode cX0_raw 2 = .ok (.getfield 230, 3) := dk_180 0 230 (dk_at dksX0_raw_0 2 rfl rfl)
theorem dX0_raw_5 : decode cX0_raw 5 = .ok (.if_icmp .ge 16, 3) := dk_162 0 16 (dk_at dksX0_raw_0 5 rfl rfl)
theorem dX0_raw_8 : decode cX0_raw 8 = .ok (.aload_n 0, 1) := dk_42 (dk_at dksX0_raw_0 8 rfl rfl)
theorem dX0_raw_9 : decode cX0_raw 9 = .ok (.getfield 24, 3) := dk_180 0 24 (dk_at dksX0_raw_0 9 rfl rfl)
theorem dX0_raw_12 : decode cX0_raw 12 = .ok (.iload_n 1, 1) := dk_27 (dk_at dksX0_raw_0 12 rfl rfl)
theorem dX0_raw_13 : decode cX0_raw 13 = .ok (.baload, 1) := dk_51 (dk_at dksX0_raw_0 13 rfl rfl)
theorem dX0_raw_14 : decode cX0_raw 14 = .ok (.sipush 255, 3) := dk_17 0 255 (dk_at dksX0_raw_0 14 rfl rfl)
theorem dX0_raw_17 : decode cX0_raw 17 = .ok (.iand, 1) := dk_126 (dk_at dksX0_raw_0 17 rfl rfl)
theorem dX0_raw_18 : decode cX0_raw 18 = .ok (.goto 4, 3) := dk_167 0 4 (dk_at dksX0_raw_0 18 rfl rfl)
theorem dX0_raw_21 : decode cX0_raw 21 = .ok (.iconst (-1), 1) := dk_2 (dk_at dksX0_raw_0 21 rfl rfl)
theorem dX0_raw_22 : decode cX0_raw 22 = .ok (.ireturn, 1) := dk_172 (dk_at dksX0_raw_0 22 rfl rfl)
abbrev cX0_isLetter : ByteArray := prog_1_method_10_code
def yX0_isLetter : MethodName := ⟨RX0, "isLetter", "(I)Z"⟩
def dkwX0_isLetter_1 : List UInt8 := [167, 0, 4, 3, 172]
abbrev dktX0_isLetter_1 : List UInt8 := dkwX0_isLetter_1 ++ []
def dkwX0_isLetter_0 : List UInt8 := [26, 16, 97, 16, 122, 184, 0, 237, 154, 0, 14, 26, 16, 65, 16, 90, 184, 0, 237, 153, 0, 7, 4]
abbrev dktX0_isLetter_0 : List UInt8 := dkwX0_isLetter_0 ++ dktX0_isLetter_1
theorem dksX0_isLetter_0 : cX0_isLetter.data.toList.drop 0 = dktX0_isLetter_0 := by decide +kernel
theorem dksX0_isLetter_1 : cX0_isLetter.data.toList.drop 23 = dktX0_isLetter_1 := dk_seg dksX0_isLetter_0 23 rfl rfl
theorem dX0_isLetter_0 : decode cX0_isLetter 0 = .ok (.iload_n 0, 1) := dk_26 (dk_at dksX0_isLetter_0 0 rfl rfl)
theorem dX0_isLetter_1 : decode cX0_isLetter 1 = .ok (.bipush 97, 2) := dk_16 97 (dk_at dksX0_isLetter_0 1 rfl rfl)
theorem dX0_isLetter_3 : decode cX0_isLetter 3 = .ok (.bipush 122, 2) := dk_16 122 (dk_at dksX0_isLetter_0 3 rfl rfl)
theorem dX0_isLetter_5 : decode cX0_isLetter 5 = .ok (.invokestatic 237, 3) := dk_184 0 237 (dk_at dksX0_isLetter_0 5 rfl rfl)
theorem dX0_isLetter_8 : decode cX0_isLetter 8 = .ok (.ifCond .ne 14, 3) := dk_154 0 14 (dk_at dksX0_isLetter_0 8 rfl rfl)
theorem dX0_isLetter_11 : decode cX0_isLetter 11 = .ok (.iload_n 0, 1) := dk_26 (dk_at dksX0_isLetter_0 11 rfl rfl)
theorem dX0_isLetter_12 : decode cX0_isLetter 12 = .ok (.bipush 65, 2) := dk_16 65 (dk_at dksX0_isLetter_0 12 rfl rfl)
theorem dX0_isLetter_14 : decode cX0_isLetter 14 = .ok (.bipush 90, 2) := dk_16 90 (dk_at dksX0_isLetter_0 14 rfl rfl)
theorem dX0_isLetter_16 : decode cX0_isLetter 16 = .ok (.invokestatic 237, 3) := dk_184 0 237 (dk_at dksX0_isLetter_0 16 rfl rfl)
theorem dX0_isLetter_19 : decode cX0_isLetter 19 = .ok (.ifCond .eq 7, 3) := dk_153 0 7 (dk_at dksX0_isLetter_0 19 rfl rfl)
theorem dX0_isLetter_22 : decode cX0_isLetter 22 = .ok (.iconst 1, 1) := dk_4 (dk_at dksX0_isLetter_0 22 rfl rfl)
theorem dX0_isLetter_23 : decode cX0_isLetter 23 = .ok (.goto 4, 3) := dk_167 0 4 (dk_at dksX0_isLetter_1 0 rfl rfl)
theorem dX0_isLetter_26 : decode cX0_isLetter 26 = .ok (.iconst 0, 1) := dk_3 (dk_at dksX0_isLetter_1 3 rfl rfl)
theorem dX0_isLetter_27 : decode cX0_isLetter 27 = .ok (.ireturn, 1) := dk_172 (dk_at dksX0_isLetter_1 4 rfl rfl)
abbrev cX0_wordOf : ByteArray := prog_1_method_13_code
def yX0_wordOf : MethodName := ⟨RX0, "wordOf", "([Ljava/lang/String;)I"⟩
def dkwX0_wordOf_1 : List UInt8 := [182, 1, 11, 153, 0, 5, 28, 172, 132, 2, 1, 167, 255, 225, 2, 172]
abbrev dktX0_wordOf_1 : List UInt8 := dkwX0_wordOf_1 ++ []
def dkwX0_wordOf_0 : List UInt8 := [3, 61, 28, 43, 190, 162, 0, 31, 42, 180, 1, 2, 178, 1, 6, 166, 0, 21, 42, 43, 28, 50]
abbrev dktX0_wordOf_0 : List UInt8 := dkwX0_wordOf_0 ++ dktX0_wordOf_1
theorem dksX0_wordOf_0 : cX0_wordOf.data.toList.drop 0 = dktX0_wordOf_0 := by decide +kernel
theorem dksX0_wordOf_1 : cX0_wordOf.data.toList.drop 22 = dktX0_wordOf_1 := dk_seg dksX0_wordOf_0 22 rfl rfl
theorem dX0_wordOf_0 : decode cX0_wordOf 0 = .ok (.iconst 0, 1) := dk_3 (dk_at dksX0_wordOf_0 0 rfl rfl)
theorem dX0_wordOf_1 : decode cX0_wordOf 1 = .ok (.istore_n 2, 1) := dk_61 (dk_at dksX0_wordOf_0 1 rfl rfl)
theorem dX0_wordOf_2 : decode cX0_wordOf 2 = .ok (.iload_n 2, 1) := dk_28 (dk_at dksX0_wordOf_0 2 rfl rfl)
theorem dX0_wordOf_3 : decode cX0_wordOf 3 = .ok (.aload_n 1, 1) := dk_43 (dk_at dksX0_wordOf_0 3 rfl rfl)
theorem dX0_wordOf_4 : decode cX0_wordOf 4 = .ok (.arraylength, 1) := dk_190 (dk_at dksX0_wordOf_0 4 rfl rfl)
theorem dX0_wordOf_5 : decode cX0_wordOf 5 = .ok (.if_icmp .ge 31, 3) := dk_162 0 31 (dk_at dksX0_wordOf_0 5 rfl rfl)
theorem dX0_wordOf_8 : decode cX0_wordOf 8 = .ok (.aload_n 0, 1) := dk_42 (dk_at dksX0_wordOf_0 8 rfl rfl)
theorem dX0_wordOf_9 : decode cX0_wordOf 9 = .ok (.getfield 258, 3) := dk_180 1 2 (dk_at dksX0_wordOf_0 9 rfl rfl)
theorem dX0_wordOf_12 : decode cX0_wordOf 12 = .ok (.getstatic 262, 3) := dk_178 1 6 (dk_at dksX0_wordOf_0 12 rfl rfl)
theorem dX0_wordOf_15 : decode cX0_wordOf 15 = .ok (.if_acmp .ne 21, 3) := dk_166 0 21 (dk_at dksX0_wordOf_0 15 rfl rfl)
theorem dX0_wordOf_18 : decode cX0_wordOf 18 = .ok (.aload_n 0, 1) := dk_42 (dk_at dksX0_wordOf_0 18 rfl rfl)
theorem dX0_wordOf_19 : decode cX0_wordOf 19 = .ok (.aload_n 1, 1) := dk_43 (dk_at dksX0_wordOf_0 19 rfl rfl)
theorem dX0_wordOf_20 : decode cX0_wordOf 20 = .ok (.iload_n 2, 1) := dk_28 (dk_at dksX0_wordOf_0 20 rfl rfl)
theorem dX0_wordOf_21 : decode cX0_wordOf 21 = .ok (.aaload, 1) := dk_50 (dk_at dksX0_wordOf_0 21 rfl rfl)
theorem dX0_wordOf_22 : decode cX0_wordOf 22 = .ok (.invokevirtual 267, 3) := dk_182 1 11 (dk_at dksX0_wordOf_1 0 rfl rfl)
theorem dX0_wordOf_25 : decode cX0_wordOf 25 = .ok (.ifCond .eq 5, 3) := dk_153 0 5 (dk_at dksX0_wordOf_1 3 rfl rfl)
theorem dX0_wordOf_28 : decode cX0_wordOf 28 = .ok (.iload_n 2, 1) := dk_28 (dk_at dksX0_wordOf_1 6 rfl rfl)
theorem dX0_wordOf_29 : decode cX0_wordOf 29 = .ok (.ireturn, 1) := dk_172 (dk_at dksX0_wordOf_1 7 rfl rfl)
theorem dX0_wordOf_30 : decode cX0_wordOf 30 = .ok (.iinc 2 1, 3) := dk_132 2 1 (dk_at dksX0_wordOf_1 8 rfl rfl)
theorem dX0_wordOf_33 : decode cX0_wordOf 33 = .ok (.goto (-31), 3) := dk_167 255 225 (dk_at dksX0_wordOf_1 11 rfl rfl)
theorem dX0_wordOf_36 : decode cX0_wordOf 36 = .ok (.iconst (-1), 1) := dk_2 (dk_at dksX0_wordOf_1 14 rfl rfl)
theorem dX0_wordOf_37 : decode cX0_wordOf 37 = .ok (.ireturn, 1) := dk_172 (dk_at dksX0_wordOf_1 15 rfl rfl)
abbrev cX0_spells : ByteArray := prog_1_method_12_code
def yX0_spells : MethodName := ⟨RX0, "spells", "(Ljava/lang/String;)Z"⟩
def dkwX0_spells_2 : List UInt8 := [3, 172, 132, 2, 1, 167, 255, 225, 4, 172]
abbrev dktX0_spells_2 : List UInt8 := dkwX0_spells_2 ++ []
def dkwX0_spells_1 : List UInt8 := [182, 0, 241, 162, 0, 29, 42, 42, 180, 0, 248, 28, 96, 182, 0, 250, 43, 28, 182, 0, 254, 159, 0, 5]
abbrev dktX0_spells_1 : List UInt8 := dkwX0_spells_1 ++ dktX0_spells_2
def dkwX0_spells_0 : List UInt8 := [43, 182, 0, 241, 42, 180, 0, 245, 42, 180, 0, 248, 100, 159, 0, 5, 3, 172, 3, 61, 28, 43]
abbrev dktX0_spells_0 : List UInt8 := dkwX0_spells_0 ++ dktX0_spells_1
theorem dksX0_spells_0 : cX0_spells.data.toList.drop 0 = dktX0_spells_0 := by decide +kernel
theorem dksX0_spells_1 : cX0_spells.data.toList.drop 22 = dktX0_spells_1 := dk_seg dksX0_spells_0 22 rfl rfl
theorem dksX0_spells_2 : cX0_spells.data.toList.drop 46 = dktX0_spells_2 := dk_seg dksX0_spells_1 24 rfl rfl
theorem dX0_spells_0 : decode cX0_spells 0 = .ok (.aload_n 1, 1) := dk_43 (dk_at dksX0_spells_0 0 rfl rfl)
theorem dX0_spells_1 : decode cX0_spells 1 = .ok (.invokevirtual 241, 3) := dk_182 0 241 (dk_at dksX0_spells_0 1 rfl rfl)
theorem dX0_spells_4 : decode cX0_spells 4 = .ok (.aload_n 0, 1) := dk_42 (dk_at dksX0_spells_0 4 rfl rfl)
theorem dX0_spells_5 : decode cX0_spells 5 = .ok (.getfield 245, 3) := dk_180 0 245 (dk_at dksX0_spells_0 5 rfl rfl)
theorem dX0_spells_8 : decode cX0_spells 8 = .ok (.aload_n 0, 1) := dk_42 (dk_at dksX0_spells_0 8 rfl rfl)
theorem dX0_spells_9 : decode cX0_spells 9 = .ok (.getfield 248, 3) := dk_180 0 248 (dk_at dksX0_spells_0 9 rfl rfl)
theorem dX0_spells_12 : decode cX0_spells 12 = .ok (.isub, 1) := dk_100 (dk_at dksX0_spells_0 12 rfl rfl)
theorem dX0_spells_13 : decode cX0_spells 13 = .ok (.if_icmp .eq 5, 3) := dk_159 0 5 (dk_at dksX0_spells_0 13 rfl rfl)
theorem dX0_spells_16 : decode cX0_spells 16 = .ok (.iconst 0, 1) := dk_3 (dk_at dksX0_spells_0 16 rfl rfl)
theorem dX0_spells_17 : decode cX0_spells 17 = .ok (.ireturn, 1) := dk_172 (dk_at dksX0_spells_0 17 rfl rfl)
theorem dX0_spells_18 : decode cX0_spells 18 = .ok (.iconst 0, 1) := dk_3 (dk_at dksX0_spells_0 18 rfl rfl)
theorem dX0_spells_19 : decode cX0_spells 19 = .ok (.istore_n 2, 1) := dk_61 (dk_at dksX0_spells_0 19 rfl rfl)
theorem dX0_spells_20 : decode cX0_spells 20 = .ok (.iload_n 2, 1) := dk_28 (dk_at dksX0_spells_0 20 rfl rfl)
theorem dX0_spells_21 : decode cX0_spells 21 = .ok (.aload_n 1, 1) := dk_43 (dk_at dksX0_spells_0 21 rfl rfl)
theorem dX0_spells_22 : decode cX0_spells 22 = .ok (.invokevirtual 241, 3) := dk_182 0 241 (dk_at dksX0_spells_1 0 rfl rfl)
theorem dX0_spells_25 : decode cX0_spells 25 = .ok (.if_icmp .ge 29, 3) := dk_162 0 29 (dk_at dksX0_spells_1 3 rfl rfl)
theorem dX0_spells_28 : decode cX0_spells 28 = .ok (.aload_n 0, 1) := dk_42 (dk_at dksX0_spells_1 6 rfl rfl)
theorem dX0_spells_29 : decode cX0_spells 29 = .ok (.aload_n 0, 1) := dk_42 (dk_at dksX0_spells_1 7 rfl rfl)
theorem dX0_spells_30 : decode cX0_spells 30 = .ok (.getfield 248, 3) := dk_180 0 248 (dk_at dksX0_spells_1 8 rfl rfl)
theorem dX0_spells_33 : decode cX0_spells 33 = .ok (.iload_n 2, 1) := dk_28 (dk_at dksX0_spells_1 11 rfl rfl)
theorem dX0_spells_34 : decode cX0_spells 34 = .ok (.iadd, 1) := dk_96 (dk_at dksX0_spells_1 12 rfl rfl)
theorem dX0_spells_35 : decode cX0_spells 35 = .ok (.invokevirtual 250, 3) := dk_182 0 250 (dk_at dksX0_spells_1 13 rfl rfl)
theorem dX0_spells_38 : decode cX0_spells 38 = .ok (.aload_n 1, 1) := dk_43 (dk_at dksX0_spells_1 16 rfl rfl)
theorem dX0_spells_39 : decode cX0_spells 39 = .ok (.iload_n 2, 1) := dk_28 (dk_at dksX0_spells_1 17 rfl rfl)
theorem dX0_spells_40 : decode cX0_spells 40 = .ok (.invokevirtual 254, 3) := dk_182 0 254 (dk_at dksX0_spells_1 18 rfl rfl)
theorem dX0_spells_43 : decode cX0_spells 43 = .ok (.if_icmp .eq 5, 3) := dk_159 0 5 (dk_at dksX0_spells_1 21 rfl rfl)
theorem dX0_spells_46 : decode cX0_spells 46 = .ok (.iconst 0, 1) := dk_3 (dk_at dksX0_spells_2 0 rfl rfl)
theorem dX0_spells_47 : decode cX0_spells 47 = .ok (.ireturn, 1) := dk_172 (dk_at dksX0_spells_2 1 rfl rfl)
theorem dX0_spells_48 : decode cX0_spells 48 = .ok (.iinc 2 1, 3) := dk_132 2 1 (dk_at dksX0_spells_2 2 rfl rfl)
theorem dX0_spells_51 : decode cX0_spells 51 = .ok (.goto (-31), 3) := dk_167 255 225 (dk_at dksX0_spells_2 5 rfl rfl)
theorem dX0_spells_54 : decode cX0_spells 54 = .ok (.iconst 1, 1) := dk_4 (dk_at dksX0_spells_2 8 rfl rfl)
theorem dX0_spells_55 : decode cX0_spells 55 = .ok (.ireturn, 1) := dk_172 (dk_at dksX0_spells_2 9 rfl rfl)
abbrev cX0_isDigit : ByteArray := prog_1_method_11_code
def yX0_isDigit : MethodName := ⟨RX0, "isDigit", "(I)Z"⟩
def dkwX0_isDigit_0 : List UInt8 := [26, 16, 48, 16, 57, 184, 0, 237, 172]
abbrev dktX0_isDigit_0 : List UInt8 := dkwX0_isDigit_0 ++ []
theorem dksX0_isDigit_0 : cX0_isDigit.data.toList.drop 0 = dktX0_isDigit_0 := by decide +kernel
theorem dX0_isDigit_0 : decode cX0_isDigit 0 = .ok (.iload_n 0, 1) := dk_26 (dk_at dksX0_isDigit_0 0 rfl rfl)
theorem dX0_isDigit_1 : decode cX0_isDigit 1 = .ok (.bipush 48, 2) := dk_16 48 (dk_at dksX0_isDigit_0 1 rfl rfl)
theorem dX0_isDigit_3 : decode cX0_isDigit 3 = .ok (.bipush 57, 2) := dk_16 57 (dk_at dksX0_isDigit_0 3 rfl rfl)
theorem dX0_isDigit_5 : decode cX0_isDigit 5 = .ok (.invokestatic 237, 3) := dk_184 0 237 (dk_at dksX0_isDigit_0 5 rfl rfl)
theorem dX0_isDigit_8 : decode cX0_isDigit 8 = .ok (.ireturn, 1) := dk_172 (dk_at dksX0_isDigit_0 8 rfl rfl)
abbrev cX0_readsHull : ByteArray := prog_1_method_30_code
def yX0_readsHull : MethodName := ⟨RX0, "readsHull", "()[LToolUnion$Work;"⟩
def dkwX0_readsHull_4 : List UInt8 := [132, 4, 1, 167, 255, 238, 45, 176]
abbrev dktX0_readsHull_4 : List UInt8 := dkwX0_readsHull_4 ++ []
def dkwX0_readsHull_3 : List UInt8 := [189, 0, 120, 78, 3, 54, 4, 21, 4, 45, 190, 162, 0, 17, 45, 21, 4, 43, 21, 4, 50, 83]
abbrev dktX0_readsHull_3 : List UInt8 := dkwX0_readsHull_3 ++ dktX0_readsHull_4
def dkwX0_readsHull_2 : List UInt8 := [191, 43, 28, 42, 28, 182, 1, 134, 83, 42, 16, 59, 182, 1, 102, 132, 2, 1, 167, 255, 200, 28]
abbrev dktX0_readsHull_2 : List UInt8 := dkwX0_readsHull_2 ++ dktX0_readsHull_3
def dkwX0_readsHull_1 : List UInt8 := [182, 1, 85, 182, 1, 56, 28, 16, 8, 160, 0, 16, 187, 1, 47, 89, 6, 42, 180, 0, 248, 183, 1, 49]
abbrev dktX0_readsHull_1 : List UInt8 := dkwX0_readsHull_1 ++ dktX0_readsHull_2
def dkwX0_readsHull_0 : List UInt8 := [16, 8, 189, 0, 120, 76, 3, 61, 42, 180, 1, 2, 178, 1, 21, 165, 0, 52, 42, 42, 18, 42]
abbrev dktX0_readsHull_0 : List UInt8 := dkwX0_readsHull_0 ++ dktX0_readsHull_1
theorem dksX0_readsHull_0 : cX0_readsHull.data.toList.drop 0 = dktX0_readsHull_0 := by decide +kernel
theorem dksX0_readsHull_1 : cX0_readsHull.data.toList.drop 22 = dktX0_readsHull_1 := dk_seg dksX0_readsHull_0 22 rfl rfl
theorem dksX0_readsHull_2 : cX0_readsHull.data.toList.drop 46 = dktX0_readsHull_2 := dk_seg dksX0_readsHull_1 24 rfl rfl
theorem dksX0_readsHull_3 : cX0_readsHull.data.toList.drop 68 = dktX0_readsHull_3 := dk_seg dksX0_readsHull_2 22 rfl rfl
theorem dksX0_readsHull_4 : cX0_readsHull.data.toList.drop 90 = dktX0_readsHull_4 := dk_seg dksX0_readsHull_3 22 rfl rfl
theorem dX0_readsHull_0 : decode cX0_readsHull 0 = .ok (.bipush 8, 2) := dk_16 8 (dk_at dksX0_readsHull_0 0 rfl rfl)
theorem dX0_readsHull_2 : decode cX0_readsHull 2 = .ok (.anewarray 120, 3) := dk_189 0 120 (dk_at dksX0_readsHull_0 2 rfl rfl)
theorem dX0_readsHull_5 : decode cX0_readsHull 5 = .ok (.astore_n 1, 1) := dk_76 (dk_at dksX0_readsHull_0 5 rfl rfl)
theorem dX0_readsHull_6 : decode cX0_readsHull 6 = .ok (.iconst 0, 1) := dk_3 (dk_at dksX0_readsHull_0 6 rfl rfl)
theorem dX0_readsHull_7 : decode cX0_readsHull 7 = .ok (.istore_n 2, 1) := dk_61 (dk_at dksX0_readsHull_0 7 rfl rfl)
theorem dX0_readsHull_8 : decode cX0_readsHull 8 = .ok (.aload_n 0, 1) := dk_42 (dk_at dksX0_readsHull_0 8 rfl rfl)
theorem dX0_readsHull_9 : decode cX0_readsHull 9 = .ok (.getfield 258, 3) := dk_180 1 2 (dk_at dksX0_readsHull_0 9 rfl rfl)
theorem dX0_readsHull_12 : decode cX0_readsHull 12 = .ok (.getstatic 277, 3) := dk_178 1 21 (dk_at dksX0_readsHull_0 12 rfl rfl)
theorem dX0_readsHull_15 : decode cX0_readsHull 15 = .ok (.if_acmp .eq 52, 3) := dk_165 0 52 (dk_at dksX0_readsHull_0 15 rfl rfl)
theorem dX0_readsHull_18 : decode cX0_readsHull 18 = .ok (.aload_n 0, 1) := dk_42 (dk_at dksX0_readsHull_0 18 rfl rfl)
theorem dX0_readsHull_19 : decode cX0_readsHull 19 = .ok (.aload_n 0, 1) := dk_42 (dk_at dksX0_readsHull_0 19 rfl rfl)
theorem dX0_readsHull_20 : decode cX0_readsHull 20 = .ok (.ldc 42, 2) := dk_18 42 (dk_at dksX0_readsHull_0 20 rfl rfl)
theorem dX0_readsHull_22 : decode cX0_readsHull 22 = .ok (.invokevirtual 341, 3) := dk_182 1 85 (dk_at dksX0_readsHull_1 0 rfl rfl)
theorem dX0_readsHull_25 : decode cX0_readsHull 25 = .ok (.invokevirtual 312, 3) := dk_182 1 56 (dk_at dksX0_readsHull_1 3 rfl rfl)
theorem dX0_readsHull_28 : decode cX0_readsHull 28 = .ok (.iload_n 2, 1) := dk_28 (dk_at dksX0_readsHull_1 6 rfl rfl)
theorem dX0_readsHull_29 : decode cX0_readsHull 29 = .ok (.bipush 8, 2) := dk_16 8 (dk_at dksX0_readsHull_1 7 rfl rfl)
theorem dX0_readsHull_31 : decode cX0_readsHull 31 = .ok (.if_icmp .ne 16, 3) := dk_160 0 16 (dk_at dksX0_readsHull_1 9 rfl rfl)
theorem dX0_readsHull_34 : decode cX0_readsHull 34 = .ok (.new 303, 3) := dk_187 1 47 (dk_at dksX0_readsHull_1 12 rfl rfl)
theorem dX0_readsHull_37 : decode cX0_readsHull 37 = .ok (.dup, 1) := dk_89 (dk_at dksX0_readsHull_1 15 rfl rfl)
theorem dX0_readsHull_38 : decode cX0_readsHull 38 = .ok (.iconst 3, 1) := dk_6 (dk_at dksX0_readsHull_1 16 rfl rfl)
theorem dX0_readsHull_39 : decode cX0_readsHull 39 = .ok (.aload_n 0, 1) := dk_42 (dk_at dksX0_readsHull_1 17 rfl rfl)
theorem dX0_readsHull_40 : decode cX0_readsHull 40 = .ok (.getfield 248, 3) := dk_180 0 248 (dk_at dksX0_readsHull_1 18 rfl rfl)
theorem dX0_readsHull_43 : decode cX0_readsHull 43 = .ok (.invokespecial 305, 3) := dk_183 1 49 (dk_at dksX0_readsHull_1 21 rfl rfl)
theorem dX0_readsHull_46 : decode cX0_readsHull 46 = .ok (.athrow, 1) := dk_191 (dk_at dksX0_readsHull_2 0 rfl rfl)
theorem dX0_readsHull_47 : decode cX0_readsHull 47 = .ok (.aload_n 1, 1) := dk_43 (dk_at dksX0_readsHull_2 1 rfl rfl)
theorem dX0_readsHull_48 : decode cX0_readsHull 48 = .ok (.iload_n 2, 1) := dk_28 (dk_at dksX0_readsHull_2 2 rfl rfl)
theorem dX0_readsHull_49 : decode cX0_readsHull 49 = .ok (.aload_n 0, 1) := dk_42 (dk_at dksX0_readsHull_2 3 rfl rfl)
theorem dX0_readsHull_50 : decode cX0_readsHull 50 = .ok (.iload_n 2, 1) := dk_28 (dk_at dksX0_readsHull_2 4 rfl rfl)
theorem dX0_readsHull_51 : decode cX0_readsHull 51 = .ok (.invokevirtual 390, 3) := dk_182 1 134 (dk_at dksX0_readsHull_2 5 rfl rfl)
theorem dX0_readsHull_54 : decode cX0_readsHull 54 = .ok (.aastore, 1) := dk_83 (dk_at dksX0_readsHull_2 8 rfl rfl)
theorem dX0_readsHull_55 : decode cX0_readsHull 55 = .ok (.aload_n 0, 1) := dk_42 (dk_at dksX0_readsHull_2 9 rfl rfl)
theorem dX0_readsHull_56 : decode cX0_readsHull 56 = .ok (.bipush 59, 2) := dk_16 59 (dk_at dksX0_readsHull_2 10 rfl rfl)
theorem dX0_readsHull_58 : decode cX0_readsHull 58 = .ok (.invokevirtual 358, 3) := dk_182 1 102 (dk_at dksX0_readsHull_2 12 rfl rfl)
theorem dX0_readsHull_61 : decode cX0_readsHull 61 = .ok (.iinc 2 1, 3) := dk_132 2 1 (dk_at dksX0_readsHull_2 15 rfl rfl)
theorem dX0_readsHull_64 : decode cX0_readsHull 64 = .ok (.goto (-56), 3) := dk_167 255 200 (dk_at dksX0_readsHull_2 18 rfl rfl)
theorem dX0_readsHull_67 : decode cX0_readsHull 67 = .ok (.iload_n 2, 1) := dk_28 (dk_at dksX0_readsHull_2 21 rfl rfl)
theorem dX0_readsHull_68 : decode cX0_readsHull 68 = .ok (.anewarray 120, 3) := dk_189 0 120 (dk_at dksX0_readsHull_3 0 rfl rfl)
theorem dX0_readsHull_71 : decode cX0_readsHull 71 = .ok (.astore_n 3, 1) := dk_78 (dk_at dksX0_readsHull_3 3 rfl rfl)
theorem dX0_readsHull_72 : decode cX0_readsHull 72 = .ok (.iconst 0, 1) := dk_3 (dk_at dksX0_readsHull_3 4 rfl rfl)
theorem dX0_readsHull_73 : decode cX0_readsHull 73 = .ok (.istore 4, 2) := dk_54 4 (dk_at dksX0_readsHull_3 5 rfl rfl)
theorem dX0_readsHull_75 : decode cX0_readsHull 75 = .ok (.iload 4, 2) := dk_21 4 (dk_at dksX0_readsHull_3 7 rfl rfl)
theorem dX0_readsHull_77 : decode cX0_readsHull 77 = .ok (.aload_n 3, 1) := dk_45 (dk_at dksX0_readsHull_3 9 rfl rfl)
theorem dX0_readsHull_78 : decode cX0_readsHull 78 = .ok (.arraylength, 1) := dk_190 (dk_at dksX0_readsHull_3 10 rfl rfl)
theorem dX0_readsHull_79 : decode cX0_readsHull 79 = .ok (.if_icmp .ge 17, 3) := dk_162 0 17 (dk_at dksX0_readsHull_3 11 rfl rfl)
theorem dX0_readsHull_82 : decode cX0_readsHull 82 = .ok (.aload_n 3, 1) := dk_45 (dk_at dksX0_readsHull_3 14 rfl rfl)
theorem dX0_readsHull_83 : decode cX0_readsHull 83 = .ok (.iload 4, 2) := dk_21 4 (dk_at dksX0_readsHull_3 15 rfl rfl)
theorem dX0_readsHull_85 : decode cX0_readsHull 85 = .ok (.aload_n 1, 1) := dk_43 (dk_at dksX0_readsHull_3 17 rfl rfl)
theorem dX0_readsHull_86 : decode cX0_readsHull 86 = .ok (.iload 4, 2) := dk_21 4 (dk_at dksX0_readsHull_3 18 rfl rfl)
theorem dX0_readsHull_88 : decode cX0_readsHull 88 = .ok (.aaload, 1) := dk_50 (dk_at dksX0_readsHull_3 20 rfl rfl)
theorem dX0_readsHull_89 : decode cX0_readsHull 89 = .ok (.aastore, 1) := dk_83 (dk_at dksX0_readsHull_3 21 rfl rfl)
theorem dX0_readsHull_90 : decode cX0_readsHull 90 = .ok (.iinc 4 1, 3) := dk_132 4 1 (dk_at dksX0_readsHull_4 0 rfl rfl)
theorem dX0_readsHull_93 : decode cX0_readsHull 93 = .ok (.goto (-18), 3) := dk_167 255 238 (dk_at dksX0_readsHull_4 3 rfl rfl)
theorem dX0_readsHull_96 : decode cX0_readsHull 96 = .ok (.aload_n 3, 1) := dk_45 (dk_at dksX0_readsHull_4 6 rfl rfl)
theorem dX0_readsHull_97 : decode cX0_readsHull 97 = .ok (.areturn, 1) := dk_176 (dk_at dksX0_readsHull_4 7 rfl rfl)
abbrev cX0_isWord : ByteArray := prog_1_method_14_code
def yX0_isWord : MethodName := ⟨RX0, "isWord", "(Ljava/lang/String;)Z"⟩
def dkwX0_isWord_0 : List UInt8 := [42, 180, 1, 2, 178, 1, 6, 166, 0, 15, 42, 43, 182, 1, 11, 153, 0, 7, 4, 167, 0, 4, 3, 172]
abbrev dktX0_isWord_0 : List UInt8 := dkwX0_isWord_0 ++ []
theorem dksX0_isWord_0 : cX0_isWord.data.toList.drop 0 = dktX0_isWord_0 := by decide +kernel
theorem dX0_isWord_0 : decode cX0_isWord 0 = .ok (.aload_n 0, 1) := dk_42 (dk_at dksX0_isWord_0 0 rfl rfl)
theorem dX0_isWord_1 : decode cX0_isWord 1 = .ok (.getfield 258, 3) := dk_180 1 2 (dk_at dksX0_isWord_0 1 rfl rfl)
theorem dX0_isWord_4 : decode cX0_isWord 4 = .ok (.getstatic 262, 3) := dk_178 1 6 (dk_at dksX0_isWord_0 4 rfl rfl)
theorem dX0_isWord_7 : decode cX0_isWord 7 = .ok (.if_acmp .ne 15, 3) := dk_166 0 15 (dk_at dksX0_isWord_0 7 rfl rfl)
theorem dX0_isWord_10 : decode cX0_isWord 10 = .ok (.aload_n 0, 1) := dk_42 (dk_at dksX0_isWord_0 10 rfl rfl)
theorem dX0_isWord_11 : decode cX0_isWord 11 = .ok (.aload_n 1, 1) := dk_43 (dk_at dksX0_isWord_0 11 rfl rfl)
theorem dX0_isWord_12 : decode cX0_isWord 12 = .ok (.invokevirtual 267, 3) := dk_182 1 11 (dk_at dksX0_isWord_0 12 rfl rfl)
theorem dX0_isWord_15 : decode cX0_isWord 15 = .ok (.ifCond .eq 7, 3) := dk_153 0 7 (dk_at dksX0_isWord_0 15 rfl rfl)
theorem dX0_isWord_18 : decode cX0_isWord 18 = .ok (.iconst 1, 1) := dk_4 (dk_at dksX0_isWord_0 18 rfl rfl)
theorem dX0_isWord_19 : decode cX0_isWord 19 = .ok (.goto 4, 3) := dk_167 0 4 (dk_at dksX0_isWord_0 19 rfl rfl)
theorem dX0_isWord_22 : decode cX0_isWord 22 = .ok (.iconst 0, 1) := dk_3 (dk_at dksX0_isWord_0 22 rfl rfl)
theorem dX0_isWord_23 : decode cX0_isWord 23 = .ok (.ireturn, 1) := dk_172 (dk_at dksX0_isWord_0 23 rfl rfl)
abbrev cX0_must : ByteArray := prog_1_method_17_code
def yX0_must : MethodName := ⟨RX0, "must", "(Z)V"⟩
def dkwX0_must_0 : List UInt8 := [27, 154, 0, 16, 187, 1, 47, 89, 4, 42, 180, 0, 248, 183, 1, 49, 191, 177]
abbrev dktX0_must_0 : List UInt8 := dkwX0_must_0 ++ []
theorem dksX0_must_0 : cX0_must.data.toList.drop 0 = dktX0_must_0 := by decide +kernel
theorem dX0_must_0 : decode cX0_must 0 = .ok (.iload_n 1, 1) := dk_27 (dk_at dksX0_must_0 0 rfl rfl)
theorem dX0_must_1 : decode cX0_must 1 = .ok (.ifCond .ne 16, 3) := dk_154 0 16 (dk_at dksX0_must_0 1 rfl rfl)
theorem dX0_must_4 : decode cX0_must 4 = .ok (.new 303, 3) := dk_187 1 47 (dk_at dksX0_must_0 4 rfl rfl)
theorem dX0_must_7 : decode cX0_must 7 = .ok (.dup, 1) := dk_89 (dk_at dksX0_must_0 7 rfl rfl)
theorem dX0_must_8 : decode cX0_must 8 = .ok (.iconst 1, 1) := dk_4 (dk_at dksX0_must_0 8 rfl rfl)
theorem dX0_must_9 : decode cX0_must 9 = .ok (.aload_n 0, 1) := dk_42 (dk_at dksX0_must_0 9 rfl rfl)
theorem dX0_must_10 : decode cX0_must 10 = .ok (.getfield 248, 3) := dk_180 0 248 (dk_at dksX0_must_0 10 rfl rfl)
theorem dX0_must_13 : decode cX0_must 13 = .ok (.invokespecial 305, 3) := dk_183 1 49 (dk_at dksX0_must_0 13 rfl rfl)
theorem dX0_must_16 : decode cX0_must 16 = .ok (.athrow, 1) := dk_191 (dk_at dksX0_must_0 16 rfl rfl)
theorem dX0_must_17 : decode cX0_must 17 = .ok (.return_, 1) := dk_177 (dk_at dksX0_must_0 17 rfl rfl)
abbrev cX0_work : ByteArray := prog_1_method_29_code
def yX0_work : MethodName := ⟨RX0, "work", "(I)LToolUnion$Work;"⟩
def dkwX0_work_2 : List UInt8 := [167, 255, 230, 187, 0, 120, 89, 28, 29, 21, 4, 183, 1, 131, 176]
abbrev dktX0_work_2 : List UInt8 := dkwX0_work_2 ++ []
def dkwX0_work_1 : List UInt8 := [182, 1, 85, 153, 0, 23, 21, 4, 4, 42, 18, 46, 3, 27, 4, 100, 182, 1, 127, 120, 128, 54, 4]
abbrev dktX0_work_1 : List UInt8 := dkwX0_work_1 ++ dktX0_work_2
def dkwX0_work_0 : List UInt8 := [42, 18, 42, 3, 6, 182, 1, 127, 61, 42, 18, 44, 4, 6, 182, 1, 127, 62, 3, 54, 4, 42, 18, 46]
abbrev dktX0_work_0 : List UInt8 := dkwX0_work_0 ++ dktX0_work_1
theorem dksX0_work_0 : cX0_work.data.toList.drop 0 = dktX0_work_0 := by decide +kernel
theorem dksX0_work_1 : cX0_work.data.toList.drop 24 = dktX0_work_1 := dk_seg dksX0_work_0 24 rfl rfl
theorem dksX0_work_2 : cX0_work.data.toList.drop 47 = dktX0_work_2 := dk_seg dksX0_work_1 23 rfl rfl
theorem dX0_work_0 : decode cX0_work 0 = .ok (.aload_n 0, 1) := dk_42 (dk_at dksX0_work_0 0 rfl rfl)
theorem dX0_work_1 : decode cX0_work 1 = .ok (.ldc 42, 2) := dk_18 42 (dk_at dksX0_work_0 1 rfl rfl)
theorem dX0_work_3 : decode cX0_work 3 = .ok (.iconst 0, 1) := dk_3 (dk_at dksX0_work_0 3 rfl rfl)
theorem dX0_work_4 : decode cX0_work 4 = .ok (.iconst 3, 1) := dk_6 (dk_at dksX0_work_0 4 rfl rfl)
theorem dX0_work_5 : decode cX0_work 5 = .ok (.invokevirtual 383, 3) := dk_182 1 127 (dk_at dksX0_work_0 5 rfl rfl)
theorem dX0_work_8 : decode cX0_work 8 = .ok (.istore_n 2, 1) := dk_61 (dk_at dksX0_work_0 8 rfl rfl)
theorem dX0_work_9 : decode cX0_work 9 = .ok (.aload_n 0, 1) := dk_42 (dk_at dksX0_work_0 9 rfl rfl)
theorem dX0_work_10 : decode cX0_work 10 = .ok (.ldc 44, 2) := dk_18 44 (dk_at dksX0_work_0 10 rfl rfl)
theorem dX0_work_12 : decode cX0_work 12 = .ok (.iconst 1, 1) := dk_4 (dk_at dksX0_work_0 12 rfl rfl)
theorem dX0_work_13 : decode cX0_work 13 = .ok (.iconst 3, 1) := dk_6 (dk_at dksX0_work_0 13 rfl rfl)
theorem dX0_work_14 : decode cX0_work 14 = .ok (.invokevirtual 383, 3) := dk_182 1 127 (dk_at dksX0_work_0 14 rfl rfl)
theorem dX0_work_17 : decode cX0_work 17 = .ok (.istore_n 3, 1) := dk_62 (dk_at dksX0_work_0 17 rfl rfl)
theorem dX0_work_18 : decode cX0_work 18 = .ok (.iconst 0, 1) := dk_3 (dk_at dksX0_work_0 18 rfl rfl)
theorem dX0_work_19 : decode cX0_work 19 = .ok (.istore 4, 2) := dk_54 4 (dk_at dksX0_work_0 19 rfl rfl)
theorem dX0_work_21 : decode cX0_work 21 = .ok (.aload_n 0, 1) := dk_42 (dk_at dksX0_work_0 21 rfl rfl)
theorem dX0_work_22 : decode cX0_work 22 = .ok (.ldc 46, 2) := dk_18 46 (dk_at dksX0_work_0 22 rfl rfl)
theorem dX0_work_24 : decode cX0_work 24 = .ok (.invokevirtual 341, 3) := dk_182 1 85 (dk_at dksX0_work_1 0 rfl rfl)
theorem dX0_work_27 : decode cX0_work 27 = .ok (.ifCond .eq 23, 3) := dk_153 0 23 (dk_at dksX0_work_1 3 rfl rfl)
theorem dX0_work_30 : decode cX0_work 30 = .ok (.iload 4, 2) := dk_21 4 (dk_at dksX0_work_1 6 rfl rfl)
theorem dX0_work_32 : decode cX0_work 32 = .ok (.iconst 1, 1) := dk_4 (dk_at dksX0_work_1 8 rfl rfl)
theorem dX0_work_33 : decode cX0_work 33 = .ok (.aload_n 0, 1) := dk_42 (dk_at dksX0_work_1 9 rfl rfl)
theorem dX0_work_34 : decode cX0_work 34 = .ok (.ldc 46, 2) := dk_18 46 (dk_at dksX0_work_1 10 rfl rfl)
theorem dX0_work_36 : decode cX0_work 36 = .ok (.iconst 0, 1) := dk_3 (dk_at dksX0_work_1 12 rfl rfl)
theorem dX0_work_37 : decode cX0_work 37 = .ok (.iload_n 1, 1) := dk_27 (dk_at dksX0_work_1 13 rfl rfl)
theorem dX0_work_38 : decode cX0_work 38 = .ok (.iconst 1, 1) := dk_4 (dk_at dksX0_work_1 14 rfl rfl)
theorem dX0_work_39 : decode cX0_work 39 = .ok (.isub, 1) := dk_100 (dk_at dksX0_work_1 15 rfl rfl)
theorem dX0_work_40 : decode cX0_work 40 = .ok (.invokevirtual 383, 3) := dk_182 1 127 (dk_at dksX0_work_1 16 rfl rfl)
theorem dX0_work_43 : decode cX0_work 43 = .ok (.ishl, 1) := dk_120 (dk_at dksX0_work_1 19 rfl rfl)
theorem dX0_work_44 : decode cX0_work 44 = .ok (.ior, 1) := dk_128 (dk_at dksX0_work_1 20 rfl rfl)
theorem dX0_work_45 : decode cX0_work 45 = .ok (.istore 4, 2) := dk_54 4 (dk_at dksX0_work_1 21 rfl rfl)
theorem dX0_work_47 : decode cX0_work 47 = .ok (.goto (-26), 3) := dk_167 255 230 (dk_at dksX0_work_2 0 rfl rfl)
theorem dX0_work_50 : decode cX0_work 50 = .ok (.new 120, 3) := dk_187 0 120 (dk_at dksX0_work_2 3 rfl rfl)
theorem dX0_work_53 : decode cX0_work 53 = .ok (.dup, 1) := dk_89 (dk_at dksX0_work_2 6 rfl rfl)
theorem dX0_work_54 : decode cX0_work 54 = .ok (.iload_n 2, 1) := dk_28 (dk_at dksX0_work_2 7 rfl rfl)
theorem dX0_work_55 : decode cX0_work 55 = .ok (.iload_n 3, 1) := dk_29 (dk_at dksX0_work_2 8 rfl rfl)
theorem dX0_work_56 : decode cX0_work 56 = .ok (.iload 4, 2) := dk_21 4 (dk_at dksX0_work_2 9 rfl rfl)
theorem dX0_work_58 : decode cX0_work 58 = .ok (.invokespecial 387, 3) := dk_183 1 131 (dk_at dksX0_work_2 11 rfl rfl)
theorem dX0_work_61 : decode cX0_work 61 = .ok (.areturn, 1) := dk_176 (dk_at dksX0_work_2 14 rfl rfl)
abbrev cX0_told : ByteArray := prog_1_method_28_code
def yX0_told : MethodName := ⟨RX0, "told", "(Ljava/lang/String;II)I"⟩
def dkwX0_told_0 : List UInt8 := [42, 42, 43, 182, 1, 85, 182, 1, 56, 42, 182, 1, 60, 42, 28, 29, 182, 1, 124, 172]
abbrev dktX0_told_0 : List UInt8 := dkwX0_told_0 ++ []
theorem dksX0_told_0 : cX0_told.data.toList.drop 0 = dktX0_told_0 := by decide +kernel
theorem dX0_told_0 : decode cX0_told 0 = .ok (.aload_n 0, 1) := dk_42 (dk_at dksX0_told_0 0 rfl rfl)
theorem dX0_told_1 : decode cX0_told 1 = .ok (.aload_n 0, 1) := dk_42 (dk_at dksX0_told_0 1 rfl rfl)
theorem dX0_told_2 : decode cX0_told 2 = .ok (.aload_n 1, 1) := dk_43 (dk_at dksX0_told_0 2 rfl rfl)
theorem dX0_told_3 : decode cX0_told 3 = .ok (.invokevirtual 341, 3) := dk_182 1 85 (dk_at dksX0_told_0 3 rfl rfl)
theorem dX0_told_6 : decode cX0_told 6 = .ok (.invokevirtual 312, 3) := dk_182 1 56 (dk_at dksX0_told_0 6 rfl rfl)
theorem dX0_told_9 : decode cX0_told 9 = .ok (.aload_n 0, 1) := dk_42 (dk_at dksX0_told_0 9 rfl rfl)
theorem dX0_told_10 : decode cX0_told 10 = .ok (.invokevirtual 316, 3) := dk_182 1 60 (dk_at dksX0_told_0 10 rfl rfl)
theorem dX0_told_13 : decode cX0_told 13 = .ok (.aload_n 0, 1) := dk_42 (dk_at dksX0_told_0 13 rfl rfl)
theorem dX0_told_14 : decode cX0_told 14 = .ok (.iload_n 2, 1) := dk_28 (dk_at dksX0_told_0 14 rfl rfl)
theorem dX0_told_15 : decode cX0_told 15 = .ok (.iload_n 3, 1) := dk_29 (dk_at dksX0_told_0 15 rfl rfl)
theorem dX0_told_16 : decode cX0_told 16 = .ok (.invokevirtual 380, 3) := dk_182 1 124 (dk_at dksX0_told_0 16 rfl rfl)
theorem dX0_told_19 : decode cX0_told 19 = .ok (.ireturn, 1) := dk_172 (dk_at dksX0_told_0 19 rfl rfl)
abbrev cX0_number : ByteArray := prog_1_method_27_code
def yX0_number : MethodName := ⟨RX0, "number", "(II)I"⟩
def dkwX0_number_2 : List UInt8 := [62, 42, 182, 1, 60, 29, 172]
abbrev dktX0_number_2 : List UInt8 := dkwX0_number_2 ++ []
def dkwX0_number_1 : List UInt8 := [28, 184, 0, 237, 154, 0, 16, 187, 1, 47, 89, 5, 42, 180, 0, 248, 183, 1, 49, 191, 42, 180, 1, 18]
abbrev dktX0_number_1 : List UInt8 := dkwX0_number_1 ++ dktX0_number_2
def dkwX0_number_0 : List UInt8 := [42, 42, 180, 1, 2, 178, 1, 39, 166, 0, 7, 4, 167, 0, 4, 3, 182, 1, 56, 42, 180, 1, 18, 27]
abbrev dktX0_number_0 : List UInt8 := dkwX0_number_0 ++ dktX0_number_1
theorem dksX0_number_0 : cX0_number.data.toList.drop 0 = dktX0_number_0 := by decide +kernel
theorem dksX0_number_1 : cX0_number.data.toList.drop 24 = dktX0_number_1 := dk_seg dksX0_number_0 24 rfl rfl
theorem dksX0_number_2 : cX0_number.data.toList.drop 48 = dktX0_number_2 := dk_seg dksX0_number_1 24 rfl rfl
theorem dX0_number_0 : decode cX0_number 0 = .ok (.aload_n 0, 1) := dk_42 (dk_at dksX0_number_0 0 rfl rfl)
theorem dX0_number_1 : decode cX0_number 1 = .ok (.aload_n 0, 1) := dk_42 (dk_at dksX0_number_0 1 rfl rfl)
theorem dX0_number_2 : decode cX0_number 2 = .ok (.getfield 258, 3) := dk_180 1 2 (dk_at dksX0_number_0 2 rfl rfl)
theorem dX0_number_5 : decode cX0_number 5 = .ok (.getstatic 295, 3) := dk_178 1 39 (dk_at dksX0_number_0 5 rfl rfl)
theorem dX0_number_8 : decode cX0_number 8 = .ok (.if_acmp .ne 7, 3) := dk_166 0 7 (dk_at dksX0_number_0 8 rfl rfl)
theorem dX0_number_11 : decode cX0_number 11 = .ok (.iconst 1, 1) := dk_4 (dk_at dksX0_number_0 11 rfl rfl)
theorem dX0_number_12 : decode cX0_number 12 = .ok (.goto 4, 3) := dk_167 0 4 (dk_at dksX0_number_0 12 rfl rfl)
theorem dX0_number_15 : decode cX0_number 15 = .ok (.iconst 0, 1) := dk_3 (dk_at dksX0_number_0 15 rfl rfl)
theorem dX0_number_16 : decode cX0_number 16 = .ok (.invokevirtual 312, 3) := dk_182 1 56 (dk_at dksX0_number_0 16 rfl rfl)
theorem dX0_number_19 : decode cX0_number 19 = .ok (.aload_n 0, 1) := dk_42 (dk_at dksX0_number_0 19 rfl rfl)
theorem dX0_number_20 : decode cX0_number 20 = .ok (.getfield 274, 3) := dk_180 1 18 (dk_at dksX0_number_0 20 rfl rfl)
theorem dX0_number_23 : decode cX0_number 23 = .ok (.iload_n 1, 1) := dk_27 (dk_at dksX0_number_0 23 rfl rfl)
theorem dX0_number_24 : decode cX0_number 24 = .ok (.iload_n 2, 1) := dk_28 (dk_at dksX0_number_1 0 rfl rfl)
theorem dX0_number_25 : decode cX0_number 25 = .ok (.invokestatic 237, 3) := dk_184 0 237 (dk_at dksX0_number_1 1 rfl rfl)
theorem dX0_number_28 : decode cX0_number 28 = .ok (.ifCond .ne 16, 3) := dk_154 0 16 (dk_at dksX0_number_1 4 rfl rfl)
theorem dX0_number_31 : decode cX0_number 31 = .ok (.new 303, 3) := dk_187 1 47 (dk_at dksX0_number_1 7 rfl rfl)
theorem dX0_number_34 : decode cX0_number 34 = .ok (.dup, 1) := dk_89 (dk_at dksX0_number_1 10 rfl rfl)
theorem dX0_number_35 : decode cX0_number 35 = .ok (.iconst 2, 1) := dk_5 (dk_at dksX0_number_1 11 rfl rfl)
theorem dX0_number_36 : decode cX0_number 36 = .ok (.aload_n 0, 1) := dk_42 (dk_at dksX0_number_1 12 rfl rfl)
theorem dX0_number_37 : decode cX0_number 37 = .ok (.getfield 248, 3) := dk_180 0 248 (dk_at dksX0_number_1 13 rfl rfl)
theorem dX0_number_40 : decode cX0_number 40 = .ok (.invokespecial 305, 3) := dk_183 1 49 (dk_at dksX0_number_1 16 rfl rfl)
theorem dX0_number_43 : decode cX0_number 43 = .ok (.athrow, 1) := dk_191 (dk_at dksX0_number_1 19 rfl rfl)
theorem dX0_number_44 : decode cX0_number 44 = .ok (.aload_n 0, 1) := dk_42 (dk_at dksX0_number_1 20 rfl rfl)
theorem dX0_number_45 : decode cX0_number 45 = .ok (.getfield 274, 3) := dk_180 1 18 (dk_at dksX0_number_1 21 rfl rfl)
theorem dX0_number_48 : decode cX0_number 48 = .ok (.istore_n 3, 1) := dk_62 (dk_at dksX0_number_2 0 rfl rfl)
theorem dX0_number_49 : decode cX0_number 49 = .ok (.aload_n 0, 1) := dk_42 (dk_at dksX0_number_2 1 rfl rfl)
theorem dX0_number_50 : decode cX0_number 50 = .ok (.invokevirtual 316, 3) := dk_182 1 60 (dk_at dksX0_number_2 2 rfl rfl)
theorem dX0_number_53 : decode cX0_number 53 = .ok (.iload_n 3, 1) := dk_29 (dk_at dksX0_number_2 5 rfl rfl)
theorem dX0_number_54 : decode cX0_number 54 = .ok (.ireturn, 1) := dk_172 (dk_at dksX0_number_2 6 rfl rfl)
abbrev cX0_takesSign : ByteArray := prog_1_method_18_code
def yX0_takesSign : MethodName := ⟨RX0, "takesSign", "(C)V"⟩
def dkwX0_takesSign_0 : List UInt8 := [42, 42, 27, 182, 1, 52, 182, 1, 56, 42, 182, 1, 60, 177]
abbrev dktX0_takesSign_0 : List UInt8 := dkwX0_takesSign_0 ++ []
theorem dksX0_takesSign_0 : cX0_takesSign.data.toList.drop 0 = dktX0_takesSign_0 := by decide +kernel
theorem dX0_takesSign_0 : decode cX0_takesSign 0 = .ok (.aload_n 0, 1) := dk_42 (dk_at dksX0_takesSign_0 0 rfl rfl)
theorem dX0_takesSign_1 : decode cX0_takesSign 1 = .ok (.aload_n 0, 1) := dk_42 (dk_at dksX0_takesSign_0 1 rfl rfl)
theorem dX0_takesSign_2 : decode cX0_takesSign 2 = .ok (.iload_n 1, 1) := dk_27 (dk_at dksX0_takesSign_0 2 rfl rfl)
theorem dX0_takesSign_3 : decode cX0_takesSign 3 = .ok (.invokevirtual 308, 3) := dk_182 1 52 (dk_at dksX0_takesSign_0 3 rfl rfl)
theorem dX0_takesSign_6 : decode cX0_takesSign 6 = .ok (.invokevirtual 312, 3) := dk_182 1 56 (dk_at dksX0_takesSign_0 6 rfl rfl)
theorem dX0_takesSign_9 : decode cX0_takesSign 9 = .ok (.aload_n 0, 1) := dk_42 (dk_at dksX0_takesSign_0 9 rfl rfl)
theorem dX0_takesSign_10 : decode cX0_takesSign 10 = .ok (.invokevirtual 316, 3) := dk_182 1 60 (dk_at dksX0_takesSign_0 10 rfl rfl)
theorem dX0_takesSign_13 : decode cX0_takesSign 13 = .ok (.return_, 1) := dk_177 (dk_at dksX0_takesSign_0 13 rfl rfl)
abbrev cX0_isSign : ByteArray := prog_1_method_15_code
def yX0_isSign : MethodName := ⟨RX0, "isSign", "(C)Z"⟩
def dkwX0_isSign_0 : List UInt8 := [42, 180, 1, 2, 178, 1, 15, 166, 0, 15, 42, 180, 1, 18, 27, 160, 0, 7, 4, 167, 0, 4, 3, 172]
abbrev dktX0_isSign_0 : List UInt8 := dkwX0_isSign_0 ++ []
theorem dksX0_isSign_0 : cX0_isSign.data.toList.drop 0 = dktX0_isSign_0 := by decide +kernel
theorem dX0_isSign_0 : decode cX0_isSign 0 = .ok (.aload_n 0, 1) := dk_42 (dk_at dksX0_isSign_0 0 rfl rfl)
theorem dX0_isSign_1 : decode cX0_isSign 1 = .ok (.getfield 258, 3) := dk_180 1 2 (dk_at dksX0_isSign_0 1 rfl rfl)
theorem dX0_isSign_4 : decode cX0_isSign 4 = .ok (.getstatic 271, 3) := dk_178 1 15 (dk_at dksX0_isSign_0 4 rfl rfl)
theorem dX0_isSign_7 : decode cX0_isSign 7 = .ok (.if_acmp .ne 15, 3) := dk_166 0 15 (dk_at dksX0_isSign_0 7 rfl rfl)
theorem dX0_isSign_10 : decode cX0_isSign 10 = .ok (.aload_n 0, 1) := dk_42 (dk_at dksX0_isSign_0 10 rfl rfl)
theorem dX0_isSign_11 : decode cX0_isSign 11 = .ok (.getfield 274, 3) := dk_180 1 18 (dk_at dksX0_isSign_0 11 rfl rfl)
theorem dX0_isSign_14 : decode cX0_isSign 14 = .ok (.iload_n 1, 1) := dk_27 (dk_at dksX0_isSign_0 14 rfl rfl)
theorem dX0_isSign_15 : decode cX0_isSign 15 = .ok (.if_icmp .ne 7, 3) := dk_160 0 7 (dk_at dksX0_isSign_0 15 rfl rfl)
theorem dX0_isSign_18 : decode cX0_isSign 18 = .ok (.iconst 1, 1) := dk_4 (dk_at dksX0_isSign_0 18 rfl rfl)
theorem dX0_isSign_19 : decode cX0_isSign 19 = .ok (.goto 4, 3) := dk_167 0 4 (dk_at dksX0_isSign_0 19 rfl rfl)
theorem dX0_isSign_22 : decode cX0_isSign 22 = .ok (.iconst 0, 1) := dk_3 (dk_at dksX0_isSign_0 22 rfl rfl)
theorem dX0_isSign_23 : decode cX0_isSign 23 = .ok (.ireturn, 1) := dk_172 (dk_at dksX0_isSign_0 23 rfl rfl)
abbrev cX0_takesHull : ByteArray := prog_1_method_33_code
def yX0_takesHull : MethodName := ⟨RX0, "takesHull", "([LToolUnion$Work;)I"⟩
def dkwX0_takesHull_1 : List UInt8 := [180, 1, 149, 3, 184, 0, 224, 42, 3, 181, 1, 152, 42, 180, 0, 122, 190, 172]
abbrev dktX0_takesHull_1 : List UInt8 := dkwX0_takesHull_1 ++ []
def dkwX0_takesHull_0 : List UInt8 := [42, 43, 181, 0, 122, 42, 3, 189, 0, 126, 181, 0, 128, 42, 3, 181, 1, 146, 42, 180, 0, 164]
abbrev dktX0_takesHull_0 : List UInt8 := dkwX0_takesHull_0 ++ dktX0_takesHull_1
theorem dksX0_takesHull_0 : cX0_takesHull.data.toList.drop 0 = dktX0_takesHull_0 := by decide +kernel
theorem dksX0_takesHull_1 : cX0_takesHull.data.toList.drop 22 = dktX0_takesHull_1 := dk_seg dksX0_takesHull_0 22 rfl rfl
theorem dX0_takesHull_0 : decode cX0_takesHull 0 = .ok (.aload_n 0, 1) := dk_42 (dk_at dksX0_takesHull_0 0 rfl rfl)
theorem dX0_takesHull_1 : decode cX0_takesHull 1 = .ok (.aload_n 1, 1) := dk_43 (dk_at dksX0_takesHull_0 1 rfl rfl)
theorem dX0_takesHull_2 : decode cX0_takesHull 2 = .ok (.putfield 122, 3) := dk_181 0 122 (dk_at dksX0_takesHull_0 2 rfl rfl)
theorem dX0_takesHull_5 : decode cX0_takesHull 5 = .ok (.aload_n 0, 1) := dk_42 (dk_at dksX0_takesHull_0 5 rfl rfl)
theorem dX0_takesHull_6 : decode cX0_takesHull 6 = .ok (.iconst 0, 1) := dk_3 (dk_at dksX0_takesHull_0 6 rfl rfl)
theorem dX0_takesHull_7 : decode cX0_takesHull 7 = .ok (.anewarray 126, 3) := dk_189 0 126 (dk_at dksX0_takesHull_0 7 rfl rfl)
theorem dX0_takesHull_10 : decode cX0_takesHull 10 = .ok (.putfield 128, 3) := dk_181 0 128 (dk_at dksX0_takesHull_0 10 rfl rfl)
theorem dX0_takesHull_13 : decode cX0_takesHull 13 = .ok (.aload_n 0, 1) := dk_42 (dk_at dksX0_takesHull_0 13 rfl rfl)
theorem dX0_takesHull_14 : decode cX0_takesHull 14 = .ok (.iconst 0, 1) := dk_3 (dk_at dksX0_takesHull_0 14 rfl rfl)
theorem dX0_takesHull_15 : decode cX0_takesHull 15 = .ok (.putfield 402, 3) := dk_181 1 146 (dk_at dksX0_takesHull_0 15 rfl rfl)
theorem dX0_takesHull_18 : decode cX0_takesHull 18 = .ok (.aload_n 0, 1) := dk_42 (dk_at dksX0_takesHull_0 18 rfl rfl)
theorem dX0_takesHull_19 : decode cX0_takesHull 19 = .ok (.getfield 164, 3) := dk_180 0 164 (dk_at dksX0_takesHull_0 19 rfl rfl)
theorem dX0_takesHull_22 : decode cX0_takesHull 22 = .ok (.getfield 405, 3) := dk_180 1 149 (dk_at dksX0_takesHull_1 0 rfl rfl)
theorem dX0_takesHull_25 : decode cX0_takesHull 25 = .ok (.iconst 0, 1) := dk_3 (dk_at dksX0_takesHull_1 3 rfl rfl)
theorem dX0_takesHull_26 : decode cX0_takesHull 26 = .ok (.invokestatic 224, 3) := dk_184 0 224 (dk_at dksX0_takesHull_1 4 rfl rfl)
theorem dX0_takesHull_29 : decode cX0_takesHull 29 = .ok (.aload_n 0, 1) := dk_42 (dk_at dksX0_takesHull_1 7 rfl rfl)
theorem dX0_takesHull_30 : decode cX0_takesHull 30 = .ok (.iconst 0, 1) := dk_3 (dk_at dksX0_takesHull_1 8 rfl rfl)
theorem dX0_takesHull_31 : decode cX0_takesHull 31 = .ok (.putfield 408, 3) := dk_181 1 152 (dk_at dksX0_takesHull_1 9 rfl rfl)
theorem dX0_takesHull_34 : decode cX0_takesHull 34 = .ok (.aload_n 0, 1) := dk_42 (dk_at dksX0_takesHull_1 12 rfl rfl)
theorem dX0_takesHull_35 : decode cX0_takesHull 35 = .ok (.getfield 122, 3) := dk_180 0 122 (dk_at dksX0_takesHull_1 13 rfl rfl)
theorem dX0_takesHull_38 : decode cX0_takesHull 38 = .ok (.arraylength, 1) := dk_190 (dk_at dksX0_takesHull_1 16 rfl rfl)
theorem dX0_takesHull_39 : decode cX0_takesHull 39 = .ok (.ireturn, 1) := dk_172 (dk_at dksX0_takesHull_1 17 rfl rfl)
abbrev cX0_readsRota : ByteArray := prog_1_method_31_code
def yX0_readsRota : MethodName := ⟨RX0, "readsRota", "()[LToolUnion$Turn;"⟩
def dkwX0_readsRota_6 : List UInt8 := [162, 0, 17, 45, 21, 4, 43, 21, 4, 50, 83, 132, 4, 1, 167, 255, 238, 45, 176]
abbrev dktX0_readsRota_6 : List UInt8 := dkwX0_readsRota_6 ++ []
def dkwX0_readsRota_5 : List UInt8 := [16, 59, 182, 1, 102, 132, 2, 1, 167, 255, 139, 28, 189, 0, 126, 78, 3, 54, 4, 21, 4, 45, 190]
abbrev dktX0_readsRota_5 : List UInt8 := dkwX0_readsRota_5 ++ dktX0_readsRota_6
def dkwX0_readsRota_4 : List UInt8 := [18, 52, 3, 17, 39, 15, 182, 1, 127, 42, 18, 54, 4, 16, 99, 182, 1, 127, 183, 1, 143, 83, 42]
abbrev dktX0_readsRota_4 : List UInt8 := dkwX0_readsRota_4 ++ dktX0_readsRota_5
def dkwX0_readsRota_3 : List UInt8 := [42, 180, 1, 140, 4, 100, 182, 1, 127, 42, 18, 42, 3, 42, 180, 0, 122, 190, 4, 100, 182, 1, 127, 42]
abbrev dktX0_readsRota_3 : List UInt8 := dkwX0_readsRota_3 ++ dktX0_readsRota_4
def dkwX0_readsRota_2 : List UInt8 := [191, 43, 28, 187, 0, 126, 89, 42, 18, 48, 3, 42, 180, 1, 137, 4, 100, 182, 1, 127, 42, 18, 50, 3]
abbrev dktX0_readsRota_2 : List UInt8 := dkwX0_readsRota_2 ++ dktX0_readsRota_3
def dkwX0_readsRota_1 : List UInt8 := [182, 1, 85, 182, 1, 56, 28, 16, 20, 160, 0, 16, 187, 1, 47, 89, 6, 42, 180, 0, 248, 183, 1, 49]
abbrev dktX0_readsRota_1 : List UInt8 := dkwX0_readsRota_1 ++ dktX0_readsRota_2
def dkwX0_readsRota_0 : List UInt8 := [16, 20, 189, 0, 126, 76, 3, 61, 42, 180, 1, 2, 178, 1, 21, 165, 0, 113, 42, 42, 18, 48]
abbrev dktX0_readsRota_0 : List UInt8 := dkwX0_readsRota_0 ++ dktX0_readsRota_1
theorem dksX0_readsRota_0 : cX0_readsRota.data.toList.drop 0 = dktX0_readsRota_0 := by decide +kernel
theorem dksX0_readsRota_1 : cX0_readsRota.data.toList.drop 22 = dktX0_readsRota_1 := dk_seg dksX0_readsRota_0 22 rfl rfl
theorem dksX0_readsRota_2 : cX0_readsRota.data.toList.drop 46 = dktX0_readsRota_2 := dk_seg dksX0_readsRota_1 24 rfl rfl
theorem dksX0_readsRota_3 : cX0_readsRota.data.toList.drop 70 = dktX0_readsRota_3 := dk_seg dksX0_readsRota_2 24 rfl rfl
theorem dksX0_readsRota_4 : cX0_readsRota.data.toList.drop 94 = dktX0_readsRota_4 := dk_seg dksX0_readsRota_3 24 rfl rfl
theorem dksX0_readsRota_5 : cX0_readsRota.data.toList.drop 117 = dktX0_readsRota_5 := dk_seg dksX0_readsRota_4 23 rfl rfl
theorem dksX0_readsRota_6 : cX0_readsRota.data.toList.drop 140 = dktX0_readsRota_6 := dk_seg dksX0_readsRota_5 23 rfl rfl
theorem dX0_readsRota_0 : decode cX0_readsRota 0 = .ok (.bipush 20, 2) := dk_16 20 (dk_at dksX0_readsRota_0 0 rfl rfl)
theorem dX0_readsRota_2 : decode cX0_readsRota 2 = .ok (.anewarray 126, 3) := dk_189 0 126 (dk_at dksX0_readsRota_0 2 rfl rfl)
theorem dX0_readsRota_5 : decode cX0_readsRota 5 = .ok (.astore_n 1, 1) := dk_76 (dk_at dksX0_readsRota_0 5 rfl rfl)
theorem dX0_readsRota_6 : decode cX0_readsRota 6 = .ok (.iconst 0, 1) := dk_3 (dk_at dksX0_readsRota_0 6 rfl rfl)
theorem dX0_readsRota_7 : decode cX0_readsRota 7 = .ok (.istore_n 2, 1) := dk_61 (dk_at dksX0_readsRota_0 7 rfl rfl)
theorem dX0_readsRota_8 : decode cX0_readsRota 8 = .ok (.aload_n 0, 1) := dk_42 (dk_at dksX0_readsRota_0 8 rfl rfl)
theorem dX0_readsRota_9 : decode cX0_readsRota 9 = .ok (.getfield 258, 3) := dk_180 1 2 (dk_at dksX0_readsRota_0 9 rfl rfl)
theorem dX0_readsRota_12 : decode cX0_readsRota 12 = .ok (.getstatic 277, 3) := dk_178 1 21 (dk_at dksX0_readsRota_0 12 rfl rfl)
theorem dX0_readsRota_15 : decode cX0_readsRota 15 = .ok (.if_acmp .eq 113, 3) := dk_165 0 113 (dk_at dksX0_readsRota_0 15 rfl rfl)
theorem dX0_readsRota_18 : decode cX0_readsRota 18 = .ok (.aload_n 0, 1) := dk_42 (dk_at dksX0_readsRota_0 18 rfl rfl)
theorem dX0_readsRota_19 : decode cX0_readsRota 19 = .ok (.aload_n 0, 1) := dk_42 (dk_at dksX0_readsRota_0 19 rfl rfl)
theorem dX0_readsRota_20 : decode cX0_readsRota 20 = .ok (.ldc 48, 2) := dk_18 48 (dk_at dksX0_readsRota_0 20 rfl rfl)
theorem dX0_readsRota_22 : decode cX0_readsRota 22 = .ok (.invokevirtual 341, 3) := dk_182 1 85 (dk_at dksX0_readsRota_1 0 rfl rfl)
theorem dX0_readsRota_25 : decode cX0_readsRota 25 = .ok (.invokevirtual 312, 3) := dk_182 1 56 (dk_at dksX0_readsRota_1 3 rfl rfl)
theorem dX0_readsRota_28 : decode cX0_readsRota 28 = .ok (.iload_n 2, 1) := dk_28 (dk_at dksX0_readsRota_1 6 rfl rfl)
theorem dX0_readsRota_29 : decode cX0_readsRota 29 = .ok (.bipush 20, 2) := dk_16 20 (dk_at dksX0_readsRota_1 7 rfl rfl)
theorem dX0_readsRota_31 : decode cX0_readsRota 31 = .ok (.if_icmp .ne 16, 3) := dk_160 0 16 (dk_at dksX0_readsRota_1 9 rfl rfl)
theorem dX0_readsRota_34 : decode cX0_readsRota 34 = .ok (.new 303, 3) := dk_187 1 47 (dk_at dksX0_readsRota_1 12 rfl rfl)
theorem dX0_readsRota_37 : decode cX0_readsRota 37 = .ok (.dup, 1) := dk_89 (dk_at dksX0_readsRota_1 15 rfl rfl)
theorem dX0_readsRota_38 : decode cX0_readsRota 38 = .ok (.iconst 3, 1) := dk_6 (dk_at dksX0_readsRota_1 16 rfl rfl)
theorem dX0_readsRota_39 : decode cX0_readsRota 39 = .ok (.aload_n 0, 1) := dk_42 (dk_at dksX0_readsRota_1 17 rfl rfl)
theorem dX0_readsRota_40 : decode cX0_readsRota 40 = .ok (.getfield 248, 3) := dk_180 0 248 (dk_at dksX0_readsRota_1 18 rfl rfl)
theorem dX0_readsRota_43 : decode cX0_readsRota 43 = .ok (.invokespecial 305, 3) := dk_183 1 49 (dk_at dksX0_readsRota_1 21 rfl rfl)
theorem dX0_readsRota_46 : decode cX0_readsRota 46 = .ok (.athrow, 1) := dk_191 (dk_at dksX0_readsRota_2 0 rfl rfl)
theorem dX0_readsRota_47 : decode cX0_readsRota 47 = .ok (.aload_n 1, 1) := dk_43 (dk_at dksX0_readsRota_2 1 rfl rfl)
theorem dX0_readsRota_48 : decode cX0_readsRota 48 = .ok (.iload_n 2, 1) := dk_28 (dk_at dksX0_readsRota_2 2 rfl rfl)
theorem dX0_readsRota_49 : decode cX0_readsRota 49 = .ok (.new 126, 3) := dk_187 0 126 (dk_at dksX0_readsRota_2 3 rfl rfl)
theorem dX0_readsRota_52 : decode cX0_readsRota 52 = .ok (.dup, 1) := dk_89 (dk_at dksX0_readsRota_2 6 rfl rfl)
theorem dX0_readsRota_53 : decode cX0_readsRota 53 = .ok (.aload_n 0, 1) := dk_42 (dk_at dksX0_readsRota_2 7 rfl rfl)
theorem dX0_readsRota_54 : decode cX0_readsRota 54 = .ok (.ldc 48, 2) := dk_18 48 (dk_at dksX0_readsRota_2 8 rfl rfl)
theorem dX0_readsRota_56 : decode cX0_readsRota 56 = .ok (.iconst 0, 1) := dk_3 (dk_at dksX0_readsRota_2 10 rfl rfl)
theorem dX0_readsRota_57 : decode cX0_readsRota 57 = .ok (.aload_n 0, 1) := dk_42 (dk_at dksX0_readsRota_2 11 rfl rfl)
theorem dX0_readsRota_58 : decode cX0_readsRota 58 = .ok (.getfield 393, 3) := dk_180 1 137 (dk_at dksX0_readsRota_2 12 rfl rfl)
theorem dX0_readsRota_61 : decode cX0_readsRota 61 = .ok (.iconst 1, 1) := dk_4 (dk_at dksX0_readsRota_2 15 rfl rfl)
theorem dX0_readsRota_62 : decode cX0_readsRota 62 = .ok (.isub, 1) := dk_100 (dk_at dksX0_readsRota_2 16 rfl rfl)
theorem dX0_readsRota_63 : decode cX0_readsRota 63 = .ok (.invokevirtual 383, 3) := dk_182 1 127 (dk_at dksX0_readsRota_2 17 rfl rfl)
theorem dX0_readsRota_66 : decode cX0_readsRota 66 = .ok (.aload_n 0, 1) := dk_42 (dk_at dksX0_readsRota_2 20 rfl rfl)
theorem dX0_readsRota_67 : decode cX0_readsRota 67 = .ok (.ldc 50, 2) := dk_18 50 (dk_at dksX0_readsRota_2 21 rfl rfl)
theorem dX0_readsRota_69 : decode cX0_readsRota 69 = .ok (.iconst 0, 1) := dk_3 (dk_at dksX0_readsRota_2 23 rfl rfl)
theorem dX0_readsRota_70 : decode cX0_readsRota 70 = .ok (.aload_n 0, 1) := dk_42 (dk_at dksX0_readsRota_3 0 rfl rfl)
theorem dX0_readsRota_71 : decode cX0_readsRota 71 = .ok (.getfield 396, 3) := dk_180 1 140 (dk_at dksX0_readsRota_3 1 rfl rfl)
theorem dX0_readsRota_74 : decode cX0_readsRota 74 = .ok (.iconst 1, 1) := dk_4 (dk_at dksX0_readsRota_3 4 rfl rfl)
theorem dX0_readsRota_75 : decode cX0_readsRota 75 = .ok (.isub, 1) := dk_100 (dk_at dksX0_readsRota_3 5 rfl rfl)
theorem dX0_readsRota_76 : decode cX0_readsRota 76 = .ok (.invokevirtual 383, 3) := dk_182 1 127 (dk_at dksX0_readsRota_3 6 rfl rfl)
theorem dX0_readsRota_79 : decode cX0_readsRota 79 = .ok (.aload_n 0, 1) := dk_42 (dk_at dksX0_readsRota_3 9 rfl rfl)
theorem dX0_readsRota_80 : decode cX0_readsRota 80 = .ok (.ldc 42, 2) := dk_18 42 (dk_at dksX0_readsRota_3 10 rfl rfl)
theorem dX0_readsRota_82 : decode cX0_readsRota 82 = .ok (.iconst 0, 1) := dk_3 (dk_at dksX0_readsRota_3 12 rfl rfl)
theorem dX0_readsRota_83 : decode cX0_readsRota 83 = .ok (.aload_n 0, 1) := dk_42 (dk_at dksX0_readsRota_3 13 rfl rfl)
theorem dX0_readsRota_84 : decode cX0_readsRota 84 = .ok (.getfield 122, 3) := dk_180 0 122 (dk_at dksX0_readsRota_3 14 rfl rfl)
theorem dX0_readsRota_87 : decode cX0_readsRota 87 = .ok (.arraylength, 1) := dk_190 (dk_at dksX0_readsRota_3 17 rfl rfl)
theorem dX0_readsRota_88 : decode cX0_readsRota 88 = .ok (.iconst 1, 1) := dk_4 (dk_at dksX0_readsRota_3 18 rfl rfl)
theorem dX0_readsRota_89 : decode cX0_readsRota 89 = .ok (.isub, 1) := dk_100 (dk_at dksX0_readsRota_3 19 rfl rfl)
theorem dX0_readsRota_90 : decode cX0_readsRota 90 = .ok (.invokevirtual 383, 3) := dk_182 1 127 (dk_at dksX0_readsRota_3 20 rfl rfl)
theorem dX0_readsRota_93 : decode cX0_readsRota 93 = .ok (.aload_n 0, 1) := dk_42 (dk_at dksX0_readsRota_3 23 rfl rfl)
theorem dX0_readsRota_94 : decode cX0_readsRota 94 = .ok (.ldc 52, 2) := dk_18 52 (dk_at dksX0_readsRota_4 0 rfl rfl)
theorem dX0_readsRota_96 : decode cX0_readsRota 96 = .ok (.iconst 0, 1) := dk_3 (dk_at dksX0_readsRota_4 2 rfl rfl)
theorem dX0_readsRota_97 : decode cX0_readsRota 97 = .ok (.sipush 9999, 3) := dk_17 39 15 (dk_at dksX0_readsRota_4 3 rfl rfl)
theorem dX0_readsRota_100 : decode cX0_readsRota 100 = .ok (.invokevirtual 383, 3) := dk_182 1 127 (dk_at dksX0_readsRota_4 6 rfl rfl)
theorem dX0_readsRota_103 : decode cX0_readsRota 103 = .ok (.aload_n 0, 1) := dk_42 (dk_at dksX0_readsRota_4 9 rfl rfl)
theorem dX0_readsRota_104 : decode cX0_readsRota 104 = .ok (.ldc 54, 2) := dk_18 54 (dk_at dksX0_readsRota_4 10 rfl rfl)
theorem dX0_readsRota_106 : decode cX0_readsRota 106 = .ok (.iconst 1, 1) := dk_4 (dk_at dksX0_readsRota_4 12 rfl rfl)
theorem dX0_readsRota_107 : decode cX0_readsRota 107 = .ok (.bipush 99, 2) := dk_16 99 (dk_at dksX0_readsRota_4 13 rfl rfl)
theorem dX0_readsRota_109 : decode cX0_readsRota 109 = .ok (.invokevirtual 383, 3) := dk_182 1 127 (dk_at dksX0_readsRota_4 15 rfl rfl)
theorem dX0_readsRota_112 : decode cX0_readsRota 112 = .ok (.invokespecial 399, 3) := dk_183 1 143 (dk_at dksX0_readsRota_4 18 rfl rfl)
theorem dX0_readsRota_115 : decode cX0_readsRota 115 = .ok (.aastore, 1) := dk_83 (dk_at dksX0_readsRota_4 21 rfl rfl)
theorem dX0_readsRota_116 : decode cX0_readsRota 116 = .ok (.aload_n 0, 1) := dk_42 (dk_at dksX0_readsRota_4 22 rfl rfl)
theorem dX0_readsRota_117 : decode cX0_readsRota 117 = .ok (.bipush 59, 2) := dk_16 59 (dk_at dksX0_readsRota_5 0 rfl rfl)
theorem dX0_readsRota_119 : decode cX0_readsRota 119 = .ok (.invokevirtual 358, 3) := dk_182 1 102 (dk_at dksX0_readsRota_5 2 rfl rfl)
theorem dX0_readsRota_122 : decode cX0_readsRota 122 = .ok (.iinc 2 1, 3) := dk_132 2 1 (dk_at dksX0_readsRota_5 5 rfl rfl)
theorem dX0_readsRota_125 : decode cX0_readsRota 125 = .ok (.goto (-117), 3) := dk_167 255 139 (dk_at dksX0_readsRota_5 8 rfl rfl)
theorem dX0_readsRota_128 : decode cX0_readsRota 128 = .ok (.iload_n 2, 1) := dk_28 (dk_at dksX0_readsRota_5 11 rfl rfl)
theorem dX0_readsRota_129 : decode cX0_readsRota 129 = .ok (.anewarray 126, 3) := dk_189 0 126 (dk_at dksX0_readsRota_5 12 rfl rfl)
theorem dX0_readsRota_132 : decode cX0_readsRota 132 = .ok (.astore_n 3, 1) := dk_78 (dk_at dksX0_readsRota_5 15 rfl rfl)
theorem dX0_readsRota_133 : decode cX0_readsRota 133 = .ok (.iconst 0, 1) := dk_3 (dk_at dksX0_readsRota_5 16 rfl rfl)
theorem dX0_readsRota_134 : decode cX0_readsRota 134 = .ok (.istore 4, 2) := dk_54 4 (dk_at dksX0_readsRota_5 17 rfl rfl)
theorem dX0_readsRota_136 : decode cX0_readsRota 136 = .ok (.iload 4, 2) := dk_21 4 (dk_at dksX0_readsRota_5 19 rfl rfl)
theorem dX0_readsRota_138 : decode cX0_readsRota 138 = .ok (.aload_n 3, 1) := dk_45 (dk_at dksX0_readsRota_5 21 rfl rfl)
theorem dX0_readsRota_139 : decode cX0_readsRota 139 = .ok (.arraylength, 1) := dk_190 (dk_at dksX0_readsRota_5 22 rfl rfl)
theorem dX0_readsRota_140 : decode cX0_readsRota 140 = .ok (.if_icmp .ge 17, 3) := dk_162 0 17 (dk_at dksX0_readsRota_6 0 rfl rfl)
theorem dX0_readsRota_143 : decode cX0_readsRota 143 = .ok (.aload_n 3, 1) := dk_45 (dk_at dksX0_readsRota_6 3 rfl rfl)
theorem dX0_readsRota_144 : decode cX0_readsRota 144 = .ok (.iload 4, 2) := dk_21 4 (dk_at dksX0_readsRota_6 4 rfl rfl)
theorem dX0_readsRota_146 : decode cX0_readsRota 146 = .ok (.aload_n 1, 1) := dk_43 (dk_at dksX0_readsRota_6 6 rfl rfl)
theorem dX0_readsRota_147 : decode cX0_readsRota 147 = .ok (.iload 4, 2) := dk_21 4 (dk_at dksX0_readsRota_6 7 rfl rfl)
theorem dX0_readsRota_149 : decode cX0_readsRota 149 = .ok (.aaload, 1) := dk_50 (dk_at dksX0_readsRota_6 9 rfl rfl)
theorem dX0_readsRota_150 : decode cX0_readsRota 150 = .ok (.aastore, 1) := dk_83 (dk_at dksX0_readsRota_6 10 rfl rfl)
theorem dX0_readsRota_151 : decode cX0_readsRota 151 = .ok (.iinc 4 1, 3) := dk_132 4 1 (dk_at dksX0_readsRota_6 11 rfl rfl)
theorem dX0_readsRota_154 : decode cX0_readsRota 154 = .ok (.goto (-18), 3) := dk_167 255 238 (dk_at dksX0_readsRota_6 14 rfl rfl)
theorem dX0_readsRota_157 : decode cX0_readsRota 157 = .ok (.aload_n 3, 1) := dk_45 (dk_at dksX0_readsRota_6 17 rfl rfl)
theorem dX0_readsRota_158 : decode cX0_readsRota 158 = .ok (.areturn, 1) := dk_176 (dk_at dksX0_readsRota_6 18 rfl rfl)
abbrev cX0_takesRota : ByteArray := prog_1_method_34_code
def yX0_takesRota : MethodName := ⟨RX0, "takesRota", "([LToolUnion$Turn;)I"⟩
def dkwX0_takesRota_0 : List UInt8 := [42, 43, 181, 0, 128, 42, 3, 181, 1, 152, 42, 180, 0, 128, 190, 172]
abbrev dktX0_takesRota_0 : List UInt8 := dkwX0_takesRota_0 ++ []
theorem dksX0_takesRota_0 : cX0_takesRota.data.toList.drop 0 = dktX0_takesRota_0 := by decide +kernel
theorem dX0_takesRota_0 : decode cX0_takesRota 0 = .ok (.aload_n 0, 1) := dk_42 (dk_at dksX0_takesRota_0 0 rfl rfl)
theorem dX0_takesRota_1 : decode cX0_takesRota 1 = .ok (.aload_n 1, 1) := dk_43 (dk_at dksX0_takesRota_0 1 rfl rfl)
theorem dX0_takesRota_2 : decode cX0_takesRota 2 = .ok (.putfield 128, 3) := dk_181 0 128 (dk_at dksX0_takesRota_0 2 rfl rfl)
theorem dX0_takesRota_5 : decode cX0_takesRota 5 = .ok (.aload_n 0, 1) := dk_42 (dk_at dksX0_takesRota_0 5 rfl rfl)
theorem dX0_takesRota_6 : decode cX0_takesRota 6 = .ok (.iconst 0, 1) := dk_3 (dk_at dksX0_takesRota_0 6 rfl rfl)
theorem dX0_takesRota_7 : decode cX0_takesRota 7 = .ok (.putfield 408, 3) := dk_181 1 152 (dk_at dksX0_takesRota_0 7 rfl rfl)
theorem dX0_takesRota_10 : decode cX0_takesRota 10 = .ok (.aload_n 0, 1) := dk_42 (dk_at dksX0_takesRota_0 10 rfl rfl)
theorem dX0_takesRota_11 : decode cX0_takesRota 11 = .ok (.getfield 128, 3) := dk_180 0 128 (dk_at dksX0_takesRota_0 11 rfl rfl)
theorem dX0_takesRota_14 : decode cX0_takesRota 14 = .ok (.arraylength, 1) := dk_190 (dk_at dksX0_takesRota_0 14 rfl rfl)
theorem dX0_takesRota_15 : decode cX0_takesRota 15 = .ok (.ireturn, 1) := dk_172 (dk_at dksX0_takesRota_0 15 rfl rfl)
abbrev cX0_readsLaw : ByteArray := prog_1_method_26_code
def yX0_readsLaw : MethodName := ⟨RX0, "readsLaw", "(Z)LToolUnion$Text;"⟩
def dkwX0_readsLaw_5 : List UInt8 := [83, 42, 16, 59, 182, 1, 102, 44, 89, 180, 1, 112, 4, 96, 181, 1, 112, 167, 255, 128, 44, 176]
abbrev dktX0_readsLaw_5 : List UInt8 := dkwX0_readsLaw_5 ++ []
def dkwX0_readsLaw_4 : List UInt8 := [18, 83, 182, 1, 85, 153, 0, 20, 42, 182, 1, 60, 44, 180, 1, 122, 44, 180, 1, 112, 42, 182, 1, 99]
abbrev dktX0_readsLaw_4 : List UInt8 := dkwX0_readsLaw_4 ++ dktX0_readsLaw_5
def dkwX0_readsLaw_3 : List UInt8 := [44, 180, 1, 112, 29, 79, 27, 153, 0, 16, 44, 180, 1, 118, 44, 180, 1, 112, 42, 182, 1, 106, 83, 42]
abbrev dktX0_readsLaw_3 : List UInt8 := dkwX0_readsLaw_3 ++ dktX0_readsLaw_4
def dkwX0_readsLaw_2 : List UInt8 := [160, 0, 16, 187, 1, 47, 89, 6, 42, 180, 0, 248, 183, 1, 49, 191, 42, 182, 1, 60, 44, 180, 1, 115]
abbrev dktX0_readsLaw_2 : List UInt8 := dkwX0_readsLaw_2 ++ dktX0_readsLaw_3
def dkwX0_readsLaw_1 : List UInt8 := [182, 1, 31, 62, 42, 29, 2, 159, 0, 7, 4, 167, 0, 4, 3, 182, 1, 56, 44, 180, 1, 112, 16, 16]
abbrev dktX0_readsLaw_1 : List UInt8 := dkwX0_readsLaw_1 ++ dktX0_readsLaw_2
def dkwX0_readsLaw_0 : List UInt8 := [187, 0, 110, 89, 183, 0, 112, 77, 42, 180, 1, 2, 178, 1, 21, 165, 0, 124, 42, 42, 180, 0, 97]
abbrev dktX0_readsLaw_0 : List UInt8 := dkwX0_readsLaw_0 ++ dktX0_readsLaw_1
theorem dksX0_readsLaw_0 : cX0_readsLaw.data.toList.drop 0 = dktX0_readsLaw_0 := by decide +kernel
theorem dksX0_readsLaw_1 : cX0_readsLaw.data.toList.drop 23 = dktX0_readsLaw_1 := dk_seg dksX0_readsLaw_0 23 rfl rfl
theorem dksX0_readsLaw_2 : cX0_readsLaw.data.toList.drop 47 = dktX0_readsLaw_2 := dk_seg dksX0_readsLaw_1 24 rfl rfl
theorem dksX0_readsLaw_3 : cX0_readsLaw.data.toList.drop 71 = dktX0_readsLaw_3 := dk_seg dksX0_readsLaw_2 24 rfl rfl
theorem dksX0_readsLaw_4 : cX0_readsLaw.data.toList.drop 95 = dktX0_readsLaw_4 := dk_seg dksX0_readsLaw_3 24 rfl rfl
theorem dksX0_readsLaw_5 : cX0_readsLaw.data.toList.drop 119 = dktX0_readsLaw_5 := dk_seg dksX0_readsLaw_4 24 rfl rfl
theorem dX0_readsLaw_0 : decode cX0_readsLaw 0 = .ok (.new 110, 3) := dk_187 0 110 (dk_at dksX0_readsLaw_0 0 rfl rfl)
theorem dX0_readsLaw_3 : decode cX0_readsLaw 3 = .ok (.dup, 1) := dk_89 (dk_at dksX0_readsLaw_0 3 rfl rfl)
theorem dX0_readsLaw_4 : decode cX0_readsLaw 4 = .ok (.invokespecial 112, 3) := dk_183 0 112 (dk_at dksX0_readsLaw_0 4 rfl rfl)
theorem dX0_readsLaw_7 : decode cX0_readsLaw 7 = .ok (.astore_n 2, 1) := dk_77 (dk_at dksX0_readsLaw_0 7 rfl rfl)
theorem dX0_readsLaw_8 : decode cX0_readsLaw 8 = .ok (.aload_n 0, 1) := dk_42 (dk_at dksX0_readsLaw_0 8 rfl rfl)
theorem dX0_readsLaw_9 : decode cX0_readsLaw 9 = .ok (.getfield 258, 3) := dk_180 1 2 (dk_at dksX0_readsLaw_0 9 rfl rfl)
theorem dX0_readsLaw_12 : decode cX0_readsLaw 12 = .ok (.getstatic 277, 3) := dk_178 1 21 (dk_at dksX0_readsLaw_0 12 rfl rfl)
theorem dX0_readsLaw_15 : decode cX0_readsLaw 15 = .ok (.if_acmp .eq 124, 3) := dk_165 0 124 (dk_at dksX0_readsLaw_0 15 rfl rfl)
theorem dX0_readsLaw_18 : decode cX0_readsLaw 18 = .ok (.aload_n 0, 1) := dk_42 (dk_at dksX0_readsLaw_0 18 rfl rfl)
theorem dX0_readsLaw_19 : decode cX0_readsLaw 19 = .ok (.aload_n 0, 1) := dk_42 (dk_at dksX0_readsLaw_0 19 rfl rfl)
theorem dX0_readsLaw_20 : decode cX0_readsLaw 20 = .ok (.getfield 97, 3) := dk_180 0 97 (dk_at dksX0_readsLaw_0 20 rfl rfl)
theorem dX0_readsLaw_23 : decode cX0_readsLaw 23 = .ok (.invokevirtual 287, 3) := dk_182 1 31 (dk_at dksX0_readsLaw_1 0 rfl rfl)
theorem dX0_readsLaw_26 : decode cX0_readsLaw 26 = .ok (.istore_n 3, 1) := dk_62 (dk_at dksX0_readsLaw_1 3 rfl rfl)
theorem dX0_readsLaw_27 : decode cX0_readsLaw 27 = .ok (.aload_n 0, 1) := dk_42 (dk_at dksX0_readsLaw_1 4 rfl rfl)
theorem dX0_readsLaw_28 : decode cX0_readsLaw 28 = .ok (.iload_n 3, 1) := dk_29 (dk_at dksX0_readsLaw_1 5 rfl rfl)
theorem dX0_readsLaw_29 : decode cX0_readsLaw 29 = .ok (.iconst (-1), 1) := dk_2 (dk_at dksX0_readsLaw_1 6 rfl rfl)
theorem dX0_readsLaw_30 : decode cX0_readsLaw 30 = .ok (.if_icmp .eq 7, 3) := dk_159 0 7 (dk_at dksX0_readsLaw_1 7 rfl rfl)
theorem dX0_readsLaw_33 : decode cX0_readsLaw 33 = .ok (.iconst 1, 1) := dk_4 (dk_at dksX0_readsLaw_1 10 rfl rfl)
theorem dX0_readsLaw_34 : decode cX0_readsLaw 34 = .ok (.goto 4, 3) := dk_167 0 4 (dk_at dksX0_readsLaw_1 11 rfl rfl)
theorem dX0_readsLaw_37 : decode cX0_readsLaw 37 = .ok (.iconst 0, 1) := dk_3 (dk_at dksX0_readsLaw_1 14 rfl rfl)
theorem dX0_readsLaw_38 : decode cX0_readsLaw 38 = .ok (.invokevirtual 312, 3) := dk_182 1 56 (dk_at dksX0_readsLaw_1 15 rfl rfl)
theorem dX0_readsLaw_41 : decode cX0_readsLaw 41 = .ok (.aload_n 2, 1) := dk_44 (dk_at dksX0_readsLaw_1 18 rfl rfl)
theorem dX0_readsLaw_42 : decode cX0_readsLaw 42 = .ok (.getfield 368, 3) := dk_180 1 112 (dk_at dksX0_readsLaw_1 19 rfl rfl)
theorem dX0_readsLaw_45 : decode cX0_readsLaw 45 = .ok (.bipush 16, 2) := dk_16 16 (dk_at dksX0_readsLaw_1 22 rfl rfl)
theorem dX0_readsLaw_47 : decode cX0_readsLaw 47 = .ok (.if_icmp .ne 16, 3) := dk_160 0 16 (dk_at dksX0_readsLaw_2 0 rfl rfl)
theorem dX0_readsLaw_50 : decode cX0_readsLaw 50 = .ok (.new 303, 3) := dk_187 1 47 (dk_at dksX0_readsLaw_2 3 rfl rfl)
theorem dX0_readsLaw_53 : decode cX0_readsLaw 53 = .ok (.dup, 1) := dk_89 (dk_at dksX0_readsLaw_2 6 rfl rfl)
theorem dX0_readsLaw_54 : decode cX0_readsLaw 54 = .ok (.iconst 3, 1) := dk_6 (dk_at dksX0_readsLaw_2 7 rfl rfl)
theorem dX0_readsLaw_55 : decode cX0_readsLaw 55 = .ok (.aload_n 0, 1) := dk_42 (dk_at dksX0_readsLaw_2 8 rfl rfl)
theorem dX0_readsLaw_56 : decode cX0_readsLaw 56 = .ok (.getfield 248, 3) := dk_180 0 248 (dk_at dksX0_readsLaw_2 9 rfl rfl)
theorem dX0_readsLaw_59 : decode cX0_readsLaw 59 = .ok (.invokespecial 305, 3) := dk_183 1 49 (dk_at dksX0_readsLaw_2 12 rfl rfl)
theorem dX0_readsLaw_62 : decode cX0_readsLaw 62 = .ok (.athrow, 1) := dk_191 (dk_at dksX0_readsLaw_2 15 rfl rfl)
theorem dX0_readsLaw_63 : decode cX0_readsLaw 63 = .ok (.aload_n 0, 1) := dk_42 (dk_at dksX0_readsLaw_2 16 rfl rfl)
theorem dX0_readsLaw_64 : decode cX0_readsLaw 64 = .ok (.invokevirtual 316, 3) := dk_182 1 60 (dk_at dksX0_readsLaw_2 17 rfl rfl)
theorem dX0_readsLaw_67 : decode cX0_readsLaw 67 = .ok (.aload_n 2, 1) := dk_44 (dk_at dksX0_readsLaw_2 20 rfl rfl)
theorem dX0_readsLaw_68 : decode cX0_readsLaw 68 = .ok (.getfield 371, 3) := dk_180 1 115 (dk_at dksX0_readsLaw_2 21 rfl rfl)
theorem dX0_readsLaw_71 : decode cX0_readsLaw 71 = .ok (.aload_n 2, 1) := dk_44 (dk_at dksX0_readsLaw_3 0 rfl rfl)
theorem dX0_readsLaw_72 : decode cX0_readsLaw 72 = .ok (.getfield 368, 3) := dk_180 1 112 (dk_at dksX0_readsLaw_3 1 rfl rfl)
theorem dX0_readsLaw_75 : decode cX0_readsLaw 75 = .ok (.iload_n 3, 1) := dk_29 (dk_at dksX0_readsLaw_3 4 rfl rfl)
theorem dX0_readsLaw_76 : decode cX0_readsLaw 76 = .ok (.iastore, 1) := dk_79 (dk_at dksX0_readsLaw_3 5 rfl rfl)
theorem dX0_readsLaw_77 : decode cX0_readsLaw 77 = .ok (.iload_n 1, 1) := dk_27 (dk_at dksX0_readsLaw_3 6 rfl rfl)
theorem dX0_readsLaw_78 : decode cX0_readsLaw 78 = .ok (.ifCond .eq 16, 3) := dk_153 0 16 (dk_at dksX0_readsLaw_3 7 rfl rfl)
theorem dX0_readsLaw_81 : decode cX0_readsLaw 81 = .ok (.aload_n 2, 1) := dk_44 (dk_at dksX0_readsLaw_3 10 rfl rfl)
theorem dX0_readsLaw_82 : decode cX0_readsLaw 82 = .ok (.getfield 374, 3) := dk_180 1 118 (dk_at dksX0_readsLaw_3 11 rfl rfl)
theorem dX0_readsLaw_85 : decode cX0_readsLaw 85 = .ok (.aload_n 2, 1) := dk_44 (dk_at dksX0_readsLaw_3 14 rfl rfl)
theorem dX0_readsLaw_86 : decode cX0_readsLaw 86 = .ok (.getfield 368, 3) := dk_180 1 112 (dk_at dksX0_readsLaw_3 15 rfl rfl)
theorem dX0_readsLaw_89 : decode cX0_readsLaw 89 = .ok (.aload_n 0, 1) := dk_42 (dk_at dksX0_readsLaw_3 18 rfl rfl)
theorem dX0_readsLaw_90 : decode cX0_readsLaw 90 = .ok (.invokevirtual 362, 3) := dk_182 1 106 (dk_at dksX0_readsLaw_3 19 rfl rfl)
theorem dX0_readsLaw_93 : decode cX0_readsLaw 93 = .ok (.aastore, 1) := dk_83 (dk_at dksX0_readsLaw_3 22 rfl rfl)
theorem dX0_readsLaw_94 : decode cX0_readsLaw 94 = .ok (.aload_n 0, 1) := dk_42 (dk_at dksX0_readsLaw_3 23 rfl rfl)
theorem dX0_readsLaw_95 : decode cX0_readsLaw 95 = .ok (.ldc 83, 2) := dk_18 83 (dk_at dksX0_readsLaw_4 0 rfl rfl)
theorem dX0_readsLaw_97 : decode cX0_readsLaw 97 = .ok (.invokevirtual 341, 3) := dk_182 1 85 (dk_at dksX0_readsLaw_4 2 rfl rfl)
theorem dX0_readsLaw_100 : decode cX0_readsLaw 100 = .ok (.ifCond .eq 20, 3) := dk_153 0 20 (dk_at dksX0_readsLaw_4 5 rfl rfl)
theorem dX0_readsLaw_103 : decode cX0_readsLaw 103 = .ok (.aload_n 0, 1) := dk_42 (dk_at dksX0_readsLaw_4 8 rfl rfl)
theorem dX0_readsLaw_104 : decode cX0_readsLaw 104 = .ok (.invokevirtual 316, 3) := dk_182 1 60 (dk_at dksX0_readsLaw_4 9 rfl rfl)
theorem dX0_readsLaw_107 : decode cX0_readsLaw 107 = .ok (.aload_n 2, 1) := dk_44 (dk_at dksX0_readsLaw_4 12 rfl rfl)
theorem dX0_readsLaw_108 : decode cX0_readsLaw 108 = .ok (.getfield 378, 3) := dk_180 1 122 (dk_at dksX0_readsLaw_4 13 rfl rfl)
theorem dX0_readsLaw_111 : decode cX0_readsLaw 111 = .ok (.aload_n 2, 1) := dk_44 (dk_at dksX0_readsLaw_4 16 rfl rfl)
theorem dX0_readsLaw_112 : decode cX0_readsLaw 112 = .ok (.getfield 368, 3) := dk_180 1 112 (dk_at dksX0_readsLaw_4 17 rfl rfl)
theorem dX0_readsLaw_115 : decode cX0_readsLaw 115 = .ok (.aload_n 0, 1) := dk_42 (dk_at dksX0_readsLaw_4 20 rfl rfl)
theorem dX0_readsLaw_116 : decode cX0_readsLaw 116 = .ok (.invokevirtual 355, 3) := dk_182 1 99 (dk_at dksX0_readsLaw_4 21 rfl rfl)
theorem dX0_readsLaw_119 : decode cX0_readsLaw 119 = .ok (.aastore, 1) := dk_83 (dk_at dksX0_readsLaw_5 0 rfl rfl)
theorem dX0_readsLaw_120 : decode cX0_readsLaw 120 = .ok (.aload_n 0, 1) := dk_42 (dk_at dksX0_readsLaw_5 1 rfl rfl)
theorem dX0_readsLaw_121 : decode cX0_readsLaw 121 = .ok (.bipush 59, 2) := dk_16 59 (dk_at dksX0_readsLaw_5 2 rfl rfl)
theorem dX0_readsLaw_123 : decode cX0_readsLaw 123 = .ok (.invokevirtual 358, 3) := dk_182 1 102 (dk_at dksX0_readsLaw_5 4 rfl rfl)
theorem dX0_readsLaw_126 : decode cX0_readsLaw 126 = .ok (.aload_n 2, 1) := dk_44 (dk_at dksX0_readsLaw_5 7 rfl rfl)
theorem dX0_readsLaw_127 : decode cX0_readsLaw 127 = .ok (.dup, 1) := dk_89 (dk_at dksX0_readsLaw_5 8 rfl rfl)
theorem dX0_readsLaw_128 : decode cX0_readsLaw 128 = .ok (.getfield 368, 3) := dk_180 1 112 (dk_at dksX0_readsLaw_5 9 rfl rfl)
theorem dX0_readsLaw_131 : decode cX0_readsLaw 131 = .ok (.iconst 1, 1) := dk_4 (dk_at dksX0_readsLaw_5 12 rfl rfl)
theorem dX0_readsLaw_132 : decode cX0_readsLaw 132 = .ok (.iadd, 1) := dk_96 (dk_at dksX0_readsLaw_5 13 rfl rfl)
theorem dX0_readsLaw_133 : decode cX0_readsLaw 133 = .ok (.putfield 368, 3) := dk_181 1 112 (dk_at dksX0_readsLaw_5 14 rfl rfl)
theorem dX0_readsLaw_136 : decode cX0_readsLaw 136 = .ok (.goto (-128), 3) := dk_167 255 128 (dk_at dksX0_readsLaw_5 17 rfl rfl)
theorem dX0_readsLaw_139 : decode cX0_readsLaw 139 = .ok (.aload_n 2, 1) := dk_44 (dk_at dksX0_readsLaw_5 20 rfl rfl)
theorem dX0_readsLaw_140 : decode cX0_readsLaw 140 = .ok (.areturn, 1) := dk_176 (dk_at dksX0_readsLaw_5 21 rfl rfl)
abbrev cX0_sum : ByteArray := prog_1_method_21_code
def yX0_sum : MethodName := ⟨RX0, "sum", "()LToolUnion$Term;"⟩
def dkwX0_sum_2 : List UInt8 := [167, 255, 214, 43, 176]
abbrev dktX0_sum_2 : List UInt8 := dkwX0_sum_2 ++ []
def dkwX0_sum_1 : List UInt8 := [180, 1, 18, 146, 61, 42, 182, 1, 60, 187, 1, 74, 89, 28, 43, 42, 182, 1, 79, 183, 1, 76, 76]
abbrev dktX0_sum_1 : List UInt8 := dkwX0_sum_1 ++ dktX0_sum_2
def dkwX0_sum_0 : List UInt8 := [42, 182, 1, 79, 76, 42, 16, 43, 182, 1, 52, 154, 0, 12, 42, 16, 45, 182, 1, 52, 153, 0, 30, 42]
abbrev dktX0_sum_0 : List UInt8 := dkwX0_sum_0 ++ dktX0_sum_1
theorem dksX0_sum_0 : cX0_sum.data.toList.drop 0 = dktX0_sum_0 := by decide +kernel
theorem dksX0_sum_1 : cX0_sum.data.toList.drop 24 = dktX0_sum_1 := dk_seg dksX0_sum_0 24 rfl rfl
theorem dksX0_sum_2 : cX0_sum.data.toList.drop 47 = dktX0_sum_2 := dk_seg dksX0_sum_1 23 rfl rfl
theorem dX0_sum_0 : decode cX0_sum 0 = .ok (.aload_n 0, 1) := dk_42 (dk_at dksX0_sum_0 0 rfl rfl)
theorem dX0_sum_1 : decode cX0_sum 1 = .ok (.invokevirtual 335, 3) := dk_182 1 79 (dk_at dksX0_sum_0 1 rfl rfl)
theorem dX0_sum_4 : decode cX0_sum 4 = .ok (.astore_n 1, 1) := dk_76 (dk_at dksX0_sum_0 4 rfl rfl)
theorem dX0_sum_5 : decode cX0_sum 5 = .ok (.aload_n 0, 1) := dk_42 (dk_at dksX0_sum_0 5 rfl rfl)
theorem dX0_sum_6 : decode cX0_sum 6 = .ok (.bipush 43, 2) := dk_16 43 (dk_at dksX0_sum_0 6 rfl rfl)
theorem dX0_sum_8 : decode cX0_sum 8 = .ok (.invokevirtual 308, 3) := dk_182 1 52 (dk_at dksX0_sum_0 8 rfl rfl)
theorem dX0_sum_11 : decode cX0_sum 11 = .ok (.ifCond .ne 12, 3) := dk_154 0 12 (dk_at dksX0_sum_0 11 rfl rfl)
theorem dX0_sum_14 : decode cX0_sum 14 = .ok (.aload_n 0, 1) := dk_42 (dk_at dksX0_sum_0 14 rfl rfl)
theorem dX0_sum_15 : decode cX0_sum 15 = .ok (.bipush 45, 2) := dk_16 45 (dk_at dksX0_sum_0 15 rfl rfl)
theorem dX0_sum_17 : decode cX0_sum 17 = .ok (.invokevirtual 308, 3) := dk_182 1 52 (dk_at dksX0_sum_0 17 rfl rfl)
theorem dX0_sum_20 : decode cX0_sum 20 = .ok (.ifCond .eq 30, 3) := dk_153 0 30 (dk_at dksX0_sum_0 20 rfl rfl)
theorem dX0_sum_23 : decode cX0_sum 23 = .ok (.aload_n 0, 1) := dk_42 (dk_at dksX0_sum_0 23 rfl rfl)
theorem dX0_sum_24 : decode cX0_sum 24 = .ok (.getfield 274, 3) := dk_180 1 18 (dk_at dksX0_sum_1 0 rfl rfl)
theorem dX0_sum_27 : decode cX0_sum 27 = .ok (.i2c, 1) := dk_146 (dk_at dksX0_sum_1 3 rfl rfl)
theorem dX0_sum_28 : decode cX0_sum 28 = .ok (.istore_n 2, 1) := dk_61 (dk_at dksX0_sum_1 4 rfl rfl)
theorem dX0_sum_29 : decode cX0_sum 29 = .ok (.aload_n 0, 1) := dk_42 (dk_at dksX0_sum_1 5 rfl rfl)
theorem dX0_sum_30 : decode cX0_sum 30 = .ok (.invokevirtual 316, 3) := dk_182 1 60 (dk_at dksX0_sum_1 6 rfl rfl)
theorem dX0_sum_33 : decode cX0_sum 33 = .ok (.new 330, 3) := dk_187 1 74 (dk_at dksX0_sum_1 9 rfl rfl)
theorem dX0_sum_36 : decode cX0_sum 36 = .ok (.dup, 1) := dk_89 (dk_at dksX0_sum_1 12 rfl rfl)
theorem dX0_sum_37 : decode cX0_sum 37 = .ok (.iload_n 2, 1) := dk_28 (dk_at dksX0_sum_1 13 rfl rfl)
theorem dX0_sum_38 : decode cX0_sum 38 = .ok (.aload_n 1, 1) := dk_43 (dk_at dksX0_sum_1 14 rfl rfl)
theorem dX0_sum_39 : decode cX0_sum 39 = .ok (.aload_n 0, 1) := dk_42 (dk_at dksX0_sum_1 15 rfl rfl)
theorem dX0_sum_40 : decode cX0_sum 40 = .ok (.invokevirtual 335, 3) := dk_182 1 79 (dk_at dksX0_sum_1 16 rfl rfl)
theorem dX0_sum_43 : decode cX0_sum 43 = .ok (.invokespecial 332, 3) := dk_183 1 76 (dk_at dksX0_sum_1 19 rfl rfl)
theorem dX0_sum_46 : decode cX0_sum 46 = .ok (.astore_n 1, 1) := dk_76 (dk_at dksX0_sum_1 22 rfl rfl)
theorem dX0_sum_47 : decode cX0_sum 47 = .ok (.goto (-42), 3) := dk_167 255 214 (dk_at dksX0_sum_2 0 rfl rfl)
theorem dX0_sum_50 : decode cX0_sum 50 = .ok (.aload_n 1, 1) := dk_43 (dk_at dksX0_sum_2 3 rfl rfl)
theorem dX0_sum_51 : decode cX0_sum 51 = .ok (.areturn, 1) := dk_176 (dk_at dksX0_sum_2 4 rfl rfl)
abbrev cX0_product : ByteArray := prog_1_method_20_code
def yX0_product : MethodName := ⟨RX0, "product", "()LToolUnion$Term;"⟩
def dkwX0_product_4 : List UInt8 := [43, 176]
abbrev dktX0_product_4 : List UInt8 := dkwX0_product_4 ++ []
def dkwX0_product_3 : List UInt8 := [180, 0, 248, 183, 1, 49, 191, 187, 1, 74, 89, 28, 43, 42, 182, 1, 70, 183, 1, 76, 76, 167, 255, 169]
abbrev dktX0_product_3 : List UInt8 := dkwX0_product_3 ++ dktX0_product_4
def dkwX0_product_2 : List UInt8 := [166, 0, 7, 4, 167, 0, 4, 3, 182, 1, 56, 42, 180, 1, 18, 154, 0, 16, 187, 1, 47, 89, 5, 42]
abbrev dktX0_product_2 : List UInt8 := dkwX0_product_2 ++ dktX0_product_3
def dkwX0_product_1 : List UInt8 := [180, 1, 18, 146, 61, 42, 182, 1, 60, 28, 16, 47, 160, 0, 42, 42, 42, 180, 1, 2, 178, 1, 39]
abbrev dktX0_product_1 : List UInt8 := dkwX0_product_1 ++ dktX0_product_2
def dkwX0_product_0 : List UInt8 := [42, 182, 1, 70, 76, 42, 16, 42, 182, 1, 52, 154, 0, 12, 42, 16, 47, 182, 1, 52, 153, 0, 75, 42]
abbrev dktX0_product_0 : List UInt8 := dkwX0_product_0 ++ dktX0_product_1
theorem dksX0_product_0 : cX0_product.data.toList.drop 0 = dktX0_product_0 := by decide +kernel
theorem dksX0_product_1 : cX0_product.data.toList.drop 24 = dktX0_product_1 := dk_seg dksX0_product_0 24 rfl rfl
theorem dksX0_product_2 : cX0_product.data.toList.drop 47 = dktX0_product_2 := dk_seg dksX0_product_1 23 rfl rfl
theorem dksX0_product_3 : cX0_product.data.toList.drop 71 = dktX0_product_3 := dk_seg dksX0_product_2 24 rfl rfl
theorem dksX0_product_4 : cX0_product.data.toList.drop 95 = dktX0_product_4 := dk_seg dksX0_product_3 24 rfl rfl
theorem dX0_product_0 : decode cX0_product 0 = .ok (.aload_n 0, 1) := dk_42 (dk_at dksX0_product_0 0 rfl rfl)
theorem dX0_product_1 : decode cX0_product 1 = .ok (.invokevirtual 326, 3) := dk_182 1 70 (dk_at dksX0_product_0 1 rfl rfl)
theorem dX0_product_4 : decode cX0_product 4 = .ok (.astore_n 1, 1) := dk_76 (dk_at dksX0_product_0 4 rfl rfl)
theorem dX0_product_5 : decode cX0_product 5 = .ok (.aload_n 0, 1) := dk_42 (dk_at dksX0_product_0 5 rfl rfl)
theorem dX0_product_6 : decode cX0_product 6 = .ok (.bipush 42, 2) := dk_16 42 (dk_at dksX0_product_0 6 rfl rfl)
theorem dX0_product_8 : decode cX0_product 8 = .ok (.invokevirtual 308, 3) := dk_182 1 52 (dk_at dksX0_product_0 8 rfl rfl)
theorem dX0_product_11 : decode cX0_product 11 = .ok (.ifCond .ne 12, 3) := dk_154 0 12 (dk_at dksX0_product_0 11 rfl rfl)
theorem dX0_product_14 : decode cX0_product 14 = .ok (.aload_n 0, 1) := dk_42 (dk_at dksX0_product_0 14 rfl rfl)
theorem dX0_product_15 : decode cX0_product 15 = .ok (.bipush 47, 2) := dk_16 47 (dk_at dksX0_product_0 15 rfl rfl)
theorem dX0_product_17 : decode cX0_product 17 = .ok (.invokevirtual 308, 3) := dk_182 1 52 (dk_at dksX0_product_0 17 rfl rfl)
theorem dX0_product_20 : decode cX0_product 20 = .ok (.ifCond .eq 75, 3) := dk_153 0 75 (dk_at dksX0_product_0 20 rfl rfl)
theorem dX0_product_23 : decode cX0_product 23 = .ok (.aload_n 0, 1) := dk_42 (dk_at dksX0_product_0 23 rfl rfl)
theorem dX0_product_24 : decode cX0_product 24 = .ok (.getfield 274, 3) := dk_180 1 18 (dk_at dksX0_product_1 0 rfl rfl)
theorem dX0_product_27 : decode cX0_product 27 = .ok (.i2c, 1) := dk_146 (dk_at dksX0_product_1 3 rfl rfl)
theorem dX0_product_28 : decode cX0_product 28 = .ok (.istore_n 2, 1) := dk_61 (dk_at dksX0_product_1 4 rfl rfl)
theorem dX0_product_29 : decode cX0_product 29 = .ok (.aload_n 0, 1) := dk_42 (dk_at dksX0_product_1 5 rfl rfl)
theorem dX0_product_30 : decode cX0_product 30 = .ok (.invokevirtual 316, 3) := dk_182 1 60 (dk_at dksX0_product_1 6 rfl rfl)
theorem dX0_product_33 : decode cX0_product 33 = .ok (.iload_n 2, 1) := dk_28 (dk_at dksX0_product_1 9 rfl rfl)
theorem dX0_product_34 : decode cX0_product 34 = .ok (.bipush 47, 2) := dk_16 47 (dk_at dksX0_product_1 10 rfl rfl)
theorem dX0_product_36 : decode cX0_product 36 = .ok (.if_icmp .ne 42, 3) := dk_160 0 42 (dk_at dksX0_product_1 12 rfl rfl)
theorem dX0_product_39 : decode cX0_product 39 = .ok (.aload_n 0, 1) := dk_42 (dk_at dksX0_product_1 15 rfl rfl)
theorem dX0_product_40 : decode cX0_product 40 = .ok (.aload_n 0, 1) := dk_42 (dk_at dksX0_product_1 16 rfl rfl)
theorem dX0_product_41 : decode cX0_product 41 = .ok (.getfield 258, 3) := dk_180 1 2 (dk_at dksX0_product_1 17 rfl rfl)
theorem dX0_product_44 : decode cX0_product 44 = .ok (.getstatic 295, 3) := dk_178 1 39 (dk_at dksX0_product_1 20 rfl rfl)
theorem dX0_product_47 : decode cX0_product 47 = .ok (.if_acmp .ne 7, 3) := dk_166 0 7 (dk_at dksX0_product_2 0 rfl rfl)
theorem dX0_product_50 : decode cX0_product 50 = .ok (.iconst 1, 1) := dk_4 (dk_at dksX0_product_2 3 rfl rfl)
theorem dX0_product_51 : decode cX0_product 51 = .ok (.goto 4, 3) := dk_167 0 4 (dk_at dksX0_product_2 4 rfl rfl)
theorem dX0_product_54 : decode cX0_product 54 = .ok (.iconst 0, 1) := dk_3 (dk_at dksX0_product_2 7 rfl rfl)
theorem dX0_product_55 : decode cX0_product 55 = .ok (.invokevirtual 312, 3) := dk_182 1 56 (dk_at dksX0_product_2 8 rfl rfl)
theorem dX0_product_58 : decode cX0_product 58 = .ok (.aload_n 0, 1) := dk_42 (dk_at dksX0_product_2 11 rfl rfl)
theorem dX0_product_59 : decode cX0_product 59 = .ok (.getfield 274, 3) := dk_180 1 18 (dk_at dksX0_product_2 12 rfl rfl)
theorem dX0_product_62 : decode cX0_product 62 = .ok (.ifCond .ne 16, 3) := dk_154 0 16 (dk_at dksX0_product_2 15 rfl rfl)
theorem dX0_product_65 : decode cX0_product 65 = .ok (.new 303, 3) := dk_187 1 47 (dk_at dksX0_product_2 18 rfl rfl)
theorem dX0_product_68 : decode cX0_product 68 = .ok (.dup, 1) := dk_89 (dk_at dksX0_product_2 21 rfl rfl)
theorem dX0_product_69 : decode cX0_product 69 = .ok (.iconst 2, 1) := dk_5 (dk_at dksX0_product_2 22 rfl rfl)
theorem dX0_product_70 : decode cX0_product 70 = .ok (.aload_n 0, 1) := dk_42 (dk_at dksX0_product_2 23 rfl rfl)
theorem dX0_product_71 : decode cX0_product 71 = .ok (.getfield 248, 3) := dk_180 0 248 (dk_at dksX0_product_3 0 rfl rfl)
theorem dX0_product_74 : decode cX0_product 74 = .ok (.invokespecial 305, 3) := dk_183 1 49 (dk_at dksX0_product_3 3 rfl rfl)
theorem dX0_product_77 : decode cX0_product 77 = .ok (.athrow, 1) := dk_191 (dk_at dksX0_product_3 6 rfl rfl)
theorem dX0_product_78 : decode cX0_product 78 = .ok (.new 330, 3) := dk_187 1 74 (dk_at dksX0_product_3 7 rfl rfl)
theorem dX0_product_81 : decode cX0_product 81 = .ok (.dup, 1) := dk_89 (dk_at dksX0_product_3 10 rfl rfl)
theorem dX0_product_82 : decode cX0_product 82 = .ok (.iload_n 2, 1) := dk_28 (dk_at dksX0_product_3 11 rfl rfl)
theorem dX0_product_83 : decode cX0_product 83 = .ok (.aload_n 1, 1) := dk_43 (dk_at dksX0_product_3 12 rfl rfl)
theorem dX0_product_84 : decode cX0_product 84 = .ok (.aload_n 0, 1) := dk_42 (dk_at dksX0_product_3 13 rfl rfl)
theorem dX0_product_85 : decode cX0_product 85 = .ok (.invokevirtual 326, 3) := dk_182 1 70 (dk_at dksX0_product_3 14 rfl rfl)
theorem dX0_product_88 : decode cX0_product 88 = .ok (.invokespecial 332, 3) := dk_183 1 76 (dk_at dksX0_product_3 17 rfl rfl)
theorem dX0_product_91 : decode cX0_product 91 = .ok (.astore_n 1, 1) := dk_76 (dk_at dksX0_product_3 20 rfl rfl)
theorem dX0_product_92 : decode cX0_product 92 = .ok (.goto (-87), 3) := dk_167 255 169 (dk_at dksX0_product_3 21 rfl rfl)
theorem dX0_product_95 : decode cX0_product 95 = .ok (.aload_n 1, 1) := dk_43 (dk_at dksX0_product_4 0 rfl rfl)
theorem dX0_product_96 : decode cX0_product 96 = .ok (.areturn, 1) := dk_176 (dk_at dksX0_product_4 1 rfl rfl)
abbrev cX0_unit : ByteArray := prog_1_method_19_code
def yX0_unit : MethodName := ⟨RX0, "unit", "()LToolUnion$Term;"⟩
def dkwX0_unit_2 : List UInt8 := [182, 1, 56, 42, 182, 1, 60, 187, 1, 67, 89, 27, 183, 1, 69, 176]
abbrev dktX0_unit_2 : List UInt8 := dkwX0_unit_2 ++ []
def dkwX0_unit_1 : List UInt8 := [183, 1, 65, 176, 42, 42, 180, 0, 100, 182, 1, 31, 60, 42, 27, 2, 159, 0, 7, 4, 167, 0, 4, 3]
abbrev dktX0_unit_1 : List UInt8 := dkwX0_unit_1 ++ dktX0_unit_2
def dkwX0_unit_0 : List UInt8 := [42, 180, 1, 2, 178, 1, 39, 166, 0, 21, 42, 180, 1, 18, 60, 42, 182, 1, 60, 187, 1, 63, 89, 27]
abbrev dktX0_unit_0 : List UInt8 := dkwX0_unit_0 ++ dktX0_unit_1
theorem dksX0_unit_0 : cX0_unit.data.toList.drop 0 = dktX0_unit_0 := by decide +kernel
theorem dksX0_unit_1 : cX0_unit.data.toList.drop 24 = dktX0_unit_1 := dk_seg dksX0_unit_0 24 rfl rfl
theorem dksX0_unit_2 : cX0_unit.data.toList.drop 48 = dktX0_unit_2 := dk_seg dksX0_unit_1 24 rfl rfl
theorem dX0_unit_0 : decode cX0_unit 0 = .ok (.aload_n 0, 1) := dk_42 (dk_at dksX0_unit_0 0 rfl rfl)
theorem dX0_unit_1 : decode cX0_unit 1 = .ok (.getfield 258, 3) := dk_180 1 2 (dk_at dksX0_unit_0 1 rfl rfl)
theorem dX0_unit_4 : decode cX0_unit 4 = .ok (.getstatic 295, 3) := dk_178 1 39 (dk_at dksX0_unit_0 4 rfl rfl)
theorem dX0_unit_7 : decode cX0_unit 7 = .ok (.if_acmp .ne 21, 3) := dk_166 0 21 (dk_at dksX0_unit_0 7 rfl rfl)
theorem dX0_unit_10 : decode cX0_unit 10 = .ok (.aload_n 0, 1) := dk_42 (dk_at dksX0_unit_0 10 rfl rfl)
theorem dX0_unit_11 : decode cX0_unit 11 = .ok (.getfield 274, 3) := dk_180 1 18 (dk_at dksX0_unit_0 11 rfl rfl)
theorem dX0_unit_14 : decode cX0_unit 14 = .ok (.istore_n 1, 1) := dk_60 (dk_at dksX0_unit_0 14 rfl rfl)
theorem dX0_unit_15 : decode cX0_unit 15 = .ok (.aload_n 0, 1) := dk_42 (dk_at dksX0_unit_0 15 rfl rfl)
theorem dX0_unit_16 : decode cX0_unit 16 = .ok (.invokevirtual 316, 3) := dk_182 1 60 (dk_at dksX0_unit_0 16 rfl rfl)
theorem dX0_unit_19 : decode cX0_unit 19 = .ok (.new 319, 3) := dk_187 1 63 (dk_at dksX0_unit_0 19 rfl rfl)
theorem dX0_unit_22 : decode cX0_unit 22 = .ok (.dup, 1) := dk_89 (dk_at dksX0_unit_0 22 rfl rfl)
theorem dX0_unit_23 : decode cX0_unit 23 = .ok (.iload_n 1, 1) := dk_27 (dk_at dksX0_unit_0 23 rfl rfl)
theorem dX0_unit_24 : decode cX0_unit 24 = .ok (.invokespecial 321, 3) := dk_183 1 65 (dk_at dksX0_unit_1 0 rfl rfl)
theorem dX0_unit_27 : decode cX0_unit 27 = .ok (.areturn, 1) := dk_176 (dk_at dksX0_unit_1 3 rfl rfl)
theorem dX0_unit_28 : decode cX0_unit 28 = .ok (.aload_n 0, 1) := dk_42 (dk_at dksX0_unit_1 4 rfl rfl)
theorem dX0_unit_29 : decode cX0_unit 29 = .ok (.aload_n 0, 1) := dk_42 (dk_at dksX0_unit_1 5 rfl rfl)
theorem dX0_unit_30 : decode cX0_unit 30 = .ok (.getfield 100, 3) := dk_180 0 100 (dk_at dksX0_unit_1 6 rfl rfl)
theorem dX0_unit_33 : decode cX0_unit 33 = .ok (.invokevirtual 287, 3) := dk_182 1 31 (dk_at dksX0_unit_1 9 rfl rfl)
theorem dX0_unit_36 : decode cX0_unit 36 = .ok (.istore_n 1, 1) := dk_60 (dk_at dksX0_unit_1 12 rfl rfl)
theorem dX0_unit_37 : decode cX0_unit 37 = .ok (.aload_n 0, 1) := dk_42 (dk_at dksX0_unit_1 13 rfl rfl)
theorem dX0_unit_38 : decode cX0_unit 38 = .ok (.iload_n 1, 1) := dk_27 (dk_at dksX0_unit_1 14 rfl rfl)
theorem dX0_unit_39 : decode cX0_unit 39 = .ok (.iconst (-1), 1) := dk_2 (dk_at dksX0_unit_1 15 rfl rfl)
theorem dX0_unit_40 : decode cX0_unit 40 = .ok (.if_icmp .eq 7, 3) := dk_159 0 7 (dk_at dksX0_unit_1 16 rfl rfl)
theorem dX0_unit_43 : decode cX0_unit 43 = .ok (.iconst 1, 1) := dk_4 (dk_at dksX0_unit_1 19 rfl rfl)
theorem dX0_unit_44 : decode cX0_unit 44 = .ok (.goto 4, 3) := dk_167 0 4 (dk_at dksX0_unit_1 20 rfl rfl)
theorem dX0_unit_47 : decode cX0_unit 47 = .ok (.iconst 0, 1) := dk_3 (dk_at dksX0_unit_1 23 rfl rfl)
theorem dX0_unit_48 : decode cX0_unit 48 = .ok (.invokevirtual 312, 3) := dk_182 1 56 (dk_at dksX0_unit_2 0 rfl rfl)
theorem dX0_unit_51 : decode cX0_unit 51 = .ok (.aload_n 0, 1) := dk_42 (dk_at dksX0_unit_2 3 rfl rfl)
theorem dX0_unit_52 : decode cX0_unit 52 = .ok (.invokevirtual 316, 3) := dk_182 1 60 (dk_at dksX0_unit_2 4 rfl rfl)
theorem dX0_unit_55 : decode cX0_unit 55 = .ok (.new 323, 3) := dk_187 1 67 (dk_at dksX0_unit_2 7 rfl rfl)
theorem dX0_unit_58 : decode cX0_unit 58 = .ok (.dup, 1) := dk_89 (dk_at dksX0_unit_2 10 rfl rfl)
theorem dX0_unit_59 : decode cX0_unit 59 = .ok (.iload_n 1, 1) := dk_27 (dk_at dksX0_unit_2 11 rfl rfl)
theorem dX0_unit_60 : decode cX0_unit 60 = .ok (.invokespecial 325, 3) := dk_183 1 69 (dk_at dksX0_unit_2 12 rfl rfl)
theorem dX0_unit_63 : decode cX0_unit 63 = .ok (.areturn, 1) := dk_176 (dk_at dksX0_unit_2 15 rfl rfl)
abbrev cX0_any : ByteArray := prog_1_method_25_code
def yX0_any : MethodName := ⟨RX0, "any", "()LToolUnion$Term;"⟩
def dkwX0_any_1 : List UInt8 := [43, 42, 182, 1, 109, 183, 1, 76, 76, 167, 255, 228, 43, 176]
abbrev dktX0_any_1 : List UInt8 := dkwX0_any_1 ++ []
def dkwX0_any_0 : List UInt8 := [42, 182, 1, 109, 76, 42, 18, 85, 182, 1, 85, 153, 0, 25, 42, 182, 1, 60, 187, 1, 74, 89, 16, 124]
abbrev dktX0_any_0 : List UInt8 := dkwX0_any_0 ++ dktX0_any_1
theorem dksX0_any_0 : cX0_any.data.toList.drop 0 = dktX0_any_0 := by decide +kernel
theorem dksX0_any_1 : cX0_any.data.toList.drop 24 = dktX0_any_1 := dk_seg dksX0_any_0 24 rfl rfl
theorem dX0_any_0 : decode cX0_any 0 = .ok (.aload_n 0, 1) := dk_42 (dk_at dksX0_any_0 0 rfl rfl)
theorem dX0_any_1 : decode cX0_any 1 = .ok (.invokevirtual 365, 3) := dk_182 1 109 (dk_at dksX0_any_0 1 rfl rfl)
theorem dX0_any_4 : decode cX0_any 4 = .ok (.astore_n 1, 1) := dk_76 (dk_at dksX0_any_0 4 rfl rfl)
theorem dX0_any_5 : decode cX0_any 5 = .ok (.aload_n 0, 1) := dk_42 (dk_at dksX0_any_0 5 rfl rfl)
theorem dX0_any_6 : decode cX0_any 6 = .ok (.ldc 85, 2) := dk_18 85 (dk_at dksX0_any_0 6 rfl rfl)
theorem dX0_any_8 : decode cX0_any 8 = .ok (.invokevirtual 341, 3) := dk_182 1 85 (dk_at dksX0_any_0 8 rfl rfl)
theorem dX0_any_11 : decode cX0_any 11 = .ok (.ifCond .eq 25, 3) := dk_153 0 25 (dk_at dksX0_any_0 11 rfl rfl)
theorem dX0_any_14 : decode cX0_any 14 = .ok (.aload_n 0, 1) := dk_42 (dk_at dksX0_any_0 14 rfl rfl)
theorem dX0_any_15 : decode cX0_any 15 = .ok (.invokevirtual 316, 3) := dk_182 1 60 (dk_at dksX0_any_0 15 rfl rfl)
theorem dX0_any_18 : decode cX0_any 18 = .ok (.new 330, 3) := dk_187 1 74 (dk_at dksX0_any_0 18 rfl rfl)
theorem dX0_any_21 : decode cX0_any 21 = .ok (.dup, 1) := dk_89 (dk_at dksX0_any_0 21 rfl rfl)
theorem dX0_any_22 : decode cX0_any 22 = .ok (.bipush 124, 2) := dk_16 124 (dk_at dksX0_any_0 22 rfl rfl)
theorem dX0_any_24 : decode cX0_any 24 = .ok (.aload_n 1, 1) := dk_43 (dk_at dksX0_any_1 0 rfl rfl)
theorem dX0_any_25 : decode cX0_any 25 = .ok (.aload_n 0, 1) := dk_42 (dk_at dksX0_any_1 1 rfl rfl)
theorem dX0_any_26 : decode cX0_any 26 = .ok (.invokevirtual 365, 3) := dk_182 1 109 (dk_at dksX0_any_1 2 rfl rfl)
theorem dX0_any_29 : decode cX0_any 29 = .ok (.invokespecial 332, 3) := dk_183 1 76 (dk_at dksX0_any_1 5 rfl rfl)
theorem dX0_any_32 : decode cX0_any 32 = .ok (.astore_n 1, 1) := dk_76 (dk_at dksX0_any_1 8 rfl rfl)
theorem dX0_any_33 : decode cX0_any 33 = .ok (.goto (-28), 3) := dk_167 255 228 (dk_at dksX0_any_1 9 rfl rfl)
theorem dX0_any_36 : decode cX0_any 36 = .ok (.aload_n 1, 1) := dk_43 (dk_at dksX0_any_1 12 rfl rfl)
theorem dX0_any_37 : decode cX0_any 37 = .ok (.areturn, 1) := dk_176 (dk_at dksX0_any_1 13 rfl rfl)
abbrev cX0_both : ByteArray := prog_1_method_24_code
def yX0_both : MethodName := ⟨RX0, "both", "()LToolUnion$Term;"⟩
def dkwX0_both_1 : List UInt8 := [43, 42, 182, 1, 91, 183, 1, 76, 76, 167, 255, 228, 43, 176]
abbrev dktX0_both_1 : List UInt8 := dkwX0_both_1 ++ []
def dkwX0_both_0 : List UInt8 := [42, 182, 1, 91, 76, 42, 18, 87, 182, 1, 85, 153, 0, 25, 42, 182, 1, 60, 187, 1, 74, 89, 16, 38]
abbrev dktX0_both_0 : List UInt8 := dkwX0_both_0 ++ dktX0_both_1
theorem dksX0_both_0 : cX0_both.data.toList.drop 0 = dktX0_both_0 := by decide +kernel
theorem dksX0_both_1 : cX0_both.data.toList.drop 24 = dktX0_both_1 := dk_seg dksX0_both_0 24 rfl rfl
theorem dX0_both_0 : decode cX0_both 0 = .ok (.aload_n 0, 1) := dk_42 (dk_at dksX0_both_0 0 rfl rfl)
theorem dX0_both_1 : decode cX0_both 1 = .ok (.invokevirtual 347, 3) := dk_182 1 91 (dk_at dksX0_both_0 1 rfl rfl)
theorem dX0_both_4 : decode cX0_both 4 = .ok (.astore_n 1, 1) := dk_76 (dk_at dksX0_both_0 4 rfl rfl)
theorem dX0_both_5 : decode cX0_both 5 = .ok (.aload_n 0, 1) := dk_42 (dk_at dksX0_both_0 5 rfl rfl)
theorem dX0_both_6 : decode cX0_both 6 = .ok (.ldc 87, 2) := dk_18 87 (dk_at dksX0_both_0 6 rfl rfl)
theorem dX0_both_8 : decode cX0_both 8 = .ok (.invokevirtual 341, 3) := dk_182 1 85 (dk_at dksX0_both_0 8 rfl rfl)
theorem dX0_both_11 : decode cX0_both 11 = .ok (.ifCond .eq 25, 3) := dk_153 0 25 (dk_at dksX0_both_0 11 rfl rfl)
theorem dX0_both_14 : decode cX0_both 14 = .ok (.aload_n 0, 1) := dk_42 (dk_at dksX0_both_0 14 rfl rfl)
theorem dX0_both_15 : decode cX0_both 15 = .ok (.invokevirtual 316, 3) := dk_182 1 60 (dk_at dksX0_both_0 15 rfl rfl)
theorem dX0_both_18 : decode cX0_both 18 = .ok (.new 330, 3) := dk_187 1 74 (dk_at dksX0_both_0 18 rfl rfl)
theorem dX0_both_21 : decode cX0_both 21 = .ok (.dup, 1) := dk_89 (dk_at dksX0_both_0 21 rfl rfl)
theorem dX0_both_22 : decode cX0_both 22 = .ok (.bipush 38, 2) := dk_16 38 (dk_at dksX0_both_0 22 rfl rfl)
theorem dX0_both_24 : decode cX0_both 24 = .ok (.aload_n 1, 1) := dk_43 (dk_at dksX0_both_1 0 rfl rfl)
theorem dX0_both_25 : decode cX0_both 25 = .ok (.aload_n 0, 1) := dk_42 (dk_at dksX0_both_1 1 rfl rfl)
theorem dX0_both_26 : decode cX0_both 26 = .ok (.invokevirtual 347, 3) := dk_182 1 91 (dk_at dksX0_both_1 2 rfl rfl)
theorem dX0_both_29 : decode cX0_both 29 = .ok (.invokespecial 332, 3) := dk_183 1 76 (dk_at dksX0_both_1 5 rfl rfl)
theorem dX0_both_32 : decode cX0_both 32 = .ok (.astore_n 1, 1) := dk_76 (dk_at dksX0_both_1 8 rfl rfl)
theorem dX0_both_33 : decode cX0_both 33 = .ok (.goto (-28), 3) := dk_167 255 228 (dk_at dksX0_both_1 9 rfl rfl)
theorem dX0_both_36 : decode cX0_both 36 = .ok (.aload_n 1, 1) := dk_43 (dk_at dksX0_both_1 12 rfl rfl)
theorem dX0_both_37 : decode cX0_both 37 = .ok (.areturn, 1) := dk_176 (dk_at dksX0_both_1 13 rfl rfl)
abbrev cX0_oneOf : ByteArray := prog_1_method_23_code
def yX0_oneOf : MethodName := ⟨RX0, "oneOf", "()LToolUnion$Term;"⟩
def dkwX0_oneOf_5 : List UInt8 := [146, 61, 42, 182, 1, 60, 187, 1, 74, 89, 28, 43, 42, 182, 1, 106, 183, 1, 76, 176]
abbrev dktX0_oneOf_5 : List UInt8 := dkwX0_oneOf_5 ++ []
def dkwX0_oneOf_4 : List UInt8 := [154, 0, 12, 42, 16, 62, 182, 1, 52, 153, 0, 7, 4, 167, 0, 4, 3, 182, 1, 56, 42, 180, 1, 18]
abbrev dktX0_oneOf_4 : List UInt8 := dkwX0_oneOf_4 ++ dktX0_oneOf_5
def dkwX0_oneOf_3 : List UInt8 := [43, 176, 42, 182, 1, 106, 76, 42, 42, 16, 60, 182, 1, 52, 154, 0, 21, 42, 16, 61, 182, 1, 52]
abbrev dktX0_oneOf_3 : List UInt8 := dkwX0_oneOf_3 ++ dktX0_oneOf_4
def dkwX0_oneOf_2 : List UInt8 := [182, 1, 88, 42, 182, 1, 99, 76, 42, 16, 41, 182, 1, 102, 42, 89, 180, 1, 82, 4, 100, 181, 1, 82]
abbrev dktX0_oneOf_2 : List UInt8 := dkwX0_oneOf_2 ++ dktX0_oneOf_3
def dkwX0_oneOf_1 : List UInt8 := [100, 181, 1, 82, 187, 1, 94, 89, 43, 183, 1, 96, 176, 42, 16, 40, 182, 1, 52, 153, 0, 30, 42]
abbrev dktX0_oneOf_1 : List UInt8 := dkwX0_oneOf_1 ++ dktX0_oneOf_2
def dkwX0_oneOf_0 : List UInt8 := [42, 18, 89, 182, 1, 85, 153, 0, 31, 42, 182, 1, 88, 42, 182, 1, 91, 76, 42, 89, 180, 1, 82, 4]
abbrev dktX0_oneOf_0 : List UInt8 := dkwX0_oneOf_0 ++ dktX0_oneOf_1
theorem dksX0_oneOf_0 : cX0_oneOf.data.toList.drop 0 = dktX0_oneOf_0 := by decide +kernel
theorem dksX0_oneOf_1 : cX0_oneOf.data.toList.drop 24 = dktX0_oneOf_1 := dk_seg dksX0_oneOf_0 24 rfl rfl
theorem dksX0_oneOf_2 : cX0_oneOf.data.toList.drop 47 = dktX0_oneOf_2 := dk_seg dksX0_oneOf_1 23 rfl rfl
theorem dksX0_oneOf_3 : cX0_oneOf.data.toList.drop 71 = dktX0_oneOf_3 := dk_seg dksX0_oneOf_2 24 rfl rfl
theorem dksX0_oneOf_4 : cX0_oneOf.data.toList.drop 94 = dktX0_oneOf_4 := dk_seg dksX0_oneOf_3 23 rfl rfl
theorem dksX0_oneOf_5 : cX0_oneOf.data.toList.drop 118 = dktX0_oneOf_5 := dk_seg dksX0_oneOf_4 24 rfl rfl
theorem dX0_oneOf_0 : decode cX0_oneOf 0 = .ok (.aload_n 0, 1) := dk_42 (dk_at dksX0_oneOf_0 0 rfl rfl)
theorem dX0_oneOf_1 : decode cX0_oneOf 1 = .ok (.ldc 89, 2) := dk_18 89 (dk_at dksX0_oneOf_0 1 rfl rfl)
theorem dX0_oneOf_3 : decode cX0_oneOf 3 = .ok (.invokevirtual 341, 3) := dk_182 1 85 (dk_at dksX0_oneOf_0 3 rfl rfl)
theorem dX0_oneOf_6 : decode cX0_oneOf 6 = .ok (.ifCond .eq 31, 3) := dk_153 0 31 (dk_at dksX0_oneOf_0 6 rfl rfl)
theorem dX0_oneOf_9 : decode cX0_oneOf 9 = .ok (.aload_n 0, 1) := dk_42 (dk_at dksX0_oneOf_0 9 rfl rfl)
theorem dX0_oneOf_10 : decode cX0_oneOf 10 = .ok (.invokevirtual 344, 3) := dk_182 1 88 (dk_at dksX0_oneOf_0 10 rfl rfl)
theorem dX0_oneOf_13 : decode cX0_oneOf 13 = .ok (.aload_n 0, 1) := dk_42 (dk_at dksX0_oneOf_0 13 rfl rfl)
theorem dX0_oneOf_14 : decode cX0_oneOf 14 = .ok (.invokevirtual 347, 3) := dk_182 1 91 (dk_at dksX0_oneOf_0 14 rfl rfl)
theorem dX0_oneOf_17 : decode cX0_oneOf 17 = .ok (.astore_n 1, 1) := dk_76 (dk_at dksX0_oneOf_0 17 rfl rfl)
theorem dX0_oneOf_18 : decode cX0_oneOf 18 = .ok (.aload_n 0, 1) := dk_42 (dk_at dksX0_oneOf_0 18 rfl rfl)
theorem dX0_oneOf_19 : decode cX0_oneOf 19 = .ok (.dup, 1) := dk_89 (dk_at dksX0_oneOf_0 19 rfl rfl)
theorem dX0_oneOf_20 : decode cX0_oneOf 20 = .ok (.getfield 338, 3) := dk_180 1 82 (dk_at dksX0_oneOf_0 20 rfl rfl)
theorem dX0_oneOf_23 : decode cX0_oneOf 23 = .ok (.iconst 1, 1) := dk_4 (dk_at dksX0_oneOf_0 23 rfl rfl)
theorem dX0_oneOf_24 : decode cX0_oneOf 24 = .ok (.isub, 1) := dk_100 (dk_at dksX0_oneOf_1 0 rfl rfl)
theorem dX0_oneOf_25 : decode cX0_oneOf 25 = .ok (.putfield 338, 3) := dk_181 1 82 (dk_at dksX0_oneOf_1 1 rfl rfl)
theorem dX0_oneOf_28 : decode cX0_oneOf 28 = .ok (.new 350, 3) := dk_187 1 94 (dk_at dksX0_oneOf_1 4 rfl rfl)
theorem dX0_oneOf_31 : decode cX0_oneOf 31 = .ok (.dup, 1) := dk_89 (dk_at dksX0_oneOf_1 7 rfl rfl)
theorem dX0_oneOf_32 : decode cX0_oneOf 32 = .ok (.aload_n 1, 1) := dk_43 (dk_at dksX0_oneOf_1 8 rfl rfl)
theorem dX0_oneOf_33 : decode cX0_oneOf 33 = .ok (.invokespecial 352, 3) := dk_183 1 96 (dk_at dksX0_oneOf_1 9 rfl rfl)
theorem dX0_oneOf_36 : decode cX0_oneOf 36 = .ok (.areturn, 1) := dk_176 (dk_at dksX0_oneOf_1 12 rfl rfl)
theorem dX0_oneOf_37 : decode cX0_oneOf 37 = .ok (.aload_n 0, 1) := dk_42 (dk_at dksX0_oneOf_1 13 rfl rfl)
theorem dX0_oneOf_38 : decode cX0_oneOf 38 = .ok (.bipush 40, 2) := dk_16 40 (dk_at dksX0_oneOf_1 14 rfl rfl)
theorem dX0_oneOf_40 : decode cX0_oneOf 40 = .ok (.invokevirtual 308, 3) := dk_182 1 52 (dk_at dksX0_oneOf_1 16 rfl rfl)
theorem dX0_oneOf_43 : decode cX0_oneOf 43 = .ok (.ifCond .eq 30, 3) := dk_153 0 30 (dk_at dksX0_oneOf_1 19 rfl rfl)
theorem dX0_oneOf_46 : decode cX0_oneOf 46 = .ok (.aload_n 0, 1) := dk_42 (dk_at dksX0_oneOf_1 22 rfl rfl)
theorem dX0_oneOf_47 : decode cX0_oneOf 47 = .ok (.invokevirtual 344, 3) := dk_182 1 88 (dk_at dksX0_oneOf_2 0 rfl rfl)
theorem dX0_oneOf_50 : decode cX0_oneOf 50 = .ok (.aload_n 0, 1) := dk_42 (dk_at dksX0_oneOf_2 3 rfl rfl)
theorem dX0_oneOf_51 : decode cX0_oneOf 51 = .ok (.invokevirtual 355, 3) := dk_182 1 99 (dk_at dksX0_oneOf_2 4 rfl rfl)
theorem dX0_oneOf_54 : decode cX0_oneOf 54 = .ok (.astore_n 1, 1) := dk_76 (dk_at dksX0_oneOf_2 7 rfl rfl)
theorem dX0_oneOf_55 : decode cX0_oneOf 55 = .ok (.aload_n 0, 1) := dk_42 (dk_at dksX0_oneOf_2 8 rfl rfl)
theorem dX0_oneOf_56 : decode cX0_oneOf 56 = .ok (.bipush 41, 2) := dk_16 41 (dk_at dksX0_oneOf_2 9 rfl rfl)
theorem dX0_oneOf_58 : decode cX0_oneOf 58 = .ok (.invokevirtual 358, 3) := dk_182 1 102 (dk_at dksX0_oneOf_2 11 rfl rfl)
theorem dX0_oneOf_61 : decode cX0_oneOf 61 = .ok (.aload_n 0, 1) := dk_42 (dk_at dksX0_oneOf_2 14 rfl rfl)
theorem dX0_oneOf_62 : decode cX0_oneOf 62 = .ok (.dup, 1) := dk_89 (dk_at dksX0_oneOf_2 15 rfl rfl)
theorem dX0_oneOf_63 : decode cX0_oneOf 63 = .ok (.getfield 338, 3) := dk_180 1 82 (dk_at dksX0_oneOf_2 16 rfl rfl)
theorem dX0_oneOf_66 : decode cX0_oneOf 66 = .ok (.iconst 1, 1) := dk_4 (dk_at dksX0_oneOf_2 19 rfl rfl)
theorem dX0_oneOf_67 : decode cX0_oneOf 67 = .ok (.isub, 1) := dk_100 (dk_at dksX0_oneOf_2 20 rfl rfl)
theorem dX0_oneOf_68 : decode cX0_oneOf 68 = .ok (.putfield 338, 3) := dk_181 1 82 (dk_at dksX0_oneOf_2 21 rfl rfl)
theorem dX0_oneOf_71 : decode cX0_oneOf 71 = .ok (.aload_n 1, 1) := dk_43 (dk_at dksX0_oneOf_3 0 rfl rfl)
theorem dX0_oneOf_72 : decode cX0_oneOf 72 = .ok (.areturn, 1) := dk_176 (dk_at dksX0_oneOf_3 1 rfl rfl)
theorem dX0_oneOf_73 : decode cX0_oneOf 73 = .ok (.aload_n 0, 1) := dk_42 (dk_at dksX0_oneOf_3 2 rfl rfl)
theorem dX0_oneOf_74 : decode cX0_oneOf 74 = .ok (.invokevirtual 362, 3) := dk_182 1 106 (dk_at dksX0_oneOf_3 3 rfl rfl)
theorem dX0_oneOf_77 : decode cX0_oneOf 77 = .ok (.astore_n 1, 1) := dk_76 (dk_at dksX0_oneOf_3 6 rfl rfl)
theorem dX0_oneOf_78 : decode cX0_oneOf 78 = .ok (.aload_n 0, 1) := dk_42 (dk_at dksX0_oneOf_3 7 rfl rfl)
theorem dX0_oneOf_79 : decode cX0_oneOf 79 = .ok (.aload_n 0, 1) := dk_42 (dk_at dksX0_oneOf_3 8 rfl rfl)
theorem dX0_oneOf_80 : decode cX0_oneOf 80 = .ok (.bipush 60, 2) := dk_16 60 (dk_at dksX0_oneOf_3 9 rfl rfl)
theorem dX0_oneOf_82 : decode cX0_oneOf 82 = .ok (.invokevirtual 308, 3) := dk_182 1 52 (dk_at dksX0_oneOf_3 11 rfl rfl)
theorem dX0_oneOf_85 : decode cX0_oneOf 85 = .ok (.ifCond .ne 21, 3) := dk_154 0 21 (dk_at dksX0_oneOf_3 14 rfl rfl)
theorem dX0_oneOf_88 : decode cX0_oneOf 88 = .ok (.aload_n 0, 1) := dk_42 (dk_at dksX0_oneOf_3 17 rfl rfl)
theorem dX0_oneOf_89 : decode cX0_oneOf 89 = .ok (.bipush 61, 2) := dk_16 61 (dk_at dksX0_oneOf_3 18 rfl rfl)
theorem dX0_oneOf_91 : decode cX0_oneOf 91 = .ok (.invokevirtual 308, 3) := dk_182 1 52 (dk_at dksX0_oneOf_3 20 rfl rfl)
theorem dX0_oneOf_94 : decode cX0_oneOf 94 = .ok (.ifCond .ne 12, 3) := dk_154 0 12 (dk_at dksX0_oneOf_4 0 rfl rfl)
theorem dX0_oneOf_97 : decode cX0_oneOf 97 = .ok (.aload_n 0, 1) := dk_42 (dk_at dksX0_oneOf_4 3 rfl rfl)
theorem dX0_oneOf_98 : decode cX0_oneOf 98 = .ok (.bipush 62, 2) := dk_16 62 (dk_at dksX0_oneOf_4 4 rfl rfl)
theorem dX0_oneOf_100 : decode cX0_oneOf 100 = .ok (.invokevirtual 308, 3) := dk_182 1 52 (dk_at dksX0_oneOf_4 6 rfl rfl)
theorem dX0_oneOf_103 : decode cX0_oneOf 103 = .ok (.ifCond .eq 7, 3) := dk_153 0 7 (dk_at dksX0_oneOf_4 9 rfl rfl)
theorem dX0_oneOf_106 : decode cX0_oneOf 106 = .ok (.iconst 1, 1) := dk_4 (dk_at dksX0_oneOf_4 12 rfl rfl)
theorem dX0_oneOf_107 : decode cX0_oneOf 107 = .ok (.goto 4, 3) := dk_167 0 4 (dk_at dksX0_oneOf_4 13 rfl rfl)
theorem dX0_oneOf_110 : decode cX0_oneOf 110 = .ok (.iconst 0, 1) := dk_3 (dk_at dksX0_oneOf_4 16 rfl rfl)
theorem dX0_oneOf_111 : decode cX0_oneOf 111 = .ok (.invokevirtual 312, 3) := dk_182 1 56 (dk_at dksX0_oneOf_4 17 rfl rfl)
theorem dX0_oneOf_114 : decode cX0_oneOf 114 = .ok (.aload_n 0, 1) := dk_42 (dk_at dksX0_oneOf_4 20 rfl rfl)
theorem dX0_oneOf_115 : decode cX0_oneOf 115 = .ok (.getfield 274, 3) := dk_180 1 18 (dk_at dksX0_oneOf_4 21 rfl rfl)
theorem dX0_oneOf_118 : decode cX0_oneOf 118 = .ok (.i2c, 1) := dk_146 (dk_at dksX0_oneOf_5 0 rfl rfl)
theorem dX0_oneOf_119 : decode cX0_oneOf 119 = .ok (.istore_n 2, 1) := dk_61 (dk_at dksX0_oneOf_5 1 rfl rfl)
theorem dX0_oneOf_120 : decode cX0_oneOf 120 = .ok (.aload_n 0, 1) := dk_42 (dk_at dksX0_oneOf_5 2 rfl rfl)
theorem dX0_oneOf_121 : decode cX0_oneOf 121 = .ok (.invokevirtual 316, 3) := dk_182 1 60 (dk_at dksX0_oneOf_5 3 rfl rfl)
theorem dX0_oneOf_124 : decode cX0_oneOf 124 = .ok (.new 330, 3) := dk_187 1 74 (dk_at dksX0_oneOf_5 6 rfl rfl)
theorem dX0_oneOf_127 : decode cX0_oneOf 127 = .ok (.dup, 1) := dk_89 (dk_at dksX0_oneOf_5 9 rfl rfl)
theorem dX0_oneOf_128 : decode cX0_oneOf 128 = .ok (.iload_n 2, 1) := dk_28 (dk_at dksX0_oneOf_5 10 rfl rfl)
theorem dX0_oneOf_129 : decode cX0_oneOf 129 = .ok (.aload_n 1, 1) := dk_43 (dk_at dksX0_oneOf_5 11 rfl rfl)
theorem dX0_oneOf_130 : decode cX0_oneOf 130 = .ok (.aload_n 0, 1) := dk_42 (dk_at dksX0_oneOf_5 12 rfl rfl)
theorem dX0_oneOf_131 : decode cX0_oneOf 131 = .ok (.invokevirtual 362, 3) := dk_182 1 106 (dk_at dksX0_oneOf_5 13 rfl rfl)
theorem dX0_oneOf_134 : decode cX0_oneOf 134 = .ok (.invokespecial 332, 3) := dk_183 1 76 (dk_at dksX0_oneOf_5 16 rfl rfl)
theorem dX0_oneOf_137 : decode cX0_oneOf 137 = .ok (.areturn, 1) := dk_176 (dk_at dksX0_oneOf_5 19 rfl rfl)
abbrev cX0_opens : ByteArray := prog_1_method_22_code
def yX0_opens : MethodName := ⟨RX0, "opens", "()V"⟩
def dkwX0_opens_1 : List UInt8 := [180, 1, 82, 4, 96, 181, 1, 82, 42, 182, 1, 60, 177]
abbrev dktX0_opens_1 : List UInt8 := dkwX0_opens_1 ++ []
def dkwX0_opens_0 : List UInt8 := [42, 180, 1, 82, 16, 8, 160, 0, 16, 187, 1, 47, 89, 6, 42, 180, 0, 248, 183, 1, 49, 191, 42, 89]
abbrev dktX0_opens_0 : List UInt8 := dkwX0_opens_0 ++ dktX0_opens_1
theorem dksX0_opens_0 : cX0_opens.data.toList.drop 0 = dktX0_opens_0 := by decide +kernel
theorem dksX0_opens_1 : cX0_opens.data.toList.drop 24 = dktX0_opens_1 := dk_seg dksX0_opens_0 24 rfl rfl
theorem dX0_opens_0 : decode cX0_opens 0 = .ok (.aload_n 0, 1) := dk_42 (dk_at dksX0_opens_0 0 rfl rfl)
theorem dX0_opens_1 : decode cX0_opens 1 = .ok (.getfield 338, 3) := dk_180 1 82 (dk_at dksX0_opens_0 1 rfl rfl)
theorem dX0_opens_4 : decode cX0_opens 4 = .ok (.bipush 8, 2) := dk_16 8 (dk_at dksX0_opens_0 4 rfl rfl)
theorem dX0_opens_6 : decode cX0_opens 6 = .ok (.if_icmp .ne 16, 3) := dk_160 0 16 (dk_at dksX0_opens_0 6 rfl rfl)
theorem dX0_opens_9 : decode cX0_opens 9 = .ok (.new 303, 3) := dk_187 1 47 (dk_at dksX0_opens_0 9 rfl rfl)
theorem dX0_opens_12 : decode cX0_opens 12 = .ok (.dup, 1) := dk_89 (dk_at dksX0_opens_0 12 rfl rfl)
theorem dX0_opens_13 : decode cX0_opens 13 = .ok (.iconst 3, 1) := dk_6 (dk_at dksX0_opens_0 13 rfl rfl)
theorem dX0_opens_14 : decode cX0_opens 14 = .ok (.aload_n 0, 1) := dk_42 (dk_at dksX0_opens_0 14 rfl rfl)
theorem dX0_opens_15 : decode cX0_opens 15 = .ok (.getfield 248, 3) := dk_180 0 248 (dk_at dksX0_opens_0 15 rfl rfl)
theorem dX0_opens_18 : decode cX0_opens 18 = .ok (.invokespecial 305, 3) := dk_183 1 49 (dk_at dksX0_opens_0 18 rfl rfl)
theorem dX0_opens_21 : decode cX0_opens 21 = .ok (.athrow, 1) := dk_191 (dk_at dksX0_opens_0 21 rfl rfl)
theorem dX0_opens_22 : decode cX0_opens 22 = .ok (.aload_n 0, 1) := dk_42 (dk_at dksX0_opens_0 22 rfl rfl)
theorem dX0_opens_23 : decode cX0_opens 23 = .ok (.dup, 1) := dk_89 (dk_at dksX0_opens_0 23 rfl rfl)
theorem dX0_opens_24 : decode cX0_opens 24 = .ok (.getfield 338, 3) := dk_180 1 82 (dk_at dksX0_opens_1 0 rfl rfl)
theorem dX0_opens_27 : decode cX0_opens 27 = .ok (.iconst 1, 1) := dk_4 (dk_at dksX0_opens_1 3 rfl rfl)
theorem dX0_opens_28 : decode cX0_opens 28 = .ok (.iadd, 1) := dk_96 (dk_at dksX0_opens_1 4 rfl rfl)
theorem dX0_opens_29 : decode cX0_opens 29 = .ok (.putfield 338, 3) := dk_181 1 82 (dk_at dksX0_opens_1 5 rfl rfl)
theorem dX0_opens_32 : decode cX0_opens 32 = .ok (.aload_n 0, 1) := dk_42 (dk_at dksX0_opens_1 8 rfl rfl)
theorem dX0_opens_33 : decode cX0_opens 33 = .ok (.invokevirtual 316, 3) := dk_182 1 60 (dk_at dksX0_opens_1 9 rfl rfl)
theorem dX0_opens_36 : decode cX0_opens 36 = .ok (.return_, 1) := dk_177 (dk_at dksX0_opens_1 12 rfl rfl)
abbrev cX0_fault : ByteArray := prog_1_method_37_code
def yX0_fault : MethodName := ⟨RX0, "fault", "(I)I"⟩
def dkwX0_fault_1 : List UInt8 := [172]
abbrev dktX0_fault_1 : List UInt8 := dkwX0_fault_1 ++ []
def dkwX0_fault_0 : List UInt8 := [27, 154, 0, 10, 42, 180, 1, 178, 167, 0, 16, 27, 4, 160, 0, 10, 42, 180, 0, 106, 167, 0, 4, 2]
abbrev dktX0_fault_0 : List UInt8 := dkwX0_fault_0 ++ dktX0_fault_1
theorem dksX0_fault_0 : cX0_fault.data.toList.drop 0 = dktX0_fault_0 := by decide +kernel
theorem dksX0_fault_1 : cX0_fault.data.toList.drop 24 = dktX0_fault_1 := dk_seg dksX0_fault_0 24 rfl rfl
theorem dX0_fault_0 : decode cX0_fault 0 = .ok (.iload_n 1, 1) := dk_27 (dk_at dksX0_fault_0 0 rfl rfl)
theorem dX0_fault_1 : decode cX0_fault 1 = .ok (.ifCond .ne 10, 3) := dk_154 0 10 (dk_at dksX0_fault_0 1 rfl rfl)
theorem dX0_fault_4 : decode cX0_fault 4 = .ok (.aload_n 0, 1) := dk_42 (dk_at dksX0_fault_0 4 rfl rfl)
theorem dX0_fault_5 : decode cX0_fault 5 = .ok (.getfield 434, 3) := dk_180 1 178 (dk_at dksX0_fault_0 5 rfl rfl)
theorem dX0_fault_8 : decode cX0_fault 8 = .ok (.goto 16, 3) := dk_167 0 16 (dk_at dksX0_fault_0 8 rfl rfl)
theorem dX0_fault_11 : decode cX0_fault 11 = .ok (.iload_n 1, 1) := dk_27 (dk_at dksX0_fault_0 11 rfl rfl)
theorem dX0_fault_12 : decode cX0_fault 12 = .ok (.iconst 1, 1) := dk_4 (dk_at dksX0_fault_0 12 rfl rfl)
theorem dX0_fault_13 : decode cX0_fault 13 = .ok (.if_icmp .ne 10, 3) := dk_160 0 10 (dk_at dksX0_fault_0 13 rfl rfl)
theorem dX0_fault_16 : decode cX0_fault 16 = .ok (.aload_n 0, 1) := dk_42 (dk_at dksX0_fault_0 16 rfl rfl)
theorem dX0_fault_17 : decode cX0_fault 17 = .ok (.getfield 106, 3) := dk_180 0 106 (dk_at dksX0_fault_0 17 rfl rfl)
theorem dX0_fault_20 : decode cX0_fault 20 = .ok (.goto 4, 3) := dk_167 0 4 (dk_at dksX0_fault_0 20 rfl rfl)
theorem dX0_fault_23 : decode cX0_fault 23 = .ok (.iconst (-1), 1) := dk_2 (dk_at dksX0_fault_0 23 rfl rfl)
theorem dX0_fault_24 : decode cX0_fault 24 = .ok (.ireturn, 1) := dk_172 (dk_at dksX0_fault_1 0 rfl rfl)
abbrev cX0_undo : ByteArray := prog_1_method_40_code
def yX0_undo : MethodName := ⟨RX0, "undo", "()Z"⟩
def dkwX0_undo_1 : List UInt8 := [180, 0, 177, 42, 180, 1, 152, 50, 182, 1, 201, 4, 172]
abbrev dktX0_undo_1 : List UInt8 := dkwX0_undo_1 ++ []
def dkwX0_undo_0 : List UInt8 := [42, 180, 1, 152, 154, 0, 5, 3, 172, 42, 89, 180, 1, 152, 4, 100, 181, 1, 152, 42, 180, 0, 164, 42]
abbrev dktX0_undo_0 : List UInt8 := dkwX0_undo_0 ++ dktX0_undo_1
theorem dksX0_undo_0 : cX0_undo.data.toList.drop 0 = dktX0_undo_0 := by decide +kernel
theorem dksX0_undo_1 : cX0_undo.data.toList.drop 24 = dktX0_undo_1 := dk_seg dksX0_undo_0 24 rfl rfl
theorem dX0_undo_0 : decode cX0_undo 0 = .ok (.aload_n 0, 1) := dk_42 (dk_at dksX0_undo_0 0 rfl rfl)
theorem dX0_undo_1 : decode cX0_undo 1 = .ok (.getfield 408, 3) := dk_180 1 152 (dk_at dksX0_undo_0 1 rfl rfl)
theorem dX0_undo_4 : decode cX0_undo 4 = .ok (.ifCond .ne 5, 3) := dk_154 0 5 (dk_at dksX0_undo_0 4 rfl rfl)
theorem dX0_undo_7 : decode cX0_undo 7 = .ok (.iconst 0, 1) := dk_3 (dk_at dksX0_undo_0 7 rfl rfl)
theorem dX0_undo_8 : decode cX0_undo 8 = .ok (.ireturn, 1) := dk_172 (dk_at dksX0_undo_0 8 rfl rfl)
theorem dX0_undo_9 : decode cX0_undo 9 = .ok (.aload_n 0, 1) := dk_42 (dk_at dksX0_undo_0 9 rfl rfl)
theorem dX0_undo_10 : decode cX0_undo 10 = .ok (.dup, 1) := dk_89 (dk_at dksX0_undo_0 10 rfl rfl)
theorem dX0_undo_11 : decode cX0_undo 11 = .ok (.getfield 408, 3) := dk_180 1 152 (dk_at dksX0_undo_0 11 rfl rfl)
theorem dX0_undo_14 : decode cX0_undo 14 = .ok (.iconst 1, 1) := dk_4 (dk_at dksX0_undo_0 14 rfl rfl)
theorem dX0_undo_15 : decode cX0_undo 15 = .ok (.isub, 1) := dk_100 (dk_at dksX0_undo_0 15 rfl rfl)
theorem dX0_undo_16 : decode cX0_undo 16 = .ok (.putfield 408, 3) := dk_181 1 152 (dk_at dksX0_undo_0 16 rfl rfl)
theorem dX0_undo_19 : decode cX0_undo 19 = .ok (.aload_n 0, 1) := dk_42 (dk_at dksX0_undo_0 19 rfl rfl)
theorem dX0_undo_20 : decode cX0_undo 20 = .ok (.getfield 164, 3) := dk_180 0 164 (dk_at dksX0_undo_0 20 rfl rfl)
theorem dX0_undo_23 : decode cX0_undo 23 = .ok (.aload_n 0, 1) := dk_42 (dk_at dksX0_undo_0 23 rfl rfl)
theorem dX0_undo_24 : decode cX0_undo 24 = .ok (.getfield 177, 3) := dk_180 0 177 (dk_at dksX0_undo_1 0 rfl rfl)
theorem dX0_undo_27 : decode cX0_undo 27 = .ok (.aload_n 0, 1) := dk_42 (dk_at dksX0_undo_1 3 rfl rfl)
theorem dX0_undo_28 : decode cX0_undo 28 = .ok (.getfield 408, 3) := dk_180 1 152 (dk_at dksX0_undo_1 4 rfl rfl)
theorem dX0_undo_31 : decode cX0_undo 31 = .ok (.aaload, 1) := dk_50 (dk_at dksX0_undo_1 7 rfl rfl)
theorem dX0_undo_32 : decode cX0_undo 32 = .ok (.invokevirtual 457, 3) := dk_182 1 201 (dk_at dksX0_undo_1 8 rfl rfl)
theorem dX0_undo_35 : decode cX0_undo 35 = .ok (.iconst 1, 1) := dk_4 (dk_at dksX0_undo_1 11 rfl rfl)
theorem dX0_undo_36 : decode cX0_undo 36 = .ok (.ireturn, 1) := dk_172 (dk_at dksX0_undo_1 12 rfl rfl)
abbrev cX0_copies : ByteArray := prog_1_method_4_code
def yX0_copies : MethodName := ⟨RX0, "copies", "([I[I)V"⟩
def dkwX0_copies_0 : List UInt8 := [42, 3, 43, 3, 42, 190, 184, 0, 10, 177]
abbrev dktX0_copies_0 : List UInt8 := dkwX0_copies_0 ++ []
theorem dksX0_copies_0 : cX0_copies.data.toList.drop 0 = dktX0_copies_0 := by decide +kernel
theorem dX0_copies_0 : decode cX0_copies 0 = .ok (.aload_n 0, 1) := dk_42 (dk_at dksX0_copies_0 0 rfl rfl)
theorem dX0_copies_1 : decode cX0_copies 1 = .ok (.iconst 0, 1) := dk_3 (dk_at dksX0_copies_0 1 rfl rfl)
theorem dX0_copies_2 : decode cX0_copies 2 = .ok (.aload_n 1, 1) := dk_43 (dk_at dksX0_copies_0 2 rfl rfl)
theorem dX0_copies_3 : decode cX0_copies 3 = .ok (.iconst 0, 1) := dk_3 (dk_at dksX0_copies_0 3 rfl rfl)
theorem dX0_copies_4 : decode cX0_copies 4 = .ok (.aload_n 0, 1) := dk_42 (dk_at dksX0_copies_0 4 rfl rfl)
theorem dX0_copies_5 : decode cX0_copies 5 = .ok (.arraylength, 1) := dk_190 (dk_at dksX0_copies_0 5 rfl rfl)
theorem dX0_copies_6 : decode cX0_copies 6 = .ok (.invokestatic 10, 3) := dk_184 0 10 (dk_at dksX0_copies_0 6 rfl rfl)
theorem dX0_copies_9 : decode cX0_copies 9 = .ok (.return_, 1) := dk_177 (dk_at dksX0_copies_0 9 rfl rfl)
abbrev cX0_state : ByteArray := prog_1_method_45_code
def yX0_state : MethodName := ⟨RX0, "state", "(I)I"⟩
def dkwX0_state_0 : List UInt8 := [42, 180, 0, 164, 180, 1, 205, 61, 42, 180, 0, 164, 27, 181, 1, 205, 42, 3, 181, 1, 152, 28, 172]
abbrev dktX0_state_0 : List UInt8 := dkwX0_state_0 ++ []
theorem dksX0_state_0 : cX0_state.data.toList.drop 0 = dktX0_state_0 := by decide +kernel
theorem dX0_state_0 : decode cX0_state 0 = .ok (.aload_n 0, 1) := dk_42 (dk_at dksX0_state_0 0 rfl rfl)
theorem dX0_state_1 : decode cX0_state 1 = .ok (.getfield 164, 3) := dk_180 0 164 (dk_at dksX0_state_0 1 rfl rfl)
theorem dX0_state_4 : decode cX0_state 4 = .ok (.getfield 461, 3) := dk_180 1 205 (dk_at dksX0_state_0 4 rfl rfl)
theorem dX0_state_7 : decode cX0_state 7 = .ok (.istore_n 2, 1) := dk_61 (dk_at dksX0_state_0 7 rfl rfl)
theorem dX0_state_8 : decode cX0_state 8 = .ok (.aload_n 0, 1) := dk_42 (dk_at dksX0_state_0 8 rfl rfl)
theorem dX0_state_9 : decode cX0_state 9 = .ok (.getfield 164, 3) := dk_180 0 164 (dk_at dksX0_state_0 9 rfl rfl)
theorem dX0_state_12 : decode cX0_state 12 = .ok (.iload_n 1, 1) := dk_27 (dk_at dksX0_state_0 12 rfl rfl)
theorem dX0_state_13 : decode cX0_state 13 = .ok (.putfield 461, 3) := dk_181 1 205 (dk_at dksX0_state_0 13 rfl rfl)
theorem dX0_state_16 : decode cX0_state 16 = .ok (.aload_n 0, 1) := dk_42 (dk_at dksX0_state_0 16 rfl rfl)
theorem dX0_state_17 : decode cX0_state 17 = .ok (.iconst 0, 1) := dk_3 (dk_at dksX0_state_0 17 rfl rfl)
theorem dX0_state_18 : decode cX0_state 18 = .ok (.putfield 408, 3) := dk_181 1 152 (dk_at dksX0_state_0 18 rfl rfl)
theorem dX0_state_21 : decode cX0_state 21 = .ok (.iload_n 2, 1) := dk_28 (dk_at dksX0_state_0 21 rfl rfl)
theorem dX0_state_22 : decode cX0_state 22 = .ok (.ireturn, 1) := dk_172 (dk_at dksX0_state_0 22 rfl rfl)
abbrev cX0_tool : ByteArray := prog_1_method_46_code
def yX0_tool : MethodName := ⟨RX0, "tool", "(III)I"⟩
def dkwX0_tool_6 : List UInt8 := [181, 1, 152, 21, 4, 172]
abbrev dktX0_tool_6 : List UInt8 := dkwX0_tool_6 ++ []
def dkwX0_tool_5 : List UInt8 := [180, 0, 164, 180, 1, 220, 21, 4, 3, 79, 42, 89, 180, 1, 137, 4, 96, 181, 1, 137, 42, 3]
abbrev dktX0_tool_5 : List UInt8 := dkwX0_tool_5 ++ dktX0_tool_6
def dkwX0_tool_4 : List UInt8 := [180, 0, 164, 180, 1, 216, 21, 4, 16, 50, 79, 42, 180, 0, 164, 180, 1, 218, 21, 4, 3, 79, 42]
abbrev dktX0_tool_4 : List UInt8 := dkwX0_tool_4 ++ dktX0_tool_5
def dkwX0_tool_3 : List UInt8 := [42, 180, 0, 145, 21, 4, 16, 7, 79, 42, 180, 0, 164, 180, 1, 214, 21, 4, 16, 60, 79, 42]
abbrev dktX0_tool_3 : List UInt8 := dkwX0_tool_3 ++ dktX0_tool_4
def dkwX0_tool_2 : List UInt8 := [42, 180, 0, 136, 21, 4, 28, 79, 42, 180, 0, 139, 21, 4, 29, 79, 42, 180, 0, 142, 21, 4, 4, 79]
abbrev dktX0_tool_2 : List UInt8 := dkwX0_tool_2 ++ dktX0_tool_3
def dkwX0_tool_1 : List UInt8 := [180, 1, 137, 16, 8, 160, 0, 5, 2, 172, 42, 180, 1, 137, 54, 4, 42, 180, 0, 132, 21, 4, 27, 79]
abbrev dktX0_tool_1 : List UInt8 := dkwX0_tool_1 ++ dktX0_tool_2
def dkwX0_tool_0 : List UInt8 := [27, 184, 1, 208, 153, 0, 28, 28, 184, 1, 211, 153, 0, 21, 29, 3, 4, 184, 0, 237, 153, 0, 12, 42]
abbrev dktX0_tool_0 : List UInt8 := dkwX0_tool_0 ++ dktX0_tool_1
theorem dksX0_tool_0 : cX0_tool.data.toList.drop 0 = dktX0_tool_0 := by decide +kernel
theorem dksX0_tool_1 : cX0_tool.data.toList.drop 24 = dktX0_tool_1 := dk_seg dksX0_tool_0 24 rfl rfl
theorem dksX0_tool_2 : cX0_tool.data.toList.drop 48 = dktX0_tool_2 := dk_seg dksX0_tool_1 24 rfl rfl
theorem dksX0_tool_3 : cX0_tool.data.toList.drop 72 = dktX0_tool_3 := dk_seg dksX0_tool_2 24 rfl rfl
theorem dksX0_tool_4 : cX0_tool.data.toList.drop 94 = dktX0_tool_4 := dk_seg dksX0_tool_3 22 rfl rfl
theorem dksX0_tool_5 : cX0_tool.data.toList.drop 117 = dktX0_tool_5 := dk_seg dksX0_tool_4 23 rfl rfl
theorem dksX0_tool_6 : cX0_tool.data.toList.drop 139 = dktX0_tool_6 := dk_seg dksX0_tool_5 22 rfl rfl
theorem dX0_tool_0 : decode cX0_tool 0 = .ok (.iload_n 1, 1) := dk_27 (dk_at dksX0_tool_0 0 rfl rfl)
theorem dX0_tool_1 : decode cX0_tool 1 = .ok (.invokestatic 464, 3) := dk_184 1 208 (dk_at dksX0_tool_0 1 rfl rfl)
theorem dX0_tool_4 : decode cX0_tool 4 = .ok (.ifCond .eq 28, 3) := dk_153 0 28 (dk_at dksX0_tool_0 4 rfl rfl)
theorem dX0_tool_7 : decode cX0_tool 7 = .ok (.iload_n 2, 1) := dk_28 (dk_at dksX0_tool_0 7 rfl rfl)
theorem dX0_tool_8 : decode cX0_tool 8 = .ok (.invokestatic 467, 3) := dk_184 1 211 (dk_at dksX0_tool_0 8 rfl rfl)
theorem dX0_tool_11 : decode cX0_tool 11 = .ok (.ifCond .eq 21, 3) := dk_153 0 21 (dk_at dksX0_tool_0 11 rfl rfl)
theorem dX0_tool_14 : decode cX0_tool 14 = .ok (.iload_n 3, 1) := dk_29 (dk_at dksX0_tool_0 14 rfl rfl)
theorem dX0_tool_15 : decode cX0_tool 15 = .ok (.iconst 0, 1) := dk_3 (dk_at dksX0_tool_0 15 rfl rfl)
theorem dX0_tool_16 : decode cX0_tool 16 = .ok (.iconst 1, 1) := dk_4 (dk_at dksX0_tool_0 16 rfl rfl)
theorem dX0_tool_17 : decode cX0_tool 17 = .ok (.invokestatic 237, 3) := dk_184 0 237 (dk_at dksX0_tool_0 17 rfl rfl)
theorem dX0_tool_20 : decode cX0_tool 20 = .ok (.ifCond .eq 12, 3) := dk_153 0 12 (dk_at dksX0_tool_0 20 rfl rfl)
theorem dX0_tool_23 : decode cX0_tool 23 = .ok (.aload_n 0, 1) := dk_42 (dk_at dksX0_tool_0 23 rfl rfl)
theorem dX0_tool_24 : decode cX0_tool 24 = .ok (.getfield 393, 3) := dk_180 1 137 (dk_at dksX0_tool_1 0 rfl rfl)
theorem dX0_tool_27 : decode cX0_tool 27 = .ok (.bipush 8, 2) := dk_16 8 (dk_at dksX0_tool_1 3 rfl rfl)
theorem dX0_tool_29 : decode cX0_tool 29 = .ok (.if_icmp .ne 5, 3) := dk_160 0 5 (dk_at dksX0_tool_1 5 rfl rfl)
theorem dX0_tool_32 : decode cX0_tool 32 = .ok (.iconst (-1), 1) := dk_2 (dk_at dksX0_tool_1 8 rfl rfl)
theorem dX0_tool_33 : decode cX0_tool 33 = .ok (.ireturn, 1) := dk_172 (dk_at dksX0_tool_1 9 rfl rfl)
theorem dX0_tool_34 : decode cX0_tool 34 = .ok (.aload_n 0, 1) := dk_42 (dk_at dksX0_tool_1 10 rfl rfl)
theorem dX0_tool_35 : decode cX0_tool 35 = .ok (.getfield 393, 3) := dk_180 1 137 (dk_at dksX0_tool_1 11 rfl rfl)
theorem dX0_tool_38 : decode cX0_tool 38 = .ok (.istore 4, 2) := dk_54 4 (dk_at dksX0_tool_1 14 rfl rfl)
theorem dX0_tool_40 : decode cX0_tool 40 = .ok (.aload_n 0, 1) := dk_42 (dk_at dksX0_tool_1 16 rfl rfl)
theorem dX0_tool_41 : decode cX0_tool 41 = .ok (.getfield 132, 3) := dk_180 0 132 (dk_at dksX0_tool_1 17 rfl rfl)
theorem dX0_tool_44 : decode cX0_tool 44 = .ok (.iload 4, 2) := dk_21 4 (dk_at dksX0_tool_1 20 rfl rfl)
theorem dX0_tool_46 : decode cX0_tool 46 = .ok (.iload_n 1, 1) := dk_27 (dk_at dksX0_tool_1 22 rfl rfl)
theorem dX0_tool_47 : decode cX0_tool 47 = .ok (.iastore, 1) := dk_79 (dk_at dksX0_tool_1 23 rfl rfl)
theorem dX0_tool_48 : decode cX0_tool 48 = .ok (.aload_n 0, 1) := dk_42 (dk_at dksX0_tool_2 0 rfl rfl)
theorem dX0_tool_49 : decode cX0_tool 49 = .ok (.getfield 136, 3) := dk_180 0 136 (dk_at dksX0_tool_2 1 rfl rfl)
theorem dX0_tool_52 : decode cX0_tool 52 = .ok (.iload 4, 2) := dk_21 4 (dk_at dksX0_tool_2 4 rfl rfl)
theorem dX0_tool_54 : decode cX0_tool 54 = .ok (.iload_n 2, 1) := dk_28 (dk_at dksX0_tool_2 6 rfl rfl)
theorem dX0_tool_55 : decode cX0_tool 55 = .ok (.iastore, 1) := dk_79 (dk_at dksX0_tool_2 7 rfl rfl)
theorem dX0_tool_56 : decode cX0_tool 56 = .ok (.aload_n 0, 1) := dk_42 (dk_at dksX0_tool_2 8 rfl rfl)
theorem dX0_tool_57 : decode cX0_tool 57 = .ok (.getfield 139, 3) := dk_180 0 139 (dk_at dksX0_tool_2 9 rfl rfl)
theorem dX0_tool_60 : decode cX0_tool 60 = .ok (.iload 4, 2) := dk_21 4 (dk_at dksX0_tool_2 12 rfl rfl)
theorem dX0_tool_62 : decode cX0_tool 62 = .ok (.iload_n 3, 1) := dk_29 (dk_at dksX0_tool_2 14 rfl rfl)
theorem dX0_tool_63 : decode cX0_tool 63 = .ok (.iastore, 1) := dk_79 (dk_at dksX0_tool_2 15 rfl rfl)
theorem dX0_tool_64 : decode cX0_tool 64 = .ok (.aload_n 0, 1) := dk_42 (dk_at dksX0_tool_2 16 rfl rfl)
theorem dX0_tool_65 : decode cX0_tool 65 = .ok (.getfield 142, 3) := dk_180 0 142 (dk_at dksX0_tool_2 17 rfl rfl)
theorem dX0_tool_68 : decode cX0_tool 68 = .ok (.iload 4, 2) := dk_21 4 (dk_at dksX0_tool_2 20 rfl rfl)
theorem dX0_tool_70 : decode cX0_tool 70 = .ok (.iconst 1, 1) := dk_4 (dk_at dksX0_tool_2 22 rfl rfl)
theorem dX0_tool_71 : decode cX0_tool 71 = .ok (.iastore, 1) := dk_79 (dk_at dksX0_tool_2 23 rfl rfl)
theorem dX0_tool_72 : decode cX0_tool 72 = .ok (.aload_n 0, 1) := dk_42 (dk_at dksX0_tool_3 0 rfl rfl)
theorem dX0_tool_73 : decode cX0_tool 73 = .ok (.getfield 145, 3) := dk_180 0 145 (dk_at dksX0_tool_3 1 rfl rfl)
theorem dX0_tool_76 : decode cX0_tool 76 = .ok (.iload 4, 2) := dk_21 4 (dk_at dksX0_tool_3 4 rfl rfl)
theorem dX0_tool_78 : decode cX0_tool 78 = .ok (.bipush 7, 2) := dk_16 7 (dk_at dksX0_tool_3 6 rfl rfl)
theorem dX0_tool_80 : decode cX0_tool 80 = .ok (.iastore, 1) := dk_79 (dk_at dksX0_tool_3 8 rfl rfl)
theorem dX0_tool_81 : decode cX0_tool 81 = .ok (.aload_n 0, 1) := dk_42 (dk_at dksX0_tool_3 9 rfl rfl)
theorem dX0_tool_82 : decode cX0_tool 82 = .ok (.getfield 164, 3) := dk_180 0 164 (dk_at dksX0_tool_3 10 rfl rfl)
theorem dX0_tool_85 : decode cX0_tool 85 = .ok (.getfield 470, 3) := dk_180 1 214 (dk_at dksX0_tool_3 13 rfl rfl)
theorem dX0_tool_88 : decode cX0_tool 88 = .ok (.iload 4, 2) := dk_21 4 (dk_at dksX0_tool_3 16 rfl rfl)
theorem dX0_tool_90 : decode cX0_tool 90 = .ok (.bipush 60, 2) := dk_16 60 (dk_at dksX0_tool_3 18 rfl rfl)
theorem dX0_tool_92 : decode cX0_tool 92 = .ok (.iastore, 1) := dk_79 (dk_at dksX0_tool_3 20 rfl rfl)
theorem dX0_tool_93 : decode cX0_tool 93 = .ok (.aload_n 0, 1) := dk_42 (dk_at dksX0_tool_3 21 rfl rfl)
theorem dX0_tool_94 : decode cX0_tool 94 = .ok (.getfield 164, 3) := dk_180 0 164 (dk_at dksX0_tool_4 0 rfl rfl)
theorem dX0_tool_97 : decode cX0_tool 97 = .ok (.getfield 472, 3) := dk_180 1 216 (dk_at dksX0_tool_4 3 rfl rfl)
theorem dX0_tool_100 : decode cX0_tool 100 = .ok (.iload 4, 2) := dk_21 4 (dk_at dksX0_tool_4 6 rfl rfl)
theorem dX0_tool_102 : decode cX0_tool 102 = .ok (.bipush 50, 2) := dk_16 50 (dk_at dksX0_tool_4 8 rfl rfl)
theorem dX0_tool_104 : decode cX0_tool 104 = .ok (.iastore, 1) := dk_79 (dk_at dksX0_tool_4 10 rfl rfl)
theorem dX0_tool_105 : decode cX0_tool 105 = .ok (.aload_n 0, 1) := dk_42 (dk_at dksX0_tool_4 11 rfl rfl)
theorem dX0_tool_106 : decode cX0_tool 106 = .ok (.getfield 164, 3) := dk_180 0 164 (dk_at dksX0_tool_4 12 rfl rfl)
theorem dX0_tool_109 : decode cX0_tool 109 = .ok (.getfield 474, 3) := dk_180 1 218 (dk_at dksX0_tool_4 15 rfl rfl)
theorem dX0_tool_112 : decode cX0_tool 112 = .ok (.iload 4, 2) := dk_21 4 (dk_at dksX0_tool_4 18 rfl rfl)
theorem dX0_tool_114 : decode cX0_tool 114 = .ok (.iconst 0, 1) := dk_3 (dk_at dksX0_tool_4 20 rfl rfl)
theorem dX0_tool_115 : decode cX0_tool 115 = .ok (.iastore, 1) := dk_79 (dk_at dksX0_tool_4 21 rfl rfl)
theorem dX0_tool_116 : decode cX0_tool 116 = .ok (.aload_n 0, 1) := dk_42 (dk_at dksX0_tool_4 22 rfl rfl)
theorem dX0_tool_117 : decode cX0_tool 117 = .ok (.getfield 164, 3) := dk_180 0 164 (dk_at dksX0_tool_5 0 rfl rfl)
theorem dX0_tool_120 : decode cX0_tool 120 = .ok (.getfield 476, 3) := dk_180 1 220 (dk_at dksX0_tool_5 3 rfl rfl)
theorem dX0_tool_123 : decode cX0_tool 123 = .ok (.iload 4, 2) := dk_21 4 (dk_at dksX0_tool_5 6 rfl rfl)
theorem dX0_tool_125 : decode cX0_tool 125 = .ok (.iconst 0, 1) := dk_3 (dk_at dksX0_tool_5 8 rfl rfl)
theorem dX0_tool_126 : decode cX0_tool 126 = .ok (.iastore, 1) := dk_79 (dk_at dksX0_tool_5 9 rfl rfl)
theorem dX0_tool_127 : decode cX0_tool 127 = .ok (.aload_n 0, 1) := dk_42 (dk_at dksX0_tool_5 10 rfl rfl)
theorem dX0_tool_128 : decode cX0_tool 128 = .ok (.dup, 1) := dk_89 (dk_at dksX0_tool_5 11 rfl rfl)
theorem dX0_tool_129 : decode cX0_tool 129 = .ok (.getfield 393, 3) := dk_180 1 137 (dk_at dksX0_tool_5 12 rfl rfl)
theorem dX0_tool_132 : decode cX0_tool 132 = .ok (.iconst 1, 1) := dk_4 (dk_at dksX0_tool_5 15 rfl rfl)
theorem dX0_tool_133 : decode cX0_tool 133 = .ok (.iadd, 1) := dk_96 (dk_at dksX0_tool_5 16 rfl rfl)
theorem dX0_tool_134 : decode cX0_tool 134 = .ok (.putfield 393, 3) := dk_181 1 137 (dk_at dksX0_tool_5 17 rfl rfl)
theorem dX0_tool_137 : decode cX0_tool 137 = .ok (.aload_n 0, 1) := dk_42 (dk_at dksX0_tool_5 20 rfl rfl)
theorem dX0_tool_138 : decode cX0_tool 138 = .ok (.iconst 0, 1) := dk_3 (dk_at dksX0_tool_5 21 rfl rfl)
theorem dX0_tool_139 : decode cX0_tool 139 = .ok (.putfield 408, 3) := dk_181 1 152 (dk_at dksX0_tool_6 0 rfl rfl)
theorem dX0_tool_142 : decode cX0_tool 142 = .ok (.iload 4, 2) := dk_21 4 (dk_at dksX0_tool_6 3 rfl rfl)
theorem dX0_tool_144 : decode cX0_tool 144 = .ok (.ireturn, 1) := dk_172 (dk_at dksX0_tool_6 5 rfl rfl)
abbrev cX0_isKind : ByteArray := prog_1_method_44_code
def yX0_isKind : MethodName := ⟨RX0, "isKind", "(I)Z"⟩
def dkwX0_isKind_0 : List UInt8 := [26, 3, 6, 184, 0, 237, 172]
abbrev dktX0_isKind_0 : List UInt8 := dkwX0_isKind_0 ++ []
theorem dksX0_isKind_0 : cX0_isKind.data.toList.drop 0 = dktX0_isKind_0 := by decide +kernel
theorem dX0_isKind_0 : decode cX0_isKind 0 = .ok (.iload_n 0, 1) := dk_26 (dk_at dksX0_isKind_0 0 rfl rfl)
theorem dX0_isKind_1 : decode cX0_isKind 1 = .ok (.iconst 0, 1) := dk_3 (dk_at dksX0_isKind_0 1 rfl rfl)
theorem dX0_isKind_2 : decode cX0_isKind 2 = .ok (.iconst 3, 1) := dk_6 (dk_at dksX0_isKind_0 2 rfl rfl)
theorem dX0_isKind_3 : decode cX0_isKind 3 = .ok (.invokestatic 237, 3) := dk_184 0 237 (dk_at dksX0_isKind_0 3 rfl rfl)
theorem dX0_isKind_6 : decode cX0_isKind 6 = .ok (.ireturn, 1) := dk_172 (dk_at dksX0_isKind_0 6 rfl rfl)
abbrev cX0_isBranch : ByteArray := prog_1_method_43_code
def yX0_isBranch : MethodName := ⟨RX0, "isBranch", "(I)Z"⟩
def dkwX0_isBranch_0 : List UInt8 := [26, 3, 6, 184, 0, 237, 172]
abbrev dktX0_isBranch_0 : List UInt8 := dkwX0_isBranch_0 ++ []
theorem dksX0_isBranch_0 : cX0_isBranch.data.toList.drop 0 = dktX0_isBranch_0 := by decide +kernel
theorem dX0_isBranch_0 : decode cX0_isBranch 0 = .ok (.iload_n 0, 1) := dk_26 (dk_at dksX0_isBranch_0 0 rfl rfl)
theorem dX0_isBranch_1 : decode cX0_isBranch 1 = .ok (.iconst 0, 1) := dk_3 (dk_at dksX0_isBranch_0 1 rfl rfl)
theorem dX0_isBranch_2 : decode cX0_isBranch 2 = .ok (.iconst 3, 1) := dk_6 (dk_at dksX0_isBranch_0 2 rfl rfl)
theorem dX0_isBranch_3 : decode cX0_isBranch 3 = .ok (.invokestatic 237, 3) := dk_184 0 237 (dk_at dksX0_isBranch_0 3 rfl rfl)
theorem dX0_isBranch_6 : decode cX0_isBranch 6 = .ok (.ireturn, 1) := dk_172 (dk_at dksX0_isBranch_0 6 rfl rfl)
abbrev cX0_man : ByteArray := prog_1_method_47_code
def yX0_man : MethodName := ⟨RX0, "man", "(II)I"⟩
def dkwX0_man_2 : List UInt8 := [79, 42, 89, 180, 1, 140, 4, 96, 181, 1, 140, 42, 3, 181, 1, 152, 42, 180, 1, 140, 4, 100, 172]
abbrev dktX0_man_2 : List UInt8 := dkwX0_man_2 ++ []
def dkwX0_man_1 : List UInt8 := [160, 0, 5, 2, 172, 42, 180, 0, 148, 42, 180, 1, 140, 27, 79, 42, 180, 0, 150, 42, 180, 1, 140, 28]
abbrev dktX0_man_1 : List UInt8 := dkwX0_man_1 ++ dktX0_man_2
def dkwX0_man_0 : List UInt8 := [27, 3, 16, 99, 184, 0, 237, 153, 0, 20, 28, 3, 4, 184, 0, 237, 153, 0, 11, 42, 180, 1, 140, 7]
abbrev dktX0_man_0 : List UInt8 := dkwX0_man_0 ++ dktX0_man_1
theorem dksX0_man_0 : cX0_man.data.toList.drop 0 = dktX0_man_0 := by decide +kernel
theorem dksX0_man_1 : cX0_man.data.toList.drop 24 = dktX0_man_1 := dk_seg dksX0_man_0 24 rfl rfl
theorem dksX0_man_2 : cX0_man.data.toList.drop 48 = dktX0_man_2 := dk_seg dksX0_man_1 24 rfl rfl
theorem dX0_man_0 : decode cX0_man 0 = .ok (.iload_n 1, 1) := dk_27 (dk_at dksX0_man_0 0 rfl rfl)
theorem dX0_man_1 : decode cX0_man 1 = .ok (.iconst 0, 1) := dk_3 (dk_at dksX0_man_0 1 rfl rfl)
theorem dX0_man_2 : decode cX0_man 2 = .ok (.bipush 99, 2) := dk_16 99 (dk_at dksX0_man_0 2 rfl rfl)
theorem dX0_man_4 : decode cX0_man 4 = .ok (.invokestatic 237, 3) := dk_184 0 237 (dk_at dksX0_man_0 4 rfl rfl)
theorem dX0_man_7 : decode cX0_man 7 = .ok (.ifCond .eq 20, 3) := dk_153 0 20 (dk_at dksX0_man_0 7 rfl rfl)
theorem dX0_man_10 : decode cX0_man 10 = .ok (.iload_n 2, 1) := dk_28 (dk_at dksX0_man_0 10 rfl rfl)
theorem dX0_man_11 : decode cX0_man 11 = .ok (.iconst 0, 1) := dk_3 (dk_at dksX0_man_0 11 rfl rfl)
theorem dX0_man_12 : decode cX0_man 12 = .ok (.iconst 1, 1) := dk_4 (dk_at dksX0_man_0 12 rfl rfl)
theorem dX0_man_13 : decode cX0_man 13 = .ok (.invokestatic 237, 3) := dk_184 0 237 (dk_at dksX0_man_0 13 rfl rfl)
theorem dX0_man_16 : decode cX0_man 16 = .ok (.ifCond .eq 11, 3) := dk_153 0 11 (dk_at dksX0_man_0 16 rfl rfl)
theorem dX0_man_19 : decode cX0_man 19 = .ok (.aload_n 0, 1) := dk_42 (dk_at dksX0_man_0 19 rfl rfl)
theorem dX0_man_20 : decode cX0_man 20 = .ok (.getfield 396, 3) := dk_180 1 140 (dk_at dksX0_man_0 20 rfl rfl)
theorem dX0_man_23 : decode cX0_man 23 = .ok (.iconst 4, 1) := dk_7 (dk_at dksX0_man_0 23 rfl rfl)
theorem dX0_man_24 : decode cX0_man 24 = .ok (.if_icmp .ne 5, 3) := dk_160 0 5 (dk_at dksX0_man_1 0 rfl rfl)
theorem dX0_man_27 : decode cX0_man 27 = .ok (.iconst (-1), 1) := dk_2 (dk_at dksX0_man_1 3 rfl rfl)
theorem dX0_man_28 : decode cX0_man 28 = .ok (.ireturn, 1) := dk_172 (dk_at dksX0_man_1 4 rfl rfl)
theorem dX0_man_29 : decode cX0_man 29 = .ok (.aload_n 0, 1) := dk_42 (dk_at dksX0_man_1 5 rfl rfl)
theorem dX0_man_30 : decode cX0_man 30 = .ok (.getfield 148, 3) := dk_180 0 148 (dk_at dksX0_man_1 6 rfl rfl)
theorem dX0_man_33 : decode cX0_man 33 = .ok (.aload_n 0, 1) := dk_42 (dk_at dksX0_man_1 9 rfl rfl)
theorem dX0_man_34 : decode cX0_man 34 = .ok (.getfield 396, 3) := dk_180 1 140 (dk_at dksX0_man_1 10 rfl rfl)
theorem dX0_man_37 : decode cX0_man 37 = .ok (.iload_n 1, 1) := dk_27 (dk_at dksX0_man_1 13 rfl rfl)
theorem dX0_man_38 : decode cX0_man 38 = .ok (.iastore, 1) := dk_79 (dk_at dksX0_man_1 14 rfl rfl)
theorem dX0_man_39 : decode cX0_man 39 = .ok (.aload_n 0, 1) := dk_42 (dk_at dksX0_man_1 15 rfl rfl)
theorem dX0_man_40 : decode cX0_man 40 = .ok (.getfield 150, 3) := dk_180 0 150 (dk_at dksX0_man_1 16 rfl rfl)
theorem dX0_man_43 : decode cX0_man 43 = .ok (.aload_n 0, 1) := dk_42 (dk_at dksX0_man_1 19 rfl rfl)
theorem dX0_man_44 : decode cX0_man 44 = .ok (.getfield 396, 3) := dk_180 1 140 (dk_at dksX0_man_1 20 rfl rfl)
theorem dX0_man_47 : decode cX0_man 47 = .ok (.iload_n 2, 1) := dk_28 (dk_at dksX0_man_1 23 rfl rfl)
theorem dX0_man_48 : decode cX0_man 48 = .ok (.iastore, 1) := dk_79 (dk_at dksX0_man_2 0 rfl rfl)
theorem dX0_man_49 : decode cX0_man 49 = .ok (.aload_n 0, 1) := dk_42 (dk_at dksX0_man_2 1 rfl rfl)
theorem dX0_man_50 : decode cX0_man 50 = .ok (.dup, 1) := dk_89 (dk_at dksX0_man_2 2 rfl rfl)
theorem dX0_man_51 : decode cX0_man 51 = .ok (.getfield 396, 3) := dk_180 1 140 (dk_at dksX0_man_2 3 rfl rfl)
theorem dX0_man_54 : decode cX0_man 54 = .ok (.iconst 1, 1) := dk_4 (dk_at dksX0_man_2 6 rfl rfl)
theorem dX0_man_55 : decode cX0_man 55 = .ok (.iadd, 1) := dk_96 (dk_at dksX0_man_2 7 rfl rfl)
theorem dX0_man_56 : decode cX0_man 56 = .ok (.putfield 396, 3) := dk_181 1 140 (dk_at dksX0_man_2 8 rfl rfl)
theorem dX0_man_59 : decode cX0_man 59 = .ok (.aload_n 0, 1) := dk_42 (dk_at dksX0_man_2 11 rfl rfl)
theorem dX0_man_60 : decode cX0_man 60 = .ok (.iconst 0, 1) := dk_3 (dk_at dksX0_man_2 12 rfl rfl)
theorem dX0_man_61 : decode cX0_man 61 = .ok (.putfield 408, 3) := dk_181 1 152 (dk_at dksX0_man_2 13 rfl rfl)
theorem dX0_man_64 : decode cX0_man 64 = .ok (.aload_n 0, 1) := dk_42 (dk_at dksX0_man_2 16 rfl rfl)
theorem dX0_man_65 : decode cX0_man 65 = .ok (.getfield 396, 3) := dk_180 1 140 (dk_at dksX0_man_2 17 rfl rfl)
theorem dX0_man_68 : decode cX0_man 68 = .ok (.iconst 1, 1) := dk_4 (dk_at dksX0_man_2 20 rfl rfl)
theorem dX0_man_69 : decode cX0_man 69 = .ok (.isub, 1) := dk_100 (dk_at dksX0_man_2 21 rfl rfl)
theorem dX0_man_70 : decode cX0_man 70 = .ok (.ireturn, 1) := dk_172 (dk_at dksX0_man_2 22 rfl rfl)
abbrev cX0_set : ByteArray := prog_1_method_48_code
def yX0_set : MethodName := ⟨RX0, "set", "(III)Z"⟩
def dkwX0_set_7 : List UInt8 := [181, 1, 152, 4, 172]
abbrev dktX0_set_7 : List UInt8 := dkwX0_set_7 ++ []
def dkwX0_set_6 : List UInt8 := [180, 0, 148, 28, 29, 79, 167, 0, 16, 42, 29, 181, 1, 234, 167, 0, 8, 42, 29, 181, 0, 153, 42, 3]
abbrev dktX0_set_6 : List UInt8 := dkwX0_set_6 ++ dktX0_set_7
def dkwX0_set_5 : List UInt8 := [167, 0, 46, 42, 180, 0, 142, 28, 29, 79, 167, 0, 36, 42, 180, 0, 145, 28, 29, 79, 167, 0, 26, 42]
abbrev dktX0_set_5 : List UInt8 := dkwX0_set_5 ++ dktX0_set_6
def dkwX0_set_4 : List UInt8 := [42, 180, 0, 164, 180, 1, 214, 28, 29, 79, 167, 0, 59, 42, 180, 0, 164, 180, 1, 216, 28, 29, 79]
abbrev dktX0_set_4 : List UInt8 := dkwX0_set_4 ++ dktX0_set_5
def dkwX0_set_3 : List UInt8 := [170, 0, 0, 0, 0, 0, 0, 104, 0, 0, 0, 0, 0, 0, 0, 5, 0, 0, 0, 40, 0, 0, 0, 53, 0, 0, 0, 66, 0, 0, 0, 76, 0, 0, 0, 86, 0, 0, 0, 96]
abbrev dktX0_set_3 : List UInt8 := dkwX0_set_3 ++ dktX0_set_4
def dkwX0_set_2 : List UInt8 := [182, 1, 231, 154, 0, 5, 3, 172, 27]
abbrev dktX0_set_2 : List UInt8 := dkwX0_set_2 ++ dktX0_set_3
def dkwX0_set_1 : List UInt8 := [153, 0, 29, 27, 7, 162, 0, 11, 42, 28, 182, 1, 228, 153, 0, 16, 27, 7, 160, 0, 13, 42, 28]
abbrev dktX0_set_1 : List UInt8 := dkwX0_set_1 ++ dktX0_set_2
def dkwX0_set_0 : List UInt8 := [27, 3, 16, 6, 184, 0, 237, 153, 0, 46, 29, 178, 1, 222, 27, 46, 178, 1, 225, 27, 46, 184, 0, 237]
abbrev dktX0_set_0 : List UInt8 := dkwX0_set_0 ++ dktX0_set_1
theorem dksX0_set_0 : cX0_set.data.toList.drop 0 = dktX0_set_0 := by decide +kernel
theorem dksX0_set_1 : cX0_set.data.toList.drop 24 = dktX0_set_1 := dk_seg dksX0_set_0 24 rfl rfl
theorem dksX0_set_2 : cX0_set.data.toList.drop 47 = dktX0_set_2 := dk_seg dksX0_set_1 23 rfl rfl
theorem dksX0_set_3 : cX0_set.data.toList.drop 56 = dktX0_set_3 := dk_seg dksX0_set_2 9 rfl rfl
theorem dksX0_set_4 : cX0_set.data.toList.drop 96 = dktX0_set_4 := dk_seg dksX0_set_3 40 rfl rfl
theorem dksX0_set_5 : cX0_set.data.toList.drop 119 = dktX0_set_5 := dk_seg dksX0_set_4 23 rfl rfl
theorem dksX0_set_6 : cX0_set.data.toList.drop 143 = dktX0_set_6 := dk_seg dksX0_set_5 24 rfl rfl
theorem dksX0_set_7 : cX0_set.data.toList.drop 167 = dktX0_set_7 := dk_seg dksX0_set_6 24 rfl rfl
theorem dX0_set_0 : decode cX0_set 0 = .ok (.iload_n 1, 1) := dk_27 (dk_at dksX0_set_0 0 rfl rfl)
theorem dX0_set_1 : decode cX0_set 1 = .ok (.iconst 0, 1) := dk_3 (dk_at dksX0_set_0 1 rfl rfl)
theorem dX0_set_2 : decode cX0_set 2 = .ok (.bipush 6, 2) := dk_16 6 (dk_at dksX0_set_0 2 rfl rfl)
theorem dX0_set_4 : decode cX0_set 4 = .ok (.invokestatic 237, 3) := dk_184 0 237 (dk_at dksX0_set_0 4 rfl rfl)
theorem dX0_set_7 : decode cX0_set 7 = .ok (.ifCond .eq 46, 3) := dk_153 0 46 (dk_at dksX0_set_0 7 rfl rfl)
theorem dX0_set_10 : decode cX0_set 10 = .ok (.iload_n 3, 1) := dk_29 (dk_at dksX0_set_0 10 rfl rfl)
theorem dX0_set_11 : decode cX0_set 11 = .ok (.getstatic 478, 3) := dk_178 1 222 (dk_at dksX0_set_0 11 rfl rfl)
theorem dX0_set_14 : decode cX0_set 14 = .ok (.iload_n 1, 1) := dk_27 (dk_at dksX0_set_0 14 rfl rfl)
theorem dX0_set_15 : decode cX0_set 15 = .ok (.iaload, 1) := dk_46 (dk_at dksX0_set_0 15 rfl rfl)
theorem dX0_set_16 : decode cX0_set 16 = .ok (.getstatic 481, 3) := dk_178 1 225 (dk_at dksX0_set_0 16 rfl rfl)
theorem dX0_set_19 : decode cX0_set 19 = .ok (.iload_n 1, 1) := dk_27 (dk_at dksX0_set_0 19 rfl rfl)
theorem dX0_set_20 : decode cX0_set 20 = .ok (.iaload, 1) := dk_46 (dk_at dksX0_set_0 20 rfl rfl)
theorem dX0_set_21 : decode cX0_set 21 = .ok (.invokestatic 237, 3) := dk_184 0 237 (dk_at dksX0_set_0 21 rfl rfl)
theorem dX0_set_24 : decode cX0_set 24 = .ok (.ifCond .eq 29, 3) := dk_153 0 29 (dk_at dksX0_set_1 0 rfl rfl)
theorem dX0_set_27 : decode cX0_set 27 = .ok (.iload_n 1, 1) := dk_27 (dk_at dksX0_set_1 3 rfl rfl)
theorem dX0_set_28 : decode cX0_set 28 = .ok (.iconst 4, 1) := dk_7 (dk_at dksX0_set_1 4 rfl rfl)
theorem dX0_set_29 : decode cX0_set 29 = .ok (.if_icmp .ge 11, 3) := dk_162 0 11 (dk_at dksX0_set_1 5 rfl rfl)
theorem dX0_set_32 : decode cX0_set 32 = .ok (.aload_n 0, 1) := dk_42 (dk_at dksX0_set_1 8 rfl rfl)
theorem dX0_set_33 : decode cX0_set 33 = .ok (.iload_n 2, 1) := dk_28 (dk_at dksX0_set_1 9 rfl rfl)
theorem dX0_set_34 : decode cX0_set 34 = .ok (.invokevirtual 484, 3) := dk_182 1 228 (dk_at dksX0_set_1 10 rfl rfl)
theorem dX0_set_37 : decode cX0_set 37 = .ok (.ifCond .eq 16, 3) := dk_153 0 16 (dk_at dksX0_set_1 13 rfl rfl)
theorem dX0_set_40 : decode cX0_set 40 = .ok (.iload_n 1, 1) := dk_27 (dk_at dksX0_set_1 16 rfl rfl)
theorem dX0_set_41 : decode cX0_set 41 = .ok (.iconst 4, 1) := dk_7 (dk_at dksX0_set_1 17 rfl rfl)
theorem dX0_set_42 : decode cX0_set 42 = .ok (.if_icmp .ne 13, 3) := dk_160 0 13 (dk_at dksX0_set_1 18 rfl rfl)
theorem dX0_set_45 : decode cX0_set 45 = .ok (.aload_n 0, 1) := dk_42 (dk_at dksX0_set_1 21 rfl rfl)
theorem dX0_set_46 : decode cX0_set 46 = .ok (.iload_n 2, 1) := dk_28 (dk_at dksX0_set_1 22 rfl rfl)
theorem dX0_set_47 : decode cX0_set 47 = .ok (.invokevirtual 487, 3) := dk_182 1 231 (dk_at dksX0_set_2 0 rfl rfl)
theorem dX0_set_50 : decode cX0_set 50 = .ok (.ifCond .ne 5, 3) := dk_154 0 5 (dk_at dksX0_set_2 3 rfl rfl)
theorem dX0_set_53 : decode cX0_set 53 = .ok (.iconst 0, 1) := dk_3 (dk_at dksX0_set_2 6 rfl rfl)
theorem dX0_set_54 : decode cX0_set 54 = .ok (.ireturn, 1) := dk_172 (dk_at dksX0_set_2 7 rfl rfl)
theorem dX0_set_55 : decode cX0_set 55 = .ok (.iload_n 1, 1) := dk_27 (dk_at dksX0_set_2 8 rfl rfl)
theorem dX0_set_56 : decode cX0_set 56 = .ok (.tableswitch 104 0 5 #[40, 53, 66, 76, 86, 96], 40) := by decide +kernel
theorem dX0_set_96 : decode cX0_set 96 = .ok (.aload_n 0, 1) := dk_42 (dk_at dksX0_set_4 0 rfl rfl)
theorem dX0_set_97 : decode cX0_set 97 = .ok (.getfield 164, 3) := dk_180 0 164 (dk_at dksX0_set_4 1 rfl rfl)
theorem dX0_set_100 : decode cX0_set 100 = .ok (.getfield 470, 3) := dk_180 1 214 (dk_at dksX0_set_4 4 rfl rfl)
theorem dX0_set_103 : decode cX0_set 103 = .ok (.iload_n 2, 1) := dk_28 (dk_at dksX0_set_4 7 rfl rfl)
theorem dX0_set_104 : decode cX0_set 104 = .ok (.iload_n 3, 1) := dk_29 (dk_at dksX0_set_4 8 rfl rfl)
theorem dX0_set_105 : decode cX0_set 105 = .ok (.iastore, 1) := dk_79 (dk_at dksX0_set_4 9 rfl rfl)
theorem dX0_set_106 : decode cX0_set 106 = .ok (.goto 59, 3) := dk_167 0 59 (dk_at dksX0_set_4 10 rfl rfl)
theorem dX0_set_109 : decode cX0_set 109 = .ok (.aload_n 0, 1) := dk_42 (dk_at dksX0_set_4 13 rfl rfl)
theorem dX0_set_110 : decode cX0_set 110 = .ok (.getfield 164, 3) := dk_180 0 164 (dk_at dksX0_set_4 14 rfl rfl)
theorem dX0_set_113 : decode cX0_set 113 = .ok (.getfield 472, 3) := dk_180 1 216 (dk_at dksX0_set_4 17 rfl rfl)
theorem dX0_set_116 : decode cX0_set 116 = .ok (.iload_n 2, 1) := dk_28 (dk_at dksX0_set_4 20 rfl rfl)
theorem dX0_set_117 : decode cX0_set 117 = .ok (.iload_n 3, 1) := dk_29 (dk_at dksX0_set_4 21 rfl rfl)
theorem dX0_set_118 : decode cX0_set 118 = .ok (.iastore, 1) := dk_79 (dk_at dksX0_set_4 22 rfl rfl)
theorem dX0_set_119 : decode cX0_set 119 = .ok (.goto 46, 3) := dk_167 0 46 (dk_at dksX0_set_5 0 rfl rfl)
theorem dX0_set_122 : decode cX0_set 122 = .ok (.aload_n 0, 1) := dk_42 (dk_at dksX0_set_5 3 rfl rfl)
theorem dX0_set_123 : decode cX0_set 123 = .ok (.getfield 142, 3) := dk_180 0 142 (dk_at dksX0_set_5 4 rfl rfl)
theorem dX0_set_126 : decode cX0_set 126 = .ok (.iload_n 2, 1) := dk_28 (dk_at dksX0_set_5 7 rfl rfl)
theorem dX0_set_127 : decode cX0_set 127 = .ok (.iload_n 3, 1) := dk_29 (dk_at dksX0_set_5 8 rfl rfl)
theorem dX0_set_128 : decode cX0_set 128 = .ok (.iastore, 1) := dk_79 (dk_at dksX0_set_5 9 rfl rfl)
theorem dX0_set_129 : decode cX0_set 129 = .ok (.goto 36, 3) := dk_167 0 36 (dk_at dksX0_set_5 10 rfl rfl)
theorem dX0_set_132 : decode cX0_set 132 = .ok (.aload_n 0, 1) := dk_42 (dk_at dksX0_set_5 13 rfl rfl)
theorem dX0_set_133 : decode cX0_set 133 = .ok (.getfield 145, 3) := dk_180 0 145 (dk_at dksX0_set_5 14 rfl rfl)
theorem dX0_set_136 : decode cX0_set 136 = .ok (.iload_n 2, 1) := dk_28 (dk_at dksX0_set_5 17 rfl rfl)
theorem dX0_set_137 : decode cX0_set 137 = .ok (.iload_n 3, 1) := dk_29 (dk_at dksX0_set_5 18 rfl rfl)
theorem dX0_set_138 : decode cX0_set 138 = .ok (.iastore, 1) := dk_79 (dk_at dksX0_set_5 19 rfl rfl)
theorem dX0_set_139 : decode cX0_set 139 = .ok (.goto 26, 3) := dk_167 0 26 (dk_at dksX0_set_5 20 rfl rfl)
theorem dX0_set_142 : decode cX0_set 142 = .ok (.aload_n 0, 1) := dk_42 (dk_at dksX0_set_5 23 rfl rfl)
theorem dX0_set_143 : decode cX0_set 143 = .ok (.getfield 148, 3) := dk_180 0 148 (dk_at dksX0_set_6 0 rfl rfl)
theorem dX0_set_146 : decode cX0_set 146 = .ok (.iload_n 2, 1) := dk_28 (dk_at dksX0_set_6 3 rfl rfl)
theorem dX0_set_147 : decode cX0_set 147 = .ok (.iload_n 3, 1) := dk_29 (dk_at dksX0_set_6 4 rfl rfl)
theorem dX0_set_148 : decode cX0_set 148 = .ok (.iastore, 1) := dk_79 (dk_at dksX0_set_6 5 rfl rfl)
theorem dX0_set_149 : decode cX0_set 149 = .ok (.goto 16, 3) := dk_167 0 16 (dk_at dksX0_set_6 6 rfl rfl)
theorem dX0_set_152 : decode cX0_set 152 = .ok (.aload_n 0, 1) := dk_42 (dk_at dksX0_set_6 9 rfl rfl)
theorem dX0_set_153 : decode cX0_set 153 = .ok (.iload_n 3, 1) := dk_29 (dk_at dksX0_set_6 10 rfl rfl)
theorem dX0_set_154 : decode cX0_set 154 = .ok (.putfield 490, 3) := dk_181 1 234 (dk_at dksX0_set_6 11 rfl rfl)
theorem dX0_set_157 : decode cX0_set 157 = .ok (.goto 8, 3) := dk_167 0 8 (dk_at dksX0_set_6 14 rfl rfl)
theorem dX0_set_160 : decode cX0_set 160 = .ok (.aload_n 0, 1) := dk_42 (dk_at dksX0_set_6 17 rfl rfl)
theorem dX0_set_161 : decode cX0_set 161 = .ok (.iload_n 3, 1) := dk_29 (dk_at dksX0_set_6 18 rfl rfl)
theorem dX0_set_162 : decode cX0_set 162 = .ok (.putfield 153, 3) := dk_181 0 153 (dk_at dksX0_set_6 19 rfl rfl)
theorem dX0_set_165 : decode cX0_set 165 = .ok (.aload_n 0, 1) := dk_42 (dk_at dksX0_set_6 22 rfl rfl)
theorem dX0_set_166 : decode cX0_set 166 = .ok (.iconst 0, 1) := dk_3 (dk_at dksX0_set_6 23 rfl rfl)
theorem dX0_set_167 : decode cX0_set 167 = .ok (.putfield 408, 3) := dk_181 1 152 (dk_at dksX0_set_7 0 rfl rfl)
theorem dX0_set_170 : decode cX0_set 170 = .ok (.iconst 1, 1) := dk_4 (dk_at dksX0_set_7 3 rfl rfl)
theorem dX0_set_171 : decode cX0_set 171 = .ok (.ireturn, 1) := dk_172 (dk_at dksX0_set_7 4 rfl rfl)
abbrev cX0_isTool : ByteArray := prog_1_method_41_code
def yX0_isTool : MethodName := ⟨RX0, "isTool", "(I)Z"⟩
def dkwX0_isTool_0 : List UInt8 := [27, 3, 42, 180, 1, 137, 4, 100, 184, 0, 237, 172]
abbrev dktX0_isTool_0 : List UInt8 := dkwX0_isTool_0 ++ []
theorem dksX0_isTool_0 : cX0_isTool.data.toList.drop 0 = dktX0_isTool_0 := by decide +kernel
theorem dX0_isTool_0 : decode cX0_isTool 0 = .ok (.iload_n 1, 1) := dk_27 (dk_at dksX0_isTool_0 0 rfl rfl)
theorem dX0_isTool_1 : decode cX0_isTool 1 = .ok (.iconst 0, 1) := dk_3 (dk_at dksX0_isTool_0 1 rfl rfl)
theorem dX0_isTool_2 : decode cX0_isTool 2 = .ok (.aload_n 0, 1) := dk_42 (dk_at dksX0_isTool_0 2 rfl rfl)
theorem dX0_isTool_3 : decode cX0_isTool 3 = .ok (.getfield 393, 3) := dk_180 1 137 (dk_at dksX0_isTool_0 3 rfl rfl)
theorem dX0_isTool_6 : decode cX0_isTool 6 = .ok (.iconst 1, 1) := dk_4 (dk_at dksX0_isTool_0 6 rfl rfl)
theorem dX0_isTool_7 : decode cX0_isTool 7 = .ok (.isub, 1) := dk_100 (dk_at dksX0_isTool_0 7 rfl rfl)
theorem dX0_isTool_8 : decode cX0_isTool 8 = .ok (.invokestatic 237, 3) := dk_184 0 237 (dk_at dksX0_isTool_0 8 rfl rfl)
theorem dX0_isTool_11 : decode cX0_isTool 11 = .ok (.ireturn, 1) := dk_172 (dk_at dksX0_isTool_0 11 rfl rfl)
abbrev cX0_isMan : ByteArray := prog_1_method_42_code
def yX0_isMan : MethodName := ⟨RX0, "isMan", "(I)Z"⟩
def dkwX0_isMan_0 : List UInt8 := [27, 3, 42, 180, 1, 140, 4, 100, 184, 0, 237, 172]
abbrev dktX0_isMan_0 : List UInt8 := dkwX0_isMan_0 ++ []
theorem dksX0_isMan_0 : cX0_isMan.data.toList.drop 0 = dktX0_isMan_0 := by decide +kernel
theorem dX0_isMan_0 : decode cX0_isMan 0 = .ok (.iload_n 1, 1) := dk_27 (dk_at dksX0_isMan_0 0 rfl rfl)
theorem dX0_isMan_1 : decode cX0_isMan 1 = .ok (.iconst 0, 1) := dk_3 (dk_at dksX0_isMan_0 1 rfl rfl)
theorem dX0_isMan_2 : decode cX0_isMan 2 = .ok (.aload_n 0, 1) := dk_42 (dk_at dksX0_isMan_0 2 rfl rfl)
theorem dX0_isMan_3 : decode cX0_isMan 3 = .ok (.getfield 396, 3) := dk_180 1 140 (dk_at dksX0_isMan_0 3 rfl rfl)
theorem dX0_isMan_6 : decode cX0_isMan 6 = .ok (.iconst 1, 1) := dk_4 (dk_at dksX0_isMan_0 6 rfl rfl)
theorem dX0_isMan_7 : decode cX0_isMan 7 = .ok (.isub, 1) := dk_100 (dk_at dksX0_isMan_0 7 rfl rfl)
theorem dX0_isMan_8 : decode cX0_isMan 8 = .ok (.invokestatic 237, 3) := dk_184 0 237 (dk_at dksX0_isMan_0 8 rfl rfl)
theorem dX0_isMan_11 : decode cX0_isMan 11 = .ok (.ireturn, 1) := dk_172 (dk_at dksX0_isMan_0 11 rfl rfl)
abbrev cX0_mend : ByteArray := prog_1_method_49_code
def yX0_mend : MethodName := ⟨RX0, "mend", "(IZ)Z"⟩
def dkwX0_mend_3 : List UInt8 := [167, 0, 5, 16, 251, 96, 3, 16, 99, 184, 1, 240, 79, 4, 172]
abbrev dktX0_mend_3 : List UInt8 := dkwX0_mend_3 ++ []
def dkwX0_mend_2 : List UInt8 := [180, 0, 164, 180, 1, 216, 27, 42, 180, 0, 164, 180, 1, 216, 27, 46, 28, 153, 0, 8, 16, 10]
abbrev dktX0_mend_2 : List UInt8 := dkwX0_mend_2 ++ dktX0_mend_3
def dkwX0_mend_1 : List UInt8 := [180, 1, 214, 27, 16, 99, 42, 180, 0, 164, 180, 1, 214, 27, 46, 16, 20, 96, 184, 0, 1, 79, 42]
abbrev dktX0_mend_1 : List UInt8 := dkwX0_mend_1 ++ dktX0_mend_2
def dkwX0_mend_0 : List UInt8 := [42, 27, 182, 1, 228, 154, 0, 5, 3, 172, 42, 182, 1, 237, 28, 154, 0, 29, 42, 180, 0, 164]
abbrev dktX0_mend_0 : List UInt8 := dkwX0_mend_0 ++ dktX0_mend_1
theorem dksX0_mend_0 : cX0_mend.data.toList.drop 0 = dktX0_mend_0 := by decide +kernel
theorem dksX0_mend_1 : cX0_mend.data.toList.drop 22 = dktX0_mend_1 := dk_seg dksX0_mend_0 22 rfl rfl
theorem dksX0_mend_2 : cX0_mend.data.toList.drop 45 = dktX0_mend_2 := dk_seg dksX0_mend_1 23 rfl rfl
theorem dksX0_mend_3 : cX0_mend.data.toList.drop 67 = dktX0_mend_3 := dk_seg dksX0_mend_2 22 rfl rfl
theorem dX0_mend_0 : decode cX0_mend 0 = .ok (.aload_n 0, 1) := dk_42 (dk_at dksX0_mend_0 0 rfl rfl)
theorem dX0_mend_1 : decode cX0_mend 1 = .ok (.iload_n 1, 1) := dk_27 (dk_at dksX0_mend_0 1 rfl rfl)
theorem dX0_mend_2 : decode cX0_mend 2 = .ok (.invokevirtual 484, 3) := dk_182 1 228 (dk_at dksX0_mend_0 2 rfl rfl)
theorem dX0_mend_5 : decode cX0_mend 5 = .ok (.ifCond .ne 5, 3) := dk_154 0 5 (dk_at dksX0_mend_0 5 rfl rfl)
theorem dX0_mend_8 : decode cX0_mend 8 = .ok (.iconst 0, 1) := dk_3 (dk_at dksX0_mend_0 8 rfl rfl)
theorem dX0_mend_9 : decode cX0_mend 9 = .ok (.ireturn, 1) := dk_172 (dk_at dksX0_mend_0 9 rfl rfl)
theorem dX0_mend_10 : decode cX0_mend 10 = .ok (.aload_n 0, 1) := dk_42 (dk_at dksX0_mend_0 10 rfl rfl)
theorem dX0_mend_11 : decode cX0_mend 11 = .ok (.invokevirtual 493, 3) := dk_182 1 237 (dk_at dksX0_mend_0 11 rfl rfl)
theorem dX0_mend_14 : decode cX0_mend 14 = .ok (.iload_n 2, 1) := dk_28 (dk_at dksX0_mend_0 14 rfl rfl)
theorem dX0_mend_15 : decode cX0_mend 15 = .ok (.ifCond .ne 29, 3) := dk_154 0 29 (dk_at dksX0_mend_0 15 rfl rfl)
theorem dX0_mend_18 : decode cX0_mend 18 = .ok (.aload_n 0, 1) := dk_42 (dk_at dksX0_mend_0 18 rfl rfl)
theorem dX0_mend_19 : decode cX0_mend 19 = .ok (.getfield 164, 3) := dk_180 0 164 (dk_at dksX0_mend_0 19 rfl rfl)
theorem dX0_mend_22 : decode cX0_mend 22 = .ok (.getfield 470, 3) := dk_180 1 214 (dk_at dksX0_mend_1 0 rfl rfl)
theorem dX0_mend_25 : decode cX0_mend 25 = .ok (.iload_n 1, 1) := dk_27 (dk_at dksX0_mend_1 3 rfl rfl)
theorem dX0_mend_26 : decode cX0_mend 26 = .ok (.bipush 99, 2) := dk_16 99 (dk_at dksX0_mend_1 4 rfl rfl)
theorem dX0_mend_28 : decode cX0_mend 28 = .ok (.aload_n 0, 1) := dk_42 (dk_at dksX0_mend_1 6 rfl rfl)
theorem dX0_mend_29 : decode cX0_mend 29 = .ok (.getfield 164, 3) := dk_180 0 164 (dk_at dksX0_mend_1 7 rfl rfl)
theorem dX0_mend_32 : decode cX0_mend 32 = .ok (.getfield 470, 3) := dk_180 1 214 (dk_at dksX0_mend_1 10 rfl rfl)
theorem dX0_mend_35 : decode cX0_mend 35 = .ok (.iload_n 1, 1) := dk_27 (dk_at dksX0_mend_1 13 rfl rfl)
theorem dX0_mend_36 : decode cX0_mend 36 = .ok (.iaload, 1) := dk_46 (dk_at dksX0_mend_1 14 rfl rfl)
theorem dX0_mend_37 : decode cX0_mend 37 = .ok (.bipush 20, 2) := dk_16 20 (dk_at dksX0_mend_1 15 rfl rfl)
theorem dX0_mend_39 : decode cX0_mend 39 = .ok (.iadd, 1) := dk_96 (dk_at dksX0_mend_1 17 rfl rfl)
theorem dX0_mend_40 : decode cX0_mend 40 = .ok (.invokestatic 1, 3) := dk_184 0 1 (dk_at dksX0_mend_1 18 rfl rfl)
theorem dX0_mend_43 : decode cX0_mend 43 = .ok (.iastore, 1) := dk_79 (dk_at dksX0_mend_1 21 rfl rfl)
theorem dX0_mend_44 : decode cX0_mend 44 = .ok (.aload_n 0, 1) := dk_42 (dk_at dksX0_mend_1 22 rfl rfl)
theorem dX0_mend_45 : decode cX0_mend 45 = .ok (.getfield 164, 3) := dk_180 0 164 (dk_at dksX0_mend_2 0 rfl rfl)
theorem dX0_mend_48 : decode cX0_mend 48 = .ok (.getfield 472, 3) := dk_180 1 216 (dk_at dksX0_mend_2 3 rfl rfl)
theorem dX0_mend_51 : decode cX0_mend 51 = .ok (.iload_n 1, 1) := dk_27 (dk_at dksX0_mend_2 6 rfl rfl)
theorem dX0_mend_52 : decode cX0_mend 52 = .ok (.aload_n 0, 1) := dk_42 (dk_at dksX0_mend_2 7 rfl rfl)
theorem dX0_mend_53 : decode cX0_mend 53 = .ok (.getfield 164, 3) := dk_180 0 164 (dk_at dksX0_mend_2 8 rfl rfl)
theorem dX0_mend_56 : decode cX0_mend 56 = .ok (.getfield 472, 3) := dk_180 1 216 (dk_at dksX0_mend_2 11 rfl rfl)
theorem dX0_mend_59 : decode cX0_mend 59 = .ok (.iload_n 1, 1) := dk_27 (dk_at dksX0_mend_2 14 rfl rfl)
theorem dX0_mend_60 : decode cX0_mend 60 = .ok (.iaload, 1) := dk_46 (dk_at dksX0_mend_2 15 rfl rfl)
theorem dX0_mend_61 : decode cX0_mend 61 = .ok (.iload_n 2, 1) := dk_28 (dk_at dksX0_mend_2 16 rfl rfl)
theorem dX0_mend_62 : decode cX0_mend 62 = .ok (.ifCond .eq 8, 3) := dk_153 0 8 (dk_at dksX0_mend_2 17 rfl rfl)
theorem dX0_mend_65 : decode cX0_mend 65 = .ok (.bipush 10, 2) := dk_16 10 (dk_at dksX0_mend_2 20 rfl rfl)
theorem dX0_mend_67 : decode cX0_mend 67 = .ok (.goto 5, 3) := dk_167 0 5 (dk_at dksX0_mend_3 0 rfl rfl)
theorem dX0_mend_70 : decode cX0_mend 70 = .ok (.bipush (-5), 2) := dk_16 251 (dk_at dksX0_mend_3 3 rfl rfl)
theorem dX0_mend_72 : decode cX0_mend 72 = .ok (.iadd, 1) := dk_96 (dk_at dksX0_mend_3 5 rfl rfl)
theorem dX0_mend_73 : decode cX0_mend 73 = .ok (.iconst 0, 1) := dk_3 (dk_at dksX0_mend_3 6 rfl rfl)
theorem dX0_mend_74 : decode cX0_mend 74 = .ok (.bipush 99, 2) := dk_16 99 (dk_at dksX0_mend_3 7 rfl rfl)
theorem dX0_mend_76 : decode cX0_mend 76 = .ok (.invokestatic 496, 3) := dk_184 1 240 (dk_at dksX0_mend_3 9 rfl rfl)
theorem dX0_mend_79 : decode cX0_mend 79 = .ok (.iastore, 1) := dk_79 (dk_at dksX0_mend_3 12 rfl rfl)
theorem dX0_mend_80 : decode cX0_mend 80 = .ok (.iconst 1, 1) := dk_4 (dk_at dksX0_mend_3 13 rfl rfl)
theorem dX0_mend_81 : decode cX0_mend 81 = .ok (.ireturn, 1) := dk_172 (dk_at dksX0_mend_3 14 rfl rfl)
abbrev cX0_keepsAhead : ByteArray := prog_1_method_39_code
def yX0_keepsAhead : MethodName := ⟨RX0, "keepsAhead", "()V"⟩
def dkwX0_keepsAhead_4 : List UInt8 := [180, 0, 164, 182, 1, 201, 42, 89, 180, 1, 152, 4, 96, 181, 1, 152, 177]
abbrev dktX0_keepsAhead_4 : List UInt8 := dkwX0_keepsAhead_4 ++ []
def dkwX0_keepsAhead_3 : List UInt8 := [180, 1, 152, 187, 0, 159, 89, 42, 183, 0, 161, 83, 42, 180, 0, 177, 42, 180, 1, 152, 50, 42]
abbrev dktX0_keepsAhead_3 : List UInt8 := dkwX0_keepsAhead_3 ++ dktX0_keepsAhead_4
def dkwX0_keepsAhead_2 : List UInt8 := [180, 1, 152, 43, 83, 42, 180, 0, 177, 42, 180, 1, 152, 50, 199, 0, 20, 42, 180, 0, 177, 42]
abbrev dktX0_keepsAhead_2 : List UInt8 := dkwX0_keepsAhead_2 ++ dktX0_keepsAhead_3
def dkwX0_keepsAhead_1 : List UInt8 := [180, 0, 177, 3, 8, 184, 0, 10, 42, 89, 180, 1, 152, 4, 100, 181, 1, 152, 42, 180, 0, 177, 42]
abbrev dktX0_keepsAhead_1 : List UInt8 := dkwX0_keepsAhead_1 ++ dktX0_keepsAhead_2
def dkwX0_keepsAhead_0 : List UInt8 := [42, 180, 1, 152, 16, 6, 160, 0, 44, 42, 180, 0, 177, 3, 50, 76, 42, 180, 0, 177, 4, 42]
abbrev dktX0_keepsAhead_0 : List UInt8 := dkwX0_keepsAhead_0 ++ dktX0_keepsAhead_1
theorem dksX0_keepsAhead_0 : cX0_keepsAhead.data.toList.drop 0 = dktX0_keepsAhead_0 := by decide +kernel
theorem dksX0_keepsAhead_1 : cX0_keepsAhead.data.toList.drop 22 = dktX0_keepsAhead_1 := dk_seg dksX0_keepsAhead_0 22 rfl rfl
theorem dksX0_keepsAhead_2 : cX0_keepsAhead.data.toList.drop 45 = dktX0_keepsAhead_2 := dk_seg dksX0_keepsAhead_1 23 rfl rfl
theorem dksX0_keepsAhead_3 : cX0_keepsAhead.data.toList.drop 67 = dktX0_keepsAhead_3 := dk_seg dksX0_keepsAhead_2 22 rfl rfl
theorem dksX0_keepsAhead_4 : cX0_keepsAhead.data.toList.drop 89 = dktX0_keepsAhead_4 := dk_seg dksX0_keepsAhead_3 22 rfl rfl
theorem dX0_keepsAhead_0 : decode cX0_keepsAhead 0 = .ok (.aload_n 0, 1) := dk_42 (dk_at dksX0_keepsAhead_0 0 rfl rfl)
theorem dX0_keepsAhead_1 : decode cX0_keepsAhead 1 = .ok (.getfield 408, 3) := dk_180 1 152 (dk_at dksX0_keepsAhead_0 1 rfl rfl)
theorem dX0_keepsAhead_4 : decode cX0_keepsAhead 4 = .ok (.bipush 6, 2) := dk_16 6 (dk_at dksX0_keepsAhead_0 4 rfl rfl)
theorem dX0_keepsAhead_6 : decode cX0_keepsAhead 6 = .ok (.if_icmp .ne 44, 3) := dk_160 0 44 (dk_at dksX0_keepsAhead_0 6 rfl rfl)
theorem dX0_keepsAhead_9 : decode cX0_keepsAhead 9 = .ok (.aload_n 0, 1) := dk_42 (dk_at dksX0_keepsAhead_0 9 rfl rfl)
theorem dX0_keepsAhead_10 : decode cX0_keepsAhead 10 = .ok (.getfield 177, 3) := dk_180 0 177 (dk_at dksX0_keepsAhead_0 10 rfl rfl)
theorem dX0_keepsAhead_13 : decode cX0_keepsAhead 13 = .ok (.iconst 0, 1) := dk_3 (dk_at dksX0_keepsAhead_0 13 rfl rfl)
theorem dX0_keepsAhead_14 : decode cX0_keepsAhead 14 = .ok (.aaload, 1) := dk_50 (dk_at dksX0_keepsAhead_0 14 rfl rfl)
theorem dX0_keepsAhead_15 : decode cX0_keepsAhead 15 = .ok (.astore_n 1, 1) := dk_76 (dk_at dksX0_keepsAhead_0 15 rfl rfl)
theorem dX0_keepsAhead_16 : decode cX0_keepsAhead 16 = .ok (.aload_n 0, 1) := dk_42 (dk_at dksX0_keepsAhead_0 16 rfl rfl)
theorem dX0_keepsAhead_17 : decode cX0_keepsAhead 17 = .ok (.getfield 177, 3) := dk_180 0 177 (dk_at dksX0_keepsAhead_0 17 rfl rfl)
theorem dX0_keepsAhead_20 : decode cX0_keepsAhead 20 = .ok (.iconst 1, 1) := dk_4 (dk_at dksX0_keepsAhead_0 20 rfl rfl)
theorem dX0_keepsAhead_21 : decode cX0_keepsAhead 21 = .ok (.aload_n 0, 1) := dk_42 (dk_at dksX0_keepsAhead_0 21 rfl rfl)
theorem dX0_keepsAhead_22 : decode cX0_keepsAhead 22 = .ok (.getfield 177, 3) := dk_180 0 177 (dk_at dksX0_keepsAhead_1 0 rfl rfl)
theorem dX0_keepsAhead_25 : decode cX0_keepsAhead 25 = .ok (.iconst 0, 1) := dk_3 (dk_at dksX0_keepsAhead_1 3 rfl rfl)
theorem dX0_keepsAhead_26 : decode cX0_keepsAhead 26 = .ok (.iconst 5, 1) := dk_8 (dk_at dksX0_keepsAhead_1 4 rfl rfl)
theorem dX0_keepsAhead_27 : decode cX0_keepsAhead 27 = .ok (.invokestatic 10, 3) := dk_184 0 10 (dk_at dksX0_keepsAhead_1 5 rfl rfl)
theorem dX0_keepsAhead_30 : decode cX0_keepsAhead 30 = .ok (.aload_n 0, 1) := dk_42 (dk_at dksX0_keepsAhead_1 8 rfl rfl)
theorem dX0_keepsAhead_31 : decode cX0_keepsAhead 31 = .ok (.dup, 1) := dk_89 (dk_at dksX0_keepsAhead_1 9 rfl rfl)
theorem dX0_keepsAhead_32 : decode cX0_keepsAhead 32 = .ok (.getfield 408, 3) := dk_180 1 152 (dk_at dksX0_keepsAhead_1 10 rfl rfl)
theorem dX0_keepsAhead_35 : decode cX0_keepsAhead 35 = .ok (.iconst 1, 1) := dk_4 (dk_at dksX0_keepsAhead_1 13 rfl rfl)
theorem dX0_keepsAhead_36 : decode cX0_keepsAhead 36 = .ok (.isub, 1) := dk_100 (dk_at dksX0_keepsAhead_1 14 rfl rfl)
theorem dX0_keepsAhead_37 : decode cX0_keepsAhead 37 = .ok (.putfield 408, 3) := dk_181 1 152 (dk_at dksX0_keepsAhead_1 15 rfl rfl)
theorem dX0_keepsAhead_40 : decode cX0_keepsAhead 40 = .ok (.aload_n 0, 1) := dk_42 (dk_at dksX0_keepsAhead_1 18 rfl rfl)
theorem dX0_keepsAhead_41 : decode cX0_keepsAhead 41 = .ok (.getfield 177, 3) := dk_180 0 177 (dk_at dksX0_keepsAhead_1 19 rfl rfl)
theorem dX0_keepsAhead_44 : decode cX0_keepsAhead 44 = .ok (.aload_n 0, 1) := dk_42 (dk_at dksX0_keepsAhead_1 22 rfl rfl)
theorem dX0_keepsAhead_45 : decode cX0_keepsAhead 45 = .ok (.getfield 408, 3) := dk_180 1 152 (dk_at dksX0_keepsAhead_2 0 rfl rfl)
theorem dX0_keepsAhead_48 : decode cX0_keepsAhead 48 = .ok (.aload_n 1, 1) := dk_43 (dk_at dksX0_keepsAhead_2 3 rfl rfl)
theorem dX0_keepsAhead_49 : decode cX0_keepsAhead 49 = .ok (.aastore, 1) := dk_83 (dk_at dksX0_keepsAhead_2 4 rfl rfl)
theorem dX0_keepsAhead_50 : decode cX0_keepsAhead 50 = .ok (.aload_n 0, 1) := dk_42 (dk_at dksX0_keepsAhead_2 5 rfl rfl)
theorem dX0_keepsAhead_51 : decode cX0_keepsAhead 51 = .ok (.getfield 177, 3) := dk_180 0 177 (dk_at dksX0_keepsAhead_2 6 rfl rfl)
theorem dX0_keepsAhead_54 : decode cX0_keepsAhead 54 = .ok (.aload_n 0, 1) := dk_42 (dk_at dksX0_keepsAhead_2 9 rfl rfl)
theorem dX0_keepsAhead_55 : decode cX0_keepsAhead 55 = .ok (.getfield 408, 3) := dk_180 1 152 (dk_at dksX0_keepsAhead_2 10 rfl rfl)
theorem dX0_keepsAhead_58 : decode cX0_keepsAhead 58 = .ok (.aaload, 1) := dk_50 (dk_at dksX0_keepsAhead_2 13 rfl rfl)
theorem dX0_keepsAhead_59 : decode cX0_keepsAhead 59 = .ok (.ifnonnull 20, 3) := dk_199 0 20 (dk_at dksX0_keepsAhead_2 14 rfl rfl)
theorem dX0_keepsAhead_62 : decode cX0_keepsAhead 62 = .ok (.aload_n 0, 1) := dk_42 (dk_at dksX0_keepsAhead_2 17 rfl rfl)
theorem dX0_keepsAhead_63 : decode cX0_keepsAhead 63 = .ok (.getfield 177, 3) := dk_180 0 177 (dk_at dksX0_keepsAhead_2 18 rfl rfl)
theorem dX0_keepsAhead_66 : decode cX0_keepsAhead 66 = .ok (.aload_n 0, 1) := dk_42 (dk_at dksX0_keepsAhead_2 21 rfl rfl)
theorem dX0_keepsAhead_67 : decode cX0_keepsAhead 67 = .ok (.getfield 408, 3) := dk_180 1 152 (dk_at dksX0_keepsAhead_3 0 rfl rfl)
theorem dX0_keepsAhead_70 : decode cX0_keepsAhead 70 = .ok (.new 159, 3) := dk_187 0 159 (dk_at dksX0_keepsAhead_3 3 rfl rfl)
theorem dX0_keepsAhead_73 : decode cX0_keepsAhead 73 = .ok (.dup, 1) := dk_89 (dk_at dksX0_keepsAhead_3 6 rfl rfl)
theorem dX0_keepsAhead_74 : decode cX0_keepsAhead 74 = .ok (.aload_n 0, 1) := dk_42 (dk_at dksX0_keepsAhead_3 7 rfl rfl)
theorem dX0_keepsAhead_75 : decode cX0_keepsAhead 75 = .ok (.invokespecial 161, 3) := dk_183 0 161 (dk_at dksX0_keepsAhead_3 8 rfl rfl)
theorem dX0_keepsAhead_78 : decode cX0_keepsAhead 78 = .ok (.aastore, 1) := dk_83 (dk_at dksX0_keepsAhead_3 11 rfl rfl)
theorem dX0_keepsAhead_79 : decode cX0_keepsAhead 79 = .ok (.aload_n 0, 1) := dk_42 (dk_at dksX0_keepsAhead_3 12 rfl rfl)
theorem dX0_keepsAhead_80 : decode cX0_keepsAhead 80 = .ok (.getfield 177, 3) := dk_180 0 177 (dk_at dksX0_keepsAhead_3 13 rfl rfl)
theorem dX0_keepsAhead_83 : decode cX0_keepsAhead 83 = .ok (.aload_n 0, 1) := dk_42 (dk_at dksX0_keepsAhead_3 16 rfl rfl)
theorem dX0_keepsAhead_84 : decode cX0_keepsAhead 84 = .ok (.getfield 408, 3) := dk_180 1 152 (dk_at dksX0_keepsAhead_3 17 rfl rfl)
theorem dX0_keepsAhead_87 : decode cX0_keepsAhead 87 = .ok (.aaload, 1) := dk_50 (dk_at dksX0_keepsAhead_3 20 rfl rfl)
theorem dX0_keepsAhead_88 : decode cX0_keepsAhead 88 = .ok (.aload_n 0, 1) := dk_42 (dk_at dksX0_keepsAhead_3 21 rfl rfl)
theorem dX0_keepsAhead_89 : decode cX0_keepsAhead 89 = .ok (.getfield 164, 3) := dk_180 0 164 (dk_at dksX0_keepsAhead_4 0 rfl rfl)
theorem dX0_keepsAhead_92 : decode cX0_keepsAhead 92 = .ok (.invokevirtual 457, 3) := dk_182 1 201 (dk_at dksX0_keepsAhead_4 3 rfl rfl)
theorem dX0_keepsAhead_95 : decode cX0_keepsAhead 95 = .ok (.aload_n 0, 1) := dk_42 (dk_at dksX0_keepsAhead_4 6 rfl rfl)
theorem dX0_keepsAhead_96 : decode cX0_keepsAhead 96 = .ok (.dup, 1) := dk_89 (dk_at dksX0_keepsAhead_4 7 rfl rfl)
theorem dX0_keepsAhead_97 : decode cX0_keepsAhead 97 = .ok (.getfield 408, 3) := dk_180 1 152 (dk_at dksX0_keepsAhead_4 8 rfl rfl)
theorem dX0_keepsAhead_100 : decode cX0_keepsAhead 100 = .ok (.iconst 1, 1) := dk_4 (dk_at dksX0_keepsAhead_4 11 rfl rfl)
theorem dX0_keepsAhead_101 : decode cX0_keepsAhead 101 = .ok (.iadd, 1) := dk_96 (dk_at dksX0_keepsAhead_4 12 rfl rfl)
theorem dX0_keepsAhead_102 : decode cX0_keepsAhead 102 = .ok (.putfield 408, 3) := dk_181 1 152 (dk_at dksX0_keepsAhead_4 13 rfl rfl)
theorem dX0_keepsAhead_105 : decode cX0_keepsAhead 105 = .ok (.return_, 1) := dk_177 (dk_at dksX0_keepsAhead_4 16 rfl rfl)
abbrev cX0_held : ByteArray := prog_1_method_2_code
def yX0_held : MethodName := ⟨RX0, "held", "(III)I"⟩
def dkwX0_held_0 : List UInt8 := [27, 28, 26, 184, 0, 1, 184, 0, 7, 172]
abbrev dktX0_held_0 : List UInt8 := dkwX0_held_0 ++ []
theorem dksX0_held_0 : cX0_held.data.toList.drop 0 = dktX0_held_0 := by decide +kernel
theorem dX0_held_0 : decode cX0_held 0 = .ok (.iload_n 1, 1) := dk_27 (dk_at dksX0_held_0 0 rfl rfl)
theorem dX0_held_1 : decode cX0_held 1 = .ok (.iload_n 2, 1) := dk_28 (dk_at dksX0_held_0 1 rfl rfl)
theorem dX0_held_2 : decode cX0_held 2 = .ok (.iload_n 0, 1) := dk_26 (dk_at dksX0_held_0 2 rfl rfl)
theorem dX0_held_3 : decode cX0_held 3 = .ok (.invokestatic 1, 3) := dk_184 0 1 (dk_at dksX0_held_0 3 rfl rfl)
theorem dX0_held_6 : decode cX0_held 6 = .ok (.invokestatic 7, 3) := dk_184 0 7 (dk_at dksX0_held_0 6 rfl rfl)
theorem dX0_held_9 : decode cX0_held 9 = .ok (.ireturn, 1) := dk_172 (dk_at dksX0_held_0 9 rfl rfl)
abbrev cX0_strike : ByteArray := prog_1_method_50_code
def yX0_strike : MethodName := ⟨RX0, "strike", "(IZ)Z"⟩
def dkwX0_strike_1 : List UInt8 := [42, 182, 1, 237, 42, 180, 0, 164, 89, 180, 1, 244, 4, 27, 120, 130, 181, 1, 244, 4, 172]
abbrev dktX0_strike_1 : List UInt8 := dkwX0_strike_1 ++ []
def dkwX0_strike_0 : List UInt8 := [27, 184, 1, 211, 153, 0, 18, 42, 180, 0, 164, 180, 1, 244, 27, 184, 1, 247, 28, 160, 0, 5, 3, 172]
abbrev dktX0_strike_0 : List UInt8 := dkwX0_strike_0 ++ dktX0_strike_1
theorem dksX0_strike_0 : cX0_strike.data.toList.drop 0 = dktX0_strike_0 := by decide +kernel
theorem dksX0_strike_1 : cX0_strike.data.toList.drop 24 = dktX0_strike_1 := dk_seg dksX0_strike_0 24 rfl rfl
theorem dX0_strike_0 : decode cX0_strike 0 = .ok (.iload_n 1, 1) := dk_27 (dk_at dksX0_strike_0 0 rfl rfl)
theorem dX0_strike_1 : decode cX0_strike 1 = .ok (.invokestatic 467, 3) := dk_184 1 211 (dk_at dksX0_strike_0 1 rfl rfl)
theorem dX0_strike_4 : decode cX0_strike 4 = .ok (.ifCond .eq 18, 3) := dk_153 0 18 (dk_at dksX0_strike_0 4 rfl rfl)
theorem dX0_strike_7 : decode cX0_strike 7 = .ok (.aload_n 0, 1) := dk_42 (dk_at dksX0_strike_0 7 rfl rfl)
theorem dX0_strike_8 : decode cX0_strike 8 = .ok (.getfield 164, 3) := dk_180 0 164 (dk_at dksX0_strike_0 8 rfl rfl)
theorem dX0_strike_11 : decode cX0_strike 11 = .ok (.getfield 500, 3) := dk_180 1 244 (dk_at dksX0_strike_0 11 rfl rfl)
theorem dX0_strike_14 : decode cX0_strike 14 = .ok (.iload_n 1, 1) := dk_27 (dk_at dksX0_strike_0 14 rfl rfl)
theorem dX0_strike_15 : decode cX0_strike 15 = .ok (.invokestatic 503, 3) := dk_184 1 247 (dk_at dksX0_strike_0 15 rfl rfl)
theorem dX0_strike_18 : decode cX0_strike 18 = .ok (.iload_n 2, 1) := dk_28 (dk_at dksX0_strike_0 18 rfl rfl)
theorem dX0_strike_19 : decode cX0_strike 19 = .ok (.if_icmp .ne 5, 3) := dk_160 0 5 (dk_at dksX0_strike_0 19 rfl rfl)
theorem dX0_strike_22 : decode cX0_strike 22 = .ok (.iconst 0, 1) := dk_3 (dk_at dksX0_strike_0 22 rfl rfl)
theorem dX0_strike_23 : decode cX0_strike 23 = .ok (.ireturn, 1) := dk_172 (dk_at dksX0_strike_0 23 rfl rfl)
theorem dX0_strike_24 : decode cX0_strike 24 = .ok (.aload_n 0, 1) := dk_42 (dk_at dksX0_strike_1 0 rfl rfl)
theorem dX0_strike_25 : decode cX0_strike 25 = .ok (.invokevirtual 493, 3) := dk_182 1 237 (dk_at dksX0_strike_1 1 rfl rfl)
theorem dX0_strike_28 : decode cX0_strike 28 = .ok (.aload_n 0, 1) := dk_42 (dk_at dksX0_strike_1 4 rfl rfl)
theorem dX0_strike_29 : decode cX0_strike 29 = .ok (.getfield 164, 3) := dk_180 0 164 (dk_at dksX0_strike_1 5 rfl rfl)
theorem dX0_strike_32 : decode cX0_strike 32 = .ok (.dup, 1) := dk_89 (dk_at dksX0_strike_1 8 rfl rfl)
theorem dX0_strike_33 : decode cX0_strike 33 = .ok (.getfield 500, 3) := dk_180 1 244 (dk_at dksX0_strike_1 9 rfl rfl)
theorem dX0_strike_36 : decode cX0_strike 36 = .ok (.iconst 1, 1) := dk_4 (dk_at dksX0_strike_1 12 rfl rfl)
theorem dX0_strike_37 : decode cX0_strike 37 = .ok (.iload_n 1, 1) := dk_27 (dk_at dksX0_strike_1 13 rfl rfl)
theorem dX0_strike_38 : decode cX0_strike 38 = .ok (.ishl, 1) := dk_120 (dk_at dksX0_strike_1 14 rfl rfl)
theorem dX0_strike_39 : decode cX0_strike 39 = .ok (.ixor, 1) := dk_130 (dk_at dksX0_strike_1 15 rfl rfl)
theorem dX0_strike_40 : decode cX0_strike 40 = .ok (.putfield 500, 3) := dk_181 1 244 (dk_at dksX0_strike_1 16 rfl rfl)
theorem dX0_strike_43 : decode cX0_strike 43 = .ok (.iconst 1, 1) := dk_4 (dk_at dksX0_strike_1 19 rfl rfl)
theorem dX0_strike_44 : decode cX0_strike 44 = .ok (.ireturn, 1) := dk_172 (dk_at dksX0_strike_1 20 rfl rfl)
abbrev cX0_has : ByteArray := prog_1_method_3_code
def yX0_has : MethodName := ⟨RX0, "has", "(II)Z"⟩
def dkwX0_has_0 : List UInt8 := [26, 27, 122, 4, 126, 4, 160, 0, 7, 4, 167, 0, 4, 3, 172]
abbrev dktX0_has_0 : List UInt8 := dkwX0_has_0 ++ []
theorem dksX0_has_0 : cX0_has.data.toList.drop 0 = dktX0_has_0 := by decide +kernel
theorem dX0_has_0 : decode cX0_has 0 = .ok (.iload_n 0, 1) := dk_26 (dk_at dksX0_has_0 0 rfl rfl)
theorem dX0_has_1 : decode cX0_has 1 = .ok (.iload_n 1, 1) := dk_27 (dk_at dksX0_has_0 1 rfl rfl)
theorem dX0_has_2 : decode cX0_has 2 = .ok (.ishr, 1) := dk_122 (dk_at dksX0_has_0 2 rfl rfl)
theorem dX0_has_3 : decode cX0_has 3 = .ok (.iconst 1, 1) := dk_4 (dk_at dksX0_has_0 3 rfl rfl)
theorem dX0_has_4 : decode cX0_has 4 = .ok (.iand, 1) := dk_126 (dk_at dksX0_has_0 4 rfl rfl)
theorem dX0_has_5 : decode cX0_has 5 = .ok (.iconst 1, 1) := dk_4 (dk_at dksX0_has_0 5 rfl rfl)
theorem dX0_has_6 : decode cX0_has 6 = .ok (.if_icmp .ne 7, 3) := dk_160 0 7 (dk_at dksX0_has_0 6 rfl rfl)
theorem dX0_has_9 : decode cX0_has 9 = .ok (.iconst 1, 1) := dk_4 (dk_at dksX0_has_0 9 rfl rfl)
theorem dX0_has_10 : decode cX0_has 10 = .ok (.goto 4, 3) := dk_167 0 4 (dk_at dksX0_has_0 10 rfl rfl)
theorem dX0_has_13 : decode cX0_has 13 = .ok (.iconst 0, 1) := dk_3 (dk_at dksX0_has_0 13 rfl rfl)
theorem dX0_has_14 : decode cX0_has 14 = .ok (.ireturn, 1) := dk_172 (dk_at dksX0_has_0 14 rfl rfl)
abbrev cX0_may : ByteArray := prog_1_method_51_code
def yX0_may : MethodName := ⟨RX0, "may", "(IIZ)Z"⟩
def dkwX0_may_2 : List UInt8 := [28, 120, 130, 79, 4, 172]
abbrev dktX0_may_2 : List UInt8 := dkwX0_may_2 ++ []
def dkwX0_may_1 : List UInt8 := [184, 1, 247, 29, 160, 0, 5, 3, 172, 42, 182, 1, 237, 42, 180, 0, 164, 180, 0, 221, 27, 92, 46, 4]
abbrev dktX0_may_1 : List UInt8 := dkwX0_may_1 ++ dktX0_may_2
def dkwX0_may_0 : List UInt8 := [27, 184, 1, 211, 153, 0, 27, 28, 184, 1, 208, 153, 0, 20, 42, 180, 0, 164, 180, 0, 221, 27, 46, 28]
abbrev dktX0_may_0 : List UInt8 := dkwX0_may_0 ++ dktX0_may_1
theorem dksX0_may_0 : cX0_may.data.toList.drop 0 = dktX0_may_0 := by decide +kernel
theorem dksX0_may_1 : cX0_may.data.toList.drop 24 = dktX0_may_1 := dk_seg dksX0_may_0 24 rfl rfl
theorem dksX0_may_2 : cX0_may.data.toList.drop 48 = dktX0_may_2 := dk_seg dksX0_may_1 24 rfl rfl
theorem dX0_may_0 : decode cX0_may 0 = .ok (.iload_n 1, 1) := dk_27 (dk_at dksX0_may_0 0 rfl rfl)
theorem dX0_may_1 : decode cX0_may 1 = .ok (.invokestatic 467, 3) := dk_184 1 211 (dk_at dksX0_may_0 1 rfl rfl)
theorem dX0_may_4 : decode cX0_may 4 = .ok (.ifCond .eq 27, 3) := dk_153 0 27 (dk_at dksX0_may_0 4 rfl rfl)
theorem dX0_may_7 : decode cX0_may 7 = .ok (.iload_n 2, 1) := dk_28 (dk_at dksX0_may_0 7 rfl rfl)
theorem dX0_may_8 : decode cX0_may 8 = .ok (.invokestatic 464, 3) := dk_184 1 208 (dk_at dksX0_may_0 8 rfl rfl)
theorem dX0_may_11 : decode cX0_may 11 = .ok (.ifCond .eq 20, 3) := dk_153 0 20 (dk_at dksX0_may_0 11 rfl rfl)
theorem dX0_may_14 : decode cX0_may 14 = .ok (.aload_n 0, 1) := dk_42 (dk_at dksX0_may_0 14 rfl rfl)
theorem dX0_may_15 : decode cX0_may 15 = .ok (.getfield 164, 3) := dk_180 0 164 (dk_at dksX0_may_0 15 rfl rfl)
theorem dX0_may_18 : decode cX0_may 18 = .ok (.getfield 221, 3) := dk_180 0 221 (dk_at dksX0_may_0 18 rfl rfl)
theorem dX0_may_21 : decode cX0_may 21 = .ok (.iload_n 1, 1) := dk_27 (dk_at dksX0_may_0 21 rfl rfl)
theorem dX0_may_22 : decode cX0_may 22 = .ok (.iaload, 1) := dk_46 (dk_at dksX0_may_0 22 rfl rfl)
theorem dX0_may_23 : decode cX0_may 23 = .ok (.iload_n 2, 1) := dk_28 (dk_at dksX0_may_0 23 rfl rfl)
theorem dX0_may_24 : decode cX0_may 24 = .ok (.invokestatic 503, 3) := dk_184 1 247 (dk_at dksX0_may_1 0 rfl rfl)
theorem dX0_may_27 : decode cX0_may 27 = .ok (.iload_n 3, 1) := dk_29 (dk_at dksX0_may_1 3 rfl rfl)
theorem dX0_may_28 : decode cX0_may 28 = .ok (.if_icmp .ne 5, 3) := dk_160 0 5 (dk_at dksX0_may_1 4 rfl rfl)
theorem dX0_may_31 : decode cX0_may 31 = .ok (.iconst 0, 1) := dk_3 (dk_at dksX0_may_1 7 rfl rfl)
theorem dX0_may_32 : decode cX0_may 32 = .ok (.ireturn, 1) := dk_172 (dk_at dksX0_may_1 8 rfl rfl)
theorem dX0_may_33 : decode cX0_may 33 = .ok (.aload_n 0, 1) := dk_42 (dk_at dksX0_may_1 9 rfl rfl)
theorem dX0_may_34 : decode cX0_may 34 = .ok (.invokevirtual 493, 3) := dk_182 1 237 (dk_at dksX0_may_1 10 rfl rfl)
theorem dX0_may_37 : decode cX0_may 37 = .ok (.aload_n 0, 1) := dk_42 (dk_at dksX0_may_1 13 rfl rfl)
theorem dX0_may_38 : decode cX0_may 38 = .ok (.getfield 164, 3) := dk_180 0 164 (dk_at dksX0_may_1 14 rfl rfl)
theorem dX0_may_41 : decode cX0_may 41 = .ok (.getfield 221, 3) := dk_180 0 221 (dk_at dksX0_may_1 17 rfl rfl)
theorem dX0_may_44 : decode cX0_may 44 = .ok (.iload_n 1, 1) := dk_27 (dk_at dksX0_may_1 20 rfl rfl)
theorem dX0_may_45 : decode cX0_may 45 = .ok (.dup2, 1) := dk_92 (dk_at dksX0_may_1 21 rfl rfl)
theorem dX0_may_46 : decode cX0_may 46 = .ok (.iaload, 1) := dk_46 (dk_at dksX0_may_1 22 rfl rfl)
theorem dX0_may_47 : decode cX0_may 47 = .ok (.iconst 1, 1) := dk_4 (dk_at dksX0_may_1 23 rfl rfl)
theorem dX0_may_48 : decode cX0_may 48 = .ok (.iload_n 2, 1) := dk_28 (dk_at dksX0_may_2 0 rfl rfl)
theorem dX0_may_49 : decode cX0_may 49 = .ok (.ishl, 1) := dk_120 (dk_at dksX0_may_2 1 rfl rfl)
theorem dX0_may_50 : decode cX0_may 50 = .ok (.ixor, 1) := dk_130 (dk_at dksX0_may_2 2 rfl rfl)
theorem dX0_may_51 : decode cX0_may 51 = .ok (.iastore, 1) := dk_79 (dk_at dksX0_may_2 3 rfl rfl)
theorem dX0_may_52 : decode cX0_may 52 = .ok (.iconst 1, 1) := dk_4 (dk_at dksX0_may_2 4 rfl rfl)
theorem dX0_may_53 : decode cX0_may 53 = .ok (.ireturn, 1) := dk_172 (dk_at dksX0_may_2 5 rfl rfl)
abbrev cX0_hours : ByteArray := prog_1_method_52_code
def yX0_hours : MethodName := ⟨RX0, "hours", "(I)I"⟩
def dkwX0_hours_2 : List UInt8 := [182, 1, 251, 96, 61, 132, 3, 1, 167, 255, 234, 28, 172]
abbrev dktX0_hours_2 : List UInt8 := dkwX0_hours_2 ++ []
def dkwX0_hours_1 : List UInt8 := [164, 0, 5, 2, 172, 3, 61, 3, 62, 29, 27, 162, 0, 23, 42, 182, 1, 237, 28, 42, 180, 0, 164]
abbrev dktX0_hours_1 : List UInt8 := dkwX0_hours_1 ++ dktX0_hours_2
def dkwX0_hours_0 : List UInt8 := [27, 4, 16, 60, 184, 0, 237, 153, 0, 18, 42, 180, 0, 164, 180, 1, 192, 27, 96, 17, 39, 15]
abbrev dktX0_hours_0 : List UInt8 := dkwX0_hours_0 ++ dktX0_hours_1
theorem dksX0_hours_0 : cX0_hours.data.toList.drop 0 = dktX0_hours_0 := by decide +kernel
theorem dksX0_hours_1 : cX0_hours.data.toList.drop 22 = dktX0_hours_1 := dk_seg dksX0_hours_0 22 rfl rfl
theorem dksX0_hours_2 : cX0_hours.data.toList.drop 45 = dktX0_hours_2 := dk_seg dksX0_hours_1 23 rfl rfl
theorem dX0_hours_0 : decode cX0_hours 0 = .ok (.iload_n 1, 1) := dk_27 (dk_at dksX0_hours_0 0 rfl rfl)
theorem dX0_hours_1 : decode cX0_hours 1 = .ok (.iconst 1, 1) := dk_4 (dk_at dksX0_hours_0 1 rfl rfl)
theorem dX0_hours_2 : decode cX0_hours 2 = .ok (.bipush 60, 2) := dk_16 60 (dk_at dksX0_hours_0 2 rfl rfl)
theorem dX0_hours_4 : decode cX0_hours 4 = .ok (.invokestatic 237, 3) := dk_184 0 237 (dk_at dksX0_hours_0 4 rfl rfl)
theorem dX0_hours_7 : decode cX0_hours 7 = .ok (.ifCond .eq 18, 3) := dk_153 0 18 (dk_at dksX0_hours_0 7 rfl rfl)
theorem dX0_hours_10 : decode cX0_hours 10 = .ok (.aload_n 0, 1) := dk_42 (dk_at dksX0_hours_0 10 rfl rfl)
theorem dX0_hours_11 : decode cX0_hours 11 = .ok (.getfield 164, 3) := dk_180 0 164 (dk_at dksX0_hours_0 11 rfl rfl)
theorem dX0_hours_14 : decode cX0_hours 14 = .ok (.getfield 448, 3) := dk_180 1 192 (dk_at dksX0_hours_0 14 rfl rfl)
theorem dX0_hours_17 : decode cX0_hours 17 = .ok (.iload_n 1, 1) := dk_27 (dk_at dksX0_hours_0 17 rfl rfl)
theorem dX0_hours_18 : decode cX0_hours 18 = .ok (.iadd, 1) := dk_96 (dk_at dksX0_hours_0 18 rfl rfl)
theorem dX0_hours_19 : decode cX0_hours 19 = .ok (.sipush 9999, 3) := dk_17 39 15 (dk_at dksX0_hours_0 19 rfl rfl)
theorem dX0_hours_22 : decode cX0_hours 22 = .ok (.if_icmp .le 5, 3) := dk_164 0 5 (dk_at dksX0_hours_1 0 rfl rfl)
theorem dX0_hours_25 : decode cX0_hours 25 = .ok (.iconst (-1), 1) := dk_2 (dk_at dksX0_hours_1 3 rfl rfl)
theorem dX0_hours_26 : decode cX0_hours 26 = .ok (.ireturn, 1) := dk_172 (dk_at dksX0_hours_1 4 rfl rfl)
theorem dX0_hours_27 : decode cX0_hours 27 = .ok (.iconst 0, 1) := dk_3 (dk_at dksX0_hours_1 5 rfl rfl)
theorem dX0_hours_28 : decode cX0_hours 28 = .ok (.istore_n 2, 1) := dk_61 (dk_at dksX0_hours_1 6 rfl rfl)
theorem dX0_hours_29 : decode cX0_hours 29 = .ok (.iconst 0, 1) := dk_3 (dk_at dksX0_hours_1 7 rfl rfl)
theorem dX0_hours_30 : decode cX0_hours 30 = .ok (.istore_n 3, 1) := dk_62 (dk_at dksX0_hours_1 8 rfl rfl)
theorem dX0_hours_31 : decode cX0_hours 31 = .ok (.iload_n 3, 1) := dk_29 (dk_at dksX0_hours_1 9 rfl rfl)
theorem dX0_hours_32 : decode cX0_hours 32 = .ok (.iload_n 1, 1) := dk_27 (dk_at dksX0_hours_1 10 rfl rfl)
theorem dX0_hours_33 : decode cX0_hours 33 = .ok (.if_icmp .ge 23, 3) := dk_162 0 23 (dk_at dksX0_hours_1 11 rfl rfl)
theorem dX0_hours_36 : decode cX0_hours 36 = .ok (.aload_n 0, 1) := dk_42 (dk_at dksX0_hours_1 14 rfl rfl)
theorem dX0_hours_37 : decode cX0_hours 37 = .ok (.invokevirtual 493, 3) := dk_182 1 237 (dk_at dksX0_hours_1 15 rfl rfl)
theorem dX0_hours_40 : decode cX0_hours 40 = .ok (.iload_n 2, 1) := dk_28 (dk_at dksX0_hours_1 18 rfl rfl)
theorem dX0_hours_41 : decode cX0_hours 41 = .ok (.aload_n 0, 1) := dk_42 (dk_at dksX0_hours_1 19 rfl rfl)
theorem dX0_hours_42 : decode cX0_hours 42 = .ok (.getfield 164, 3) := dk_180 0 164 (dk_at dksX0_hours_1 20 rfl rfl)
theorem dX0_hours_45 : decode cX0_hours 45 = .ok (.invokevirtual 507, 3) := dk_182 1 251 (dk_at dksX0_hours_2 0 rfl rfl)
theorem dX0_hours_48 : decode cX0_hours 48 = .ok (.iadd, 1) := dk_96 (dk_at dksX0_hours_2 3 rfl rfl)
theorem dX0_hours_49 : decode cX0_hours 49 = .ok (.istore_n 2, 1) := dk_61 (dk_at dksX0_hours_2 4 rfl rfl)
theorem dX0_hours_50 : decode cX0_hours 50 = .ok (.iinc 3 1, 3) := dk_132 3 1 (dk_at dksX0_hours_2 5 rfl rfl)
theorem dX0_hours_53 : decode cX0_hours 53 = .ok (.goto (-22), 3) := dk_167 255 234 (dk_at dksX0_hours_2 8 rfl rfl)
theorem dX0_hours_56 : decode cX0_hours 56 = .ok (.iload_n 2, 1) := dk_28 (dk_at dksX0_hours_2 11 rfl rfl)
theorem dX0_hours_57 : decode cX0_hours 57 = .ok (.ireturn, 1) := dk_172 (dk_at dksX0_hours_2 12 rfl rfl)
abbrev cX0_notes : ByteArray := prog_1_method_38_code
def yX0_notes : MethodName := ⟨RX0, "notes", "(LToolUnion$Turn;)V"⟩
def dkwX0_notes_3 : List UInt8 := [79, 42, 180, 0, 164, 89, 180, 1, 189, 4, 96, 181, 1, 189, 177]
abbrev dktX0_notes_3 : List UInt8 := dkwX0_notes_3 ++ []
def dkwX0_notes_2 : List UInt8 := [79, 42, 180, 0, 174, 28, 5, 96, 43, 182, 1, 197, 79, 42, 180, 0, 174, 28, 6, 96, 43, 182, 1, 199]
abbrev dktX0_notes_2 : List UInt8 := dkwX0_notes_2 ++ dktX0_notes_3
def dkwX0_notes_1 : List UInt8 := [42, 180, 0, 174, 28, 42, 180, 0, 164, 180, 1, 192, 79, 42, 180, 0, 174, 28, 4, 96, 43, 182, 1, 195]
abbrev dktX0_notes_1 : List UInt8 := dkwX0_notes_1 ++ dktX0_notes_2
def dkwX0_notes_0 : List UInt8 := [42, 180, 0, 164, 180, 1, 189, 17, 0, 200, 160, 0, 4, 177, 7, 42, 180, 0, 164, 180, 1, 189, 104, 61]
abbrev dktX0_notes_0 : List UInt8 := dkwX0_notes_0 ++ dktX0_notes_1
theorem dksX0_notes_0 : cX0_notes.data.toList.drop 0 = dktX0_notes_0 := by decide +kernel
theorem dksX0_notes_1 : cX0_notes.data.toList.drop 24 = dktX0_notes_1 := dk_seg dksX0_notes_0 24 rfl rfl
theorem dksX0_notes_2 : cX0_notes.data.toList.drop 48 = dktX0_notes_2 := dk_seg dksX0_notes_1 24 rfl rfl
theorem dksX0_notes_3 : cX0_notes.data.toList.drop 72 = dktX0_notes_3 := dk_seg dksX0_notes_2 24 rfl rfl
theorem dX0_notes_0 : decode cX0_notes 0 = .ok (.aload_n 0, 1) := dk_42 (dk_at dksX0_notes_0 0 rfl rfl)
theorem dX0_notes_1 : decode cX0_notes 1 = .ok (.getfield 164, 3) := dk_180 0 164 (dk_at dksX0_notes_0 1 rfl rfl)
theorem dX0_notes_4 : decode cX0_notes 4 = .ok (.getfield 445, 3) := dk_180 1 189 (dk_at dksX0_notes_0 4 rfl rfl)
theorem dX0_notes_7 : decode cX0_notes 7 = .ok (.sipush 200, 3) := dk_17 0 200 (dk_at dksX0_notes_0 7 rfl rfl)
theorem dX0_notes_10 : decode cX0_notes 10 = .ok (.if_icmp .ne 4, 3) := dk_160 0 4 (dk_at dksX0_notes_0 10 rfl rfl)
theorem dX0_notes_13 : decode cX0_notes 13 = .ok (.return_, 1) := dk_177 (dk_at dksX0_notes_0 13 rfl rfl)
theorem dX0_notes_14 : decode cX0_notes 14 = .ok (.iconst 4, 1) := dk_7 (dk_at dksX0_notes_0 14 rfl rfl)
theorem dX0_notes_15 : decode cX0_notes 15 = .ok (.aload_n 0, 1) := dk_42 (dk_at dksX0_notes_0 15 rfl rfl)
theorem dX0_notes_16 : decode cX0_notes 16 = .ok (.getfield 164, 3) := dk_180 0 164 (dk_at dksX0_notes_0 16 rfl rfl)
theorem dX0_notes_19 : decode cX0_notes 19 = .ok (.getfield 445, 3) := dk_180 1 189 (dk_at dksX0_notes_0 19 rfl rfl)
theorem dX0_notes_22 : decode cX0_notes 22 = .ok (.imul, 1) := dk_104 (dk_at dksX0_notes_0 22 rfl rfl)
theorem dX0_notes_23 : decode cX0_notes 23 = .ok (.istore_n 2, 1) := dk_61 (dk_at dksX0_notes_0 23 rfl rfl)
theorem dX0_notes_24 : decode cX0_notes 24 = .ok (.aload_n 0, 1) := dk_42 (dk_at dksX0_notes_1 0 rfl rfl)
theorem dX0_notes_25 : decode cX0_notes 25 = .ok (.getfield 174, 3) := dk_180 0 174 (dk_at dksX0_notes_1 1 rfl rfl)
theorem dX0_notes_28 : decode cX0_notes 28 = .ok (.iload_n 2, 1) := dk_28 (dk_at dksX0_notes_1 4 rfl rfl)
theorem dX0_notes_29 : decode cX0_notes 29 = .ok (.aload_n 0, 1) := dk_42 (dk_at dksX0_notes_1 5 rfl rfl)
theorem dX0_notes_30 : decode cX0_notes 30 = .ok (.getfield 164, 3) := dk_180 0 164 (dk_at dksX0_notes_1 6 rfl rfl)
theorem dX0_notes_33 : decode cX0_notes 33 = .ok (.getfield 448, 3) := dk_180 1 192 (dk_at dksX0_notes_1 9 rfl rfl)
theorem dX0_notes_36 : decode cX0_notes 36 = .ok (.iastore, 1) := dk_79 (dk_at dksX0_notes_1 12 rfl rfl)
theorem dX0_notes_37 : decode cX0_notes 37 = .ok (.aload_n 0, 1) := dk_42 (dk_at dksX0_notes_1 13 rfl rfl)
theorem dX0_notes_38 : decode cX0_notes 38 = .ok (.getfield 174, 3) := dk_180 0 174 (dk_at dksX0_notes_1 14 rfl rfl)
theorem dX0_notes_41 : decode cX0_notes 41 = .ok (.iload_n 2, 1) := dk_28 (dk_at dksX0_notes_1 17 rfl rfl)
theorem dX0_notes_42 : decode cX0_notes 42 = .ok (.iconst 1, 1) := dk_4 (dk_at dksX0_notes_1 18 rfl rfl)
theorem dX0_notes_43 : decode cX0_notes 43 = .ok (.iadd, 1) := dk_96 (dk_at dksX0_notes_1 19 rfl rfl)
theorem dX0_notes_44 : decode cX0_notes 44 = .ok (.aload_n 1, 1) := dk_43 (dk_at dksX0_notes_1 20 rfl rfl)
theorem dX0_notes_45 : decode cX0_notes 45 = .ok (.invokevirtual 451, 3) := dk_182 1 195 (dk_at dksX0_notes_1 21 rfl rfl)
theorem dX0_notes_48 : decode cX0_notes 48 = .ok (.iastore, 1) := dk_79 (dk_at dksX0_notes_2 0 rfl rfl)
theorem dX0_notes_49 : decode cX0_notes 49 = .ok (.aload_n 0, 1) := dk_42 (dk_at dksX0_notes_2 1 rfl rfl)
theorem dX0_notes_50 : decode cX0_notes 50 = .ok (.getfield 174, 3) := dk_180 0 174 (dk_at dksX0_notes_2 2 rfl rfl)
theorem dX0_notes_53 : decode cX0_notes 53 = .ok (.iload_n 2, 1) := dk_28 (dk_at dksX0_notes_2 5 rfl rfl)
theorem dX0_notes_54 : decode cX0_notes 54 = .ok (.iconst 2, 1) := dk_5 (dk_at dksX0_notes_2 6 rfl rfl)
theorem dX0_notes_55 : decode cX0_notes 55 = .ok (.iadd, 1) := dk_96 (dk_at dksX0_notes_2 7 rfl rfl)
theorem dX0_notes_56 : decode cX0_notes 56 = .ok (.aload_n 1, 1) := dk_43 (dk_at dksX0_notes_2 8 rfl rfl)
theorem dX0_notes_57 : decode cX0_notes 57 = .ok (.invokevirtual 453, 3) := dk_182 1 197 (dk_at dksX0_notes_2 9 rfl rfl)
theorem dX0_notes_60 : decode cX0_notes 60 = .ok (.iastore, 1) := dk_79 (dk_at dksX0_notes_2 12 rfl rfl)
theorem dX0_notes_61 : decode cX0_notes 61 = .ok (.aload_n 0, 1) := dk_42 (dk_at dksX0_notes_2 13 rfl rfl)
theorem dX0_notes_62 : decode cX0_notes 62 = .ok (.getfield 174, 3) := dk_180 0 174 (dk_at dksX0_notes_2 14 rfl rfl)
theorem dX0_notes_65 : decode cX0_notes 65 = .ok (.iload_n 2, 1) := dk_28 (dk_at dksX0_notes_2 17 rfl rfl)
theorem dX0_notes_66 : decode cX0_notes 66 = .ok (.iconst 3, 1) := dk_6 (dk_at dksX0_notes_2 18 rfl rfl)
theorem dX0_notes_67 : decode cX0_notes 67 = .ok (.iadd, 1) := dk_96 (dk_at dksX0_notes_2 19 rfl rfl)
theorem dX0_notes_68 : decode cX0_notes 68 = .ok (.aload_n 1, 1) := dk_43 (dk_at dksX0_notes_2 20 rfl rfl)
theorem dX0_notes_69 : decode cX0_notes 69 = .ok (.invokevirtual 455, 3) := dk_182 1 199 (dk_at dksX0_notes_2 21 rfl rfl)
theorem dX0_notes_72 : decode cX0_notes 72 = .ok (.iastore, 1) := dk_79 (dk_at dksX0_notes_3 0 rfl rfl)
theorem dX0_notes_73 : decode cX0_notes 73 = .ok (.aload_n 0, 1) := dk_42 (dk_at dksX0_notes_3 1 rfl rfl)
theorem dX0_notes_74 : decode cX0_notes 74 = .ok (.getfield 164, 3) := dk_180 0 164 (dk_at dksX0_notes_3 2 rfl rfl)
theorem dX0_notes_77 : decode cX0_notes 77 = .ok (.dup, 1) := dk_89 (dk_at dksX0_notes_3 5 rfl rfl)
theorem dX0_notes_78 : decode cX0_notes 78 = .ok (.getfield 445, 3) := dk_180 1 189 (dk_at dksX0_notes_3 6 rfl rfl)
theorem dX0_notes_81 : decode cX0_notes 81 = .ok (.iconst 1, 1) := dk_4 (dk_at dksX0_notes_3 9 rfl rfl)
theorem dX0_notes_82 : decode cX0_notes 82 = .ok (.iadd, 1) := dk_96 (dk_at dksX0_notes_3 10 rfl rfl)
theorem dX0_notes_83 : decode cX0_notes 83 = .ok (.putfield 445, 3) := dk_181 1 189 (dk_at dksX0_notes_3 11 rfl rfl)
theorem dX0_notes_86 : decode cX0_notes 86 = .ok (.return_, 1) := dk_177 (dk_at dksX0_notes_3 14 rfl rfl)
abbrev cX0_work_2 : ByteArray := prog_1_method_54_code
def yX0_work_2 : MethodName := ⟨RX0, "work", "(II)I"⟩
def dkwX0_work_2_7 : List UInt8 := [180, 2, 4, 172]
abbrev dktX0_work_2_7 : List UInt8 := dkwX0_work_2_7 ++ []
def dkwX0_work_2_6 : List UInt8 := [182, 2, 22, 153, 0, 7, 4, 167, 0, 4, 3, 172, 42, 180, 1, 254, 172, 42, 180, 2, 1, 172, 42]
abbrev dktX0_work_2_6 : List UInt8 := dkwX0_work_2_6 ++ dktX0_work_2_7
def dkwX0_work_2_5 : List UInt8 := [172, 42, 180, 0, 164, 27, 182, 2, 19, 153, 0, 7, 4, 167, 0, 4, 3, 172, 42, 180, 0, 164, 27]
abbrev dktX0_work_2_5 : List UInt8 := dkwX0_work_2_5 ++ dktX0_work_2_6
def dkwX0_work_2_4 : List UInt8 := [45, 182, 2, 10, 172, 45, 182, 2, 15, 172, 45, 182, 2, 17, 172, 42, 180, 0, 164, 180, 1, 149, 27, 46]
abbrev dktX0_work_2_4 : List UInt8 := dkwX0_work_2_4 ++ dktX0_work_2_5
def dkwX0_work_2_3 : List UInt8 := [170, 0, 0, 0, 0, 0, 116, 0, 0, 0, 0, 0, 0, 0, 7, 0, 0, 0, 47, 0, 0, 0, 52, 0, 0, 0, 57, 0, 0, 0, 62, 0, 0, 0, 72, 0, 0, 0, 89, 0, 0, 0, 106, 0, 0, 0, 111]
abbrev dktX0_work_2_3 : List UInt8 := dkwX0_work_2_3 ++ dktX0_work_2_4
def dkwX0_work_2_2 : List UInt8 := [182, 2, 12, 28]
abbrev dktX0_work_2_2 : List UInt8 := dkwX0_work_2_2 ++ dktX0_work_2_3
def dkwX0_work_2_1 : List UInt8 := [154, 0, 6, 16, 254, 172, 42, 180, 0, 122, 27, 50, 78, 28, 8, 164, 0, 11, 42, 45, 182, 2, 10]
abbrev dktX0_work_2_1 : List UInt8 := dkwX0_work_2_1 ++ dktX0_work_2_2
def dkwX0_work_2_0 : List UInt8 := [27, 3, 42, 180, 0, 122, 190, 4, 100, 184, 0, 237, 153, 0, 13, 28, 3, 16, 8, 184, 0, 237]
abbrev dktX0_work_2_0 : List UInt8 := dkwX0_work_2_0 ++ dktX0_work_2_1
theorem dksX0_work_2_0 : cX0_work_2.data.toList.drop 0 = dktX0_work_2_0 := by decide +kernel
theorem dksX0_work_2_1 : cX0_work_2.data.toList.drop 22 = dktX0_work_2_1 := dk_seg dksX0_work_2_0 22 rfl rfl
theorem dksX0_work_2_2 : cX0_work_2.data.toList.drop 45 = dktX0_work_2_2 := dk_seg dksX0_work_2_1 23 rfl rfl
theorem dksX0_work_2_3 : cX0_work_2.data.toList.drop 49 = dktX0_work_2_3 := dk_seg dksX0_work_2_2 4 rfl rfl
theorem dksX0_work_2_4 : cX0_work_2.data.toList.drop 96 = dktX0_work_2_4 := dk_seg dksX0_work_2_3 47 rfl rfl
theorem dksX0_work_2_5 : cX0_work_2.data.toList.drop 120 = dktX0_work_2_5 := dk_seg dksX0_work_2_4 24 rfl rfl
theorem dksX0_work_2_6 : cX0_work_2.data.toList.drop 143 = dktX0_work_2_6 := dk_seg dksX0_work_2_5 23 rfl rfl
theorem dksX0_work_2_7 : cX0_work_2.data.toList.drop 166 = dktX0_work_2_7 := dk_seg dksX0_work_2_6 23 rfl rfl
theorem dX0_work_2_0 : decode cX0_work_2 0 = .ok (.iload_n 1, 1) := dk_27 (dk_at dksX0_work_2_0 0 rfl rfl)
theorem dX0_work_2_1 : decode cX0_work_2 1 = .ok (.iconst 0, 1) := dk_3 (dk_at dksX0_work_2_0 1 rfl rfl)
theorem dX0_work_2_2 : decode cX0_work_2 2 = .ok (.aload_n 0, 1) := dk_42 (dk_at dksX0_work_2_0 2 rfl rfl)
theorem dX0_work_2_3 : decode cX0_work_2 3 = .ok (.getfield 122, 3) := dk_180 0 122 (dk_at dksX0_work_2_0 3 rfl rfl)
theorem dX0_work_2_6 : decode cX0_work_2 6 = .ok (.arraylength, 1) := dk_190 (dk_at dksX0_work_2_0 6 rfl rfl)
theorem dX0_work_2_7 : decode cX0_work_2 7 = .ok (.iconst 1, 1) := dk_4 (dk_at dksX0_work_2_0 7 rfl rfl)
theorem dX0_work_2_8 : decode cX0_work_2 8 = .ok (.isub, 1) := dk_100 (dk_at dksX0_work_2_0 8 rfl rfl)
theorem dX0_work_2_9 : decode cX0_work_2 9 = .ok (.invokestatic 237, 3) := dk_184 0 237 (dk_at dksX0_work_2_0 9 rfl rfl)
theorem dX0_work_2_12 : decode cX0_work_2 12 = .ok (.ifCond .eq 13, 3) := dk_153 0 13 (dk_at dksX0_work_2_0 12 rfl rfl)
theorem dX0_work_2_15 : decode cX0_work_2 15 = .ok (.iload_n 2, 1) := dk_28 (dk_at dksX0_work_2_0 15 rfl rfl)
theorem dX0_work_2_16 : decode cX0_work_2 16 = .ok (.iconst 0, 1) := dk_3 (dk_at dksX0_work_2_0 16 rfl rfl)
theorem dX0_work_2_17 : decode cX0_work_2 17 = .ok (.bipush 8, 2) := dk_16 8 (dk_at dksX0_work_2_0 17 rfl rfl)
theorem dX0_work_2_19 : decode cX0_work_2 19 = .ok (.invokestatic 237, 3) := dk_184 0 237 (dk_at dksX0_work_2_0 19 rfl rfl)
theorem dX0_work_2_22 : decode cX0_work_2 22 = .ok (.ifCond .ne 6, 3) := dk_154 0 6 (dk_at dksX0_work_2_1 0 rfl rfl)
theorem dX0_work_2_25 : decode cX0_work_2 25 = .ok (.bipush (-2), 2) := dk_16 254 (dk_at dksX0_work_2_1 3 rfl rfl)
theorem dX0_work_2_27 : decode cX0_work_2 27 = .ok (.ireturn, 1) := dk_172 (dk_at dksX0_work_2_1 5 rfl rfl)
theorem dX0_work_2_28 : decode cX0_work_2 28 = .ok (.aload_n 0, 1) := dk_42 (dk_at dksX0_work_2_1 6 rfl rfl)
theorem dX0_work_2_29 : decode cX0_work_2 29 = .ok (.getfield 122, 3) := dk_180 0 122 (dk_at dksX0_work_2_1 7 rfl rfl)
theorem dX0_work_2_32 : decode cX0_work_2 32 = .ok (.iload_n 1, 1) := dk_27 (dk_at dksX0_work_2_1 10 rfl rfl)
theorem dX0_work_2_33 : decode cX0_work_2 33 = .ok (.aaload, 1) := dk_50 (dk_at dksX0_work_2_1 11 rfl rfl)
theorem dX0_work_2_34 : decode cX0_work_2 34 = .ok (.astore_n 3, 1) := dk_78 (dk_at dksX0_work_2_1 12 rfl rfl)
theorem dX0_work_2_35 : decode cX0_work_2 35 = .ok (.iload_n 2, 1) := dk_28 (dk_at dksX0_work_2_1 13 rfl rfl)
theorem dX0_work_2_36 : decode cX0_work_2 36 = .ok (.iconst 5, 1) := dk_8 (dk_at dksX0_work_2_1 14 rfl rfl)
theorem dX0_work_2_37 : decode cX0_work_2 37 = .ok (.if_icmp .le 11, 3) := dk_164 0 11 (dk_at dksX0_work_2_1 15 rfl rfl)
theorem dX0_work_2_40 : decode cX0_work_2 40 = .ok (.aload_n 0, 1) := dk_42 (dk_at dksX0_work_2_1 18 rfl rfl)
theorem dX0_work_2_41 : decode cX0_work_2 41 = .ok (.aload_n 3, 1) := dk_45 (dk_at dksX0_work_2_1 19 rfl rfl)
theorem dX0_work_2_42 : decode cX0_work_2 42 = .ok (.invokevirtual 522, 3) := dk_182 2 10 (dk_at dksX0_work_2_1 20 rfl rfl)
theorem dX0_work_2_45 : decode cX0_work_2 45 = .ok (.invokevirtual 524, 3) := dk_182 2 12 (dk_at dksX0_work_2_2 0 rfl rfl)
theorem dX0_work_2_48 : decode cX0_work_2 48 = .ok (.iload_n 2, 1) := dk_28 (dk_at dksX0_work_2_2 3 rfl rfl)
theorem dX0_work_2_49 : decode cX0_work_2 49 = .ok (.tableswitch 116 0 7 #[47, 52, 57, 62, 72, 89, 106, 111], 47) := by decide +kernel
theorem dX0_work_2_96 : decode cX0_work_2 96 = .ok (.aload_n 3, 1) := dk_45 (dk_at dksX0_work_2_4 0 rfl rfl)
theorem dX0_work_2_97 : decode cX0_work_2 97 = .ok (.invokevirtual 522, 3) := dk_182 2 10 (dk_at dksX0_work_2_4 1 rfl rfl)
theorem dX0_work_2_100 : decode cX0_work_2 100 = .ok (.ireturn, 1) := dk_172 (dk_at dksX0_work_2_4 4 rfl rfl)
theorem dX0_work_2_101 : decode cX0_work_2 101 = .ok (.aload_n 3, 1) := dk_45 (dk_at dksX0_work_2_4 5 rfl rfl)
theorem dX0_work_2_102 : decode cX0_work_2 102 = .ok (.invokevirtual 527, 3) := dk_182 2 15 (dk_at dksX0_work_2_4 6 rfl rfl)
theorem dX0_work_2_105 : decode cX0_work_2 105 = .ok (.ireturn, 1) := dk_172 (dk_at dksX0_work_2_4 9 rfl rfl)
theorem dX0_work_2_106 : decode cX0_work_2 106 = .ok (.aload_n 3, 1) := dk_45 (dk_at dksX0_work_2_4 10 rfl rfl)
theorem dX0_work_2_107 : decode cX0_work_2 107 = .ok (.invokevirtual 529, 3) := dk_182 2 17 (dk_at dksX0_work_2_4 11 rfl rfl)
theorem dX0_work_2_110 : decode cX0_work_2 110 = .ok (.ireturn, 1) := dk_172 (dk_at dksX0_work_2_4 14 rfl rfl)
theorem dX0_work_2_111 : decode cX0_work_2 111 = .ok (.aload_n 0, 1) := dk_42 (dk_at dksX0_work_2_4 15 rfl rfl)
theorem dX0_work_2_112 : decode cX0_work_2 112 = .ok (.getfield 164, 3) := dk_180 0 164 (dk_at dksX0_work_2_4 16 rfl rfl)
theorem dX0_work_2_115 : decode cX0_work_2 115 = .ok (.getfield 405, 3) := dk_180 1 149 (dk_at dksX0_work_2_4 19 rfl rfl)
theorem dX0_work_2_118 : decode cX0_work_2 118 = .ok (.iload_n 1, 1) := dk_27 (dk_at dksX0_work_2_4 22 rfl rfl)
theorem dX0_work_2_119 : decode cX0_work_2 119 = .ok (.iaload, 1) := dk_46 (dk_at dksX0_work_2_4 23 rfl rfl)
theorem dX0_work_2_120 : decode cX0_work_2 120 = .ok (.ireturn, 1) := dk_172 (dk_at dksX0_work_2_5 0 rfl rfl)
theorem dX0_work_2_121 : decode cX0_work_2 121 = .ok (.aload_n 0, 1) := dk_42 (dk_at dksX0_work_2_5 1 rfl rfl)
theorem dX0_work_2_122 : decode cX0_work_2 122 = .ok (.getfield 164, 3) := dk_180 0 164 (dk_at dksX0_work_2_5 2 rfl rfl)
theorem dX0_work_2_125 : decode cX0_work_2 125 = .ok (.iload_n 1, 1) := dk_27 (dk_at dksX0_work_2_5 5 rfl rfl)
theorem dX0_work_2_126 : decode cX0_work_2 126 = .ok (.invokevirtual 531, 3) := dk_182 2 19 (dk_at dksX0_work_2_5 6 rfl rfl)
theorem dX0_work_2_129 : decode cX0_work_2 129 = .ok (.ifCond .eq 7, 3) := dk_153 0 7 (dk_at dksX0_work_2_5 9 rfl rfl)
theorem dX0_work_2_132 : decode cX0_work_2 132 = .ok (.iconst 1, 1) := dk_4 (dk_at dksX0_work_2_5 12 rfl rfl)
theorem dX0_work_2_133 : decode cX0_work_2 133 = .ok (.goto 4, 3) := dk_167 0 4 (dk_at dksX0_work_2_5 13 rfl rfl)
theorem dX0_work_2_136 : decode cX0_work_2 136 = .ok (.iconst 0, 1) := dk_3 (dk_at dksX0_work_2_5 16 rfl rfl)
theorem dX0_work_2_137 : decode cX0_work_2 137 = .ok (.ireturn, 1) := dk_172 (dk_at dksX0_work_2_5 17 rfl rfl)
theorem dX0_work_2_138 : decode cX0_work_2 138 = .ok (.aload_n 0, 1) := dk_42 (dk_at dksX0_work_2_5 18 rfl rfl)
theorem dX0_work_2_139 : decode cX0_work_2 139 = .ok (.getfield 164, 3) := dk_180 0 164 (dk_at dksX0_work_2_5 19 rfl rfl)
theorem dX0_work_2_142 : decode cX0_work_2 142 = .ok (.iload_n 1, 1) := dk_27 (dk_at dksX0_work_2_5 22 rfl rfl)
theorem dX0_work_2_143 : decode cX0_work_2 143 = .ok (.invokevirtual 534, 3) := dk_182 2 22 (dk_at dksX0_work_2_6 0 rfl rfl)
theorem dX0_work_2_146 : decode cX0_work_2 146 = .ok (.ifCond .eq 7, 3) := dk_153 0 7 (dk_at dksX0_work_2_6 3 rfl rfl)
theorem dX0_work_2_149 : decode cX0_work_2 149 = .ok (.iconst 1, 1) := dk_4 (dk_at dksX0_work_2_6 6 rfl rfl)
theorem dX0_work_2_150 : decode cX0_work_2 150 = .ok (.goto 4, 3) := dk_167 0 4 (dk_at dksX0_work_2_6 7 rfl rfl)
theorem dX0_work_2_153 : decode cX0_work_2 153 = .ok (.iconst 0, 1) := dk_3 (dk_at dksX0_work_2_6 10 rfl rfl)
theorem dX0_work_2_154 : decode cX0_work_2 154 = .ok (.ireturn, 1) := dk_172 (dk_at dksX0_work_2_6 11 rfl rfl)
theorem dX0_work_2_155 : decode cX0_work_2 155 = .ok (.aload_n 0, 1) := dk_42 (dk_at dksX0_work_2_6 12 rfl rfl)
theorem dX0_work_2_156 : decode cX0_work_2 156 = .ok (.getfield 510, 3) := dk_180 1 254 (dk_at dksX0_work_2_6 13 rfl rfl)
theorem dX0_work_2_159 : decode cX0_work_2 159 = .ok (.ireturn, 1) := dk_172 (dk_at dksX0_work_2_6 16 rfl rfl)
theorem dX0_work_2_160 : decode cX0_work_2 160 = .ok (.aload_n 0, 1) := dk_42 (dk_at dksX0_work_2_6 17 rfl rfl)
theorem dX0_work_2_161 : decode cX0_work_2 161 = .ok (.getfield 513, 3) := dk_180 2 1 (dk_at dksX0_work_2_6 18 rfl rfl)
theorem dX0_work_2_164 : decode cX0_work_2 164 = .ok (.ireturn, 1) := dk_172 (dk_at dksX0_work_2_6 21 rfl rfl)
theorem dX0_work_2_165 : decode cX0_work_2 165 = .ok (.aload_n 0, 1) := dk_42 (dk_at dksX0_work_2_6 22 rfl rfl)
theorem dX0_work_2_166 : decode cX0_work_2 166 = .ok (.getfield 516, 3) := dk_180 2 4 (dk_at dksX0_work_2_7 0 rfl rfl)
theorem dX0_work_2_169 : decode cX0_work_2 169 = .ok (.ireturn, 1) := dk_172 (dk_at dksX0_work_2_7 3 rfl rfl)
abbrev cX0_findsHands : ByteArray := prog_1_method_53_code
def yX0_findsHands : MethodName := ⟨RX0, "findsHands", "(I)V"⟩
def dkwX0_findsHands_4 : List UInt8 := [132, 2, 1, 167, 255, 177, 177]
abbrev dktX0_findsHands_4 : List UInt8 := dkwX0_findsHands_4 ++ []
def dkwX0_findsHands_3 : List UInt8 := [181, 2, 1, 42, 29, 181, 2, 4, 42, 89, 180, 1, 254, 4, 96, 181, 1, 254, 132, 3, 1, 167, 255, 193]
abbrev dktX0_findsHands_3 : List UInt8 := dkwX0_findsHands_3 ++ dktX0_findsHands_4
def dkwX0_findsHands_2 : List UInt8 := [180, 0, 164, 28, 29, 182, 2, 7, 154, 0, 6, 167, 0, 30, 42, 180, 1, 254, 154, 0, 13, 42, 28]
abbrev dktX0_findsHands_2 : List UInt8 := dkwX0_findsHands_2 ++ dktX0_findsHands_3
def dkwX0_findsHands_1 : List UInt8 := [162, 0, 77, 3, 62, 29, 42, 180, 1, 140, 162, 0, 61, 42, 180, 0, 132, 28, 46, 27, 160, 0, 51, 42]
abbrev dktX0_findsHands_1 : List UInt8 := dkwX0_findsHands_1 ++ dktX0_findsHands_2
def dkwX0_findsHands_0 : List UInt8 := [42, 3, 181, 1, 254, 42, 2, 181, 2, 1, 42, 2, 181, 2, 4, 3, 61, 28, 42, 180, 1, 137]
abbrev dktX0_findsHands_0 : List UInt8 := dkwX0_findsHands_0 ++ dktX0_findsHands_1
theorem dksX0_findsHands_0 : cX0_findsHands.data.toList.drop 0 = dktX0_findsHands_0 := by decide +kernel
theorem dksX0_findsHands_1 : cX0_findsHands.data.toList.drop 22 = dktX0_findsHands_1 := dk_seg dksX0_findsHands_0 22 rfl rfl
theorem dksX0_findsHands_2 : cX0_findsHands.data.toList.drop 46 = dktX0_findsHands_2 := dk_seg dksX0_findsHands_1 24 rfl rfl
theorem dksX0_findsHands_3 : cX0_findsHands.data.toList.drop 69 = dktX0_findsHands_3 := dk_seg dksX0_findsHands_2 23 rfl rfl
theorem dksX0_findsHands_4 : cX0_findsHands.data.toList.drop 93 = dktX0_findsHands_4 := dk_seg dksX0_findsHands_3 24 rfl rfl
theorem dX0_findsHands_0 : decode cX0_findsHands 0 = .ok (.aload_n 0, 1) := dk_42 (dk_at dksX0_findsHands_0 0 rfl rfl)
theorem dX0_findsHands_1 : decode cX0_findsHands 1 = .ok (.iconst 0, 1) := dk_3 (dk_at dksX0_findsHands_0 1 rfl rfl)
theorem dX0_findsHands_2 : decode cX0_findsHands 2 = .ok (.putfield 510, 3) := dk_181 1 254 (dk_at dksX0_findsHands_0 2 rfl rfl)
theorem dX0_findsHands_5 : decode cX0_findsHands 5 = .ok (.aload_n 0, 1) := dk_42 (dk_at dksX0_findsHands_0 5 rfl rfl)
theorem dX0_findsHands_6 : decode cX0_findsHands 6 = .ok (.iconst (-1), 1) := dk_2 (dk_at dksX0_findsHands_0 6 rfl rfl)
theorem dX0_findsHands_7 : decode cX0_findsHands 7 = .ok (.putfield 513, 3) := dk_181 2 1 (dk_at dksX0_findsHands_0 7 rfl rfl)
theorem dX0_findsHands_10 : decode cX0_findsHands 10 = .ok (.aload_n 0, 1) := dk_42 (dk_at dksX0_findsHands_0 10 rfl rfl)
theorem dX0_findsHands_11 : decode cX0_findsHands 11 = .ok (.iconst (-1), 1) := dk_2 (dk_at dksX0_findsHands_0 11 rfl rfl)
theorem dX0_findsHands_12 : decode cX0_findsHands 12 = .ok (.putfield 516, 3) := dk_181 2 4 (dk_at dksX0_findsHands_0 12 rfl rfl)
theorem dX0_findsHands_15 : decode cX0_findsHands 15 = .ok (.iconst 0, 1) := dk_3 (dk_at dksX0_findsHands_0 15 rfl rfl)
theorem dX0_findsHands_16 : decode cX0_findsHands 16 = .ok (.istore_n 2, 1) := dk_61 (dk_at dksX0_findsHands_0 16 rfl rfl)
theorem dX0_findsHands_17 : decode cX0_findsHands 17 = .ok (.iload_n 2, 1) := dk_28 (dk_at dksX0_findsHands_0 17 rfl rfl)
theorem dX0_findsHands_18 : decode cX0_findsHands 18 = .ok (.aload_n 0, 1) := dk_42 (dk_at dksX0_findsHands_0 18 rfl rfl)
theorem dX0_findsHands_19 : decode cX0_findsHands 19 = .ok (.getfield 393, 3) := dk_180 1 137 (dk_at dksX0_findsHands_0 19 rfl rfl)
theorem dX0_findsHands_22 : decode cX0_findsHands 22 = .ok (.if_icmp .ge 77, 3) := dk_162 0 77 (dk_at dksX0_findsHands_1 0 rfl rfl)
theorem dX0_findsHands_25 : decode cX0_findsHands 25 = .ok (.iconst 0, 1) := dk_3 (dk_at dksX0_findsHands_1 3 rfl rfl)
theorem dX0_findsHands_26 : decode cX0_findsHands 26 = .ok (.istore_n 3, 1) := dk_62 (dk_at dksX0_findsHands_1 4 rfl rfl)
theorem dX0_findsHands_27 : decode cX0_findsHands 27 = .ok (.iload_n 3, 1) := dk_29 (dk_at dksX0_findsHands_1 5 rfl rfl)
theorem dX0_findsHands_28 : decode cX0_findsHands 28 = .ok (.aload_n 0, 1) := dk_42 (dk_at dksX0_findsHands_1 6 rfl rfl)
theorem dX0_findsHands_29 : decode cX0_findsHands 29 = .ok (.getfield 396, 3) := dk_180 1 140 (dk_at dksX0_findsHands_1 7 rfl rfl)
theorem dX0_findsHands_32 : decode cX0_findsHands 32 = .ok (.if_icmp .ge 61, 3) := dk_162 0 61 (dk_at dksX0_findsHands_1 10 rfl rfl)
theorem dX0_findsHands_35 : decode cX0_findsHands 35 = .ok (.aload_n 0, 1) := dk_42 (dk_at dksX0_findsHands_1 13 rfl rfl)
theorem dX0_findsHands_36 : decode cX0_findsHands 36 = .ok (.getfield 132, 3) := dk_180 0 132 (dk_at dksX0_findsHands_1 14 rfl rfl)
theorem dX0_findsHands_39 : decode cX0_findsHands 39 = .ok (.iload_n 2, 1) := dk_28 (dk_at dksX0_findsHands_1 17 rfl rfl)
theorem dX0_findsHands_40 : decode cX0_findsHands 40 = .ok (.iaload, 1) := dk_46 (dk_at dksX0_findsHands_1 18 rfl rfl)
theorem dX0_findsHands_41 : decode cX0_findsHands 41 = .ok (.iload_n 1, 1) := dk_27 (dk_at dksX0_findsHands_1 19 rfl rfl)
theorem dX0_findsHands_42 : decode cX0_findsHands 42 = .ok (.if_icmp .ne 51, 3) := dk_160 0 51 (dk_at dksX0_findsHands_1 20 rfl rfl)
theorem dX0_findsHands_45 : decode cX0_findsHands 45 = .ok (.aload_n 0, 1) := dk_42 (dk_at dksX0_findsHands_1 23 rfl rfl)
theorem dX0_findsHands_46 : decode cX0_findsHands 46 = .ok (.getfield 164, 3) := dk_180 0 164 (dk_at dksX0_findsHands_2 0 rfl rfl)
theorem dX0_findsHands_49 : decode cX0_findsHands 49 = .ok (.iload_n 2, 1) := dk_28 (dk_at dksX0_findsHands_2 3 rfl rfl)
theorem dX0_findsHands_50 : decode cX0_findsHands 50 = .ok (.iload_n 3, 1) := dk_29 (dk_at dksX0_findsHands_2 4 rfl rfl)
theorem dX0_findsHands_51 : decode cX0_findsHands 51 = .ok (.invokevirtual 519, 3) := dk_182 2 7 (dk_at dksX0_findsHands_2 5 rfl rfl)
theorem dX0_findsHands_54 : decode cX0_findsHands 54 = .ok (.ifCond .ne 6, 3) := dk_154 0 6 (dk_at dksX0_findsHands_2 8 rfl rfl)
theorem dX0_findsHands_57 : decode cX0_findsHands 57 = .ok (.goto 30, 3) := dk_167 0 30 (dk_at dksX0_findsHands_2 11 rfl rfl)
theorem dX0_findsHands_60 : decode cX0_findsHands 60 = .ok (.aload_n 0, 1) := dk_42 (dk_at dksX0_findsHands_2 14 rfl rfl)
theorem dX0_findsHands_61 : decode cX0_findsHands 61 = .ok (.getfield 510, 3) := dk_180 1 254 (dk_at dksX0_findsHands_2 15 rfl rfl)
theorem dX0_findsHands_64 : decode cX0_findsHands 64 = .ok (.ifCond .ne 13, 3) := dk_154 0 13 (dk_at dksX0_findsHands_2 18 rfl rfl)
theorem dX0_findsHands_67 : decode cX0_findsHands 67 = .ok (.aload_n 0, 1) := dk_42 (dk_at dksX0_findsHands_2 21 rfl rfl)
theorem dX0_findsHands_68 : decode cX0_findsHands 68 = .ok (.iload_n 2, 1) := dk_28 (dk_at dksX0_findsHands_2 22 rfl rfl)
theorem dX0_findsHands_69 : decode cX0_findsHands 69 = .ok (.putfield 513, 3) := dk_181 2 1 (dk_at dksX0_findsHands_3 0 rfl rfl)
theorem dX0_findsHands_72 : decode cX0_findsHands 72 = .ok (.aload_n 0, 1) := dk_42 (dk_at dksX0_findsHands_3 3 rfl rfl)
theorem dX0_findsHands_73 : decode cX0_findsHands 73 = .ok (.iload_n 3, 1) := dk_29 (dk_at dksX0_findsHands_3 4 rfl rfl)
theorem dX0_findsHands_74 : decode cX0_findsHands 74 = .ok (.putfield 516, 3) := dk_181 2 4 (dk_at dksX0_findsHands_3 5 rfl rfl)
theorem dX0_findsHands_77 : decode cX0_findsHands 77 = .ok (.aload_n 0, 1) := dk_42 (dk_at dksX0_findsHands_3 8 rfl rfl)
theorem dX0_findsHands_78 : decode cX0_findsHands 78 = .ok (.dup, 1) := dk_89 (dk_at dksX0_findsHands_3 9 rfl rfl)
theorem dX0_findsHands_79 : decode cX0_findsHands 79 = .ok (.getfield 510, 3) := dk_180 1 254 (dk_at dksX0_findsHands_3 10 rfl rfl)
theorem dX0_findsHands_82 : decode cX0_findsHands 82 = .ok (.iconst 1, 1) := dk_4 (dk_at dksX0_findsHands_3 13 rfl rfl)
theorem dX0_findsHands_83 : decode cX0_findsHands 83 = .ok (.iadd, 1) := dk_96 (dk_at dksX0_findsHands_3 14 rfl rfl)
theorem dX0_findsHands_84 : decode cX0_findsHands 84 = .ok (.putfield 510, 3) := dk_181 1 254 (dk_at dksX0_findsHands_3 15 rfl rfl)
theorem dX0_findsHands_87 : decode cX0_findsHands 87 = .ok (.iinc 3 1, 3) := dk_132 3 1 (dk_at dksX0_findsHands_3 18 rfl rfl)
theorem dX0_findsHands_90 : decode cX0_findsHands 90 = .ok (.goto (-63), 3) := dk_167 255 193 (dk_at dksX0_findsHands_3 21 rfl rfl)
theorem dX0_findsHands_93 : decode cX0_findsHands 93 = .ok (.iinc 2 1, 3) := dk_132 2 1 (dk_at dksX0_findsHands_4 0 rfl rfl)
theorem dX0_findsHands_96 : decode cX0_findsHands 96 = .ok (.goto (-79), 3) := dk_167 255 177 (dk_at dksX0_findsHands_4 3 rfl rfl)
theorem dX0_findsHands_99 : decode cX0_findsHands 99 = .ok (.return_, 1) := dk_177 (dk_at dksX0_findsHands_4 6 rfl rfl)
abbrev cX0_serves : ByteArray := prog_1_method_55_code
def yX0_serves : MethodName := ⟨RX0, "serves", "(II)I"⟩
def dkwX0_serves_1 : List UInt8 := [27, 28, 182, 2, 7, 153, 0, 7, 4, 167, 0, 4, 3, 172]
abbrev dktX0_serves_1 : List UInt8 := dkwX0_serves_1 ++ []
def dkwX0_serves_0 : List UInt8 := [42, 27, 182, 1, 228, 153, 0, 11, 42, 28, 182, 1, 231, 154, 0, 7, 2, 167, 0, 20, 42, 180, 0, 164]
abbrev dktX0_serves_0 : List UInt8 := dkwX0_serves_0 ++ dktX0_serves_1
theorem dksX0_serves_0 : cX0_serves.data.toList.drop 0 = dktX0_serves_0 := by decide +kernel
theorem dksX0_serves_1 : cX0_serves.data.toList.drop 24 = dktX0_serves_1 := dk_seg dksX0_serves_0 24 rfl rfl
theorem dX0_serves_0 : decode cX0_serves 0 = .ok (.aload_n 0, 1) := dk_42 (dk_at dksX0_serves_0 0 rfl rfl)
theorem dX0_serves_1 : decode cX0_serves 1 = .ok (.iload_n 1, 1) := dk_27 (dk_at dksX0_serves_0 1 rfl rfl)
theorem dX0_serves_2 : decode cX0_serves 2 = .ok (.invokevirtual 484, 3) := dk_182 1 228 (dk_at dksX0_serves_0 2 rfl rfl)
theorem dX0_serves_5 : decode cX0_serves 5 = .ok (.ifCond .eq 11, 3) := dk_153 0 11 (dk_at dksX0_serves_0 5 rfl rfl)
theorem dX0_serves_8 : decode cX0_serves 8 = .ok (.aload_n 0, 1) := dk_42 (dk_at dksX0_serves_0 8 rfl rfl)
theorem dX0_serves_9 : decode cX0_serves 9 = .ok (.iload_n 2, 1) := dk_28 (dk_at dksX0_serves_0 9 rfl rfl)
theorem dX0_serves_10 : decode cX0_serves 10 = .ok (.invokevirtual 487, 3) := dk_182 1 231 (dk_at dksX0_serves_0 10 rfl rfl)
theorem dX0_serves_13 : decode cX0_serves 13 = .ok (.ifCond .ne 7, 3) := dk_154 0 7 (dk_at dksX0_serves_0 13 rfl rfl)
theorem dX0_serves_16 : decode cX0_serves 16 = .ok (.iconst (-1), 1) := dk_2 (dk_at dksX0_serves_0 16 rfl rfl)
theorem dX0_serves_17 : decode cX0_serves 17 = .ok (.goto 20, 3) := dk_167 0 20 (dk_at dksX0_serves_0 17 rfl rfl)
theorem dX0_serves_20 : decode cX0_serves 20 = .ok (.aload_n 0, 1) := dk_42 (dk_at dksX0_serves_0 20 rfl rfl)
theorem dX0_serves_21 : decode cX0_serves 21 = .ok (.getfield 164, 3) := dk_180 0 164 (dk_at dksX0_serves_0 21 rfl rfl)
theorem dX0_serves_24 : decode cX0_serves 24 = .ok (.iload_n 1, 1) := dk_27 (dk_at dksX0_serves_1 0 rfl rfl)
theorem dX0_serves_25 : decode cX0_serves 25 = .ok (.iload_n 2, 1) := dk_28 (dk_at dksX0_serves_1 1 rfl rfl)
theorem dX0_serves_26 : decode cX0_serves 26 = .ok (.invokevirtual 519, 3) := dk_182 2 7 (dk_at dksX0_serves_1 2 rfl rfl)
theorem dX0_serves_29 : decode cX0_serves 29 = .ok (.ifCond .eq 7, 3) := dk_153 0 7 (dk_at dksX0_serves_1 5 rfl rfl)
theorem dX0_serves_32 : decode cX0_serves 32 = .ok (.iconst 1, 1) := dk_4 (dk_at dksX0_serves_1 8 rfl rfl)
theorem dX0_serves_33 : decode cX0_serves 33 = .ok (.goto 4, 3) := dk_167 0 4 (dk_at dksX0_serves_1 9 rfl rfl)
theorem dX0_serves_36 : decode cX0_serves 36 = .ok (.iconst 0, 1) := dk_3 (dk_at dksX0_serves_1 12 rfl rfl)
theorem dX0_serves_37 : decode cX0_serves 37 = .ok (.ireturn, 1) := dk_172 (dk_at dksX0_serves_1 13 rfl rfl)
abbrev cX0_tells : ByteArray := prog_1_method_56_code
def yX0_tells : MethodName := ⟨RX0, "tells", "(III)I"⟩
def dkwX0_tells_1 : List UInt8 := [153, 0, 16, 42, 180, 0, 164, 27, 28, 29, 182, 2, 25, 167, 0, 6, 17, 252, 24, 172]
abbrev dktX0_tells_1 : List UInt8 := dkwX0_tells_1 ++ []
def dkwX0_tells_0 : List UInt8 := [42, 27, 182, 1, 228, 153, 0, 33, 42, 28, 182, 1, 231, 153, 0, 25, 29, 3, 5, 184, 0, 237]
abbrev dktX0_tells_0 : List UInt8 := dkwX0_tells_0 ++ dktX0_tells_1
theorem dksX0_tells_0 : cX0_tells.data.toList.drop 0 = dktX0_tells_0 := by decide +kernel
theorem dksX0_tells_1 : cX0_tells.data.toList.drop 22 = dktX0_tells_1 := dk_seg dksX0_tells_0 22 rfl rfl
theorem dX0_tells_0 : decode cX0_tells 0 = .ok (.aload_n 0, 1) := dk_42 (dk_at dksX0_tells_0 0 rfl rfl)
theorem dX0_tells_1 : decode cX0_tells 1 = .ok (.iload_n 1, 1) := dk_27 (dk_at dksX0_tells_0 1 rfl rfl)
theorem dX0_tells_2 : decode cX0_tells 2 = .ok (.invokevirtual 484, 3) := dk_182 1 228 (dk_at dksX0_tells_0 2 rfl rfl)
theorem dX0_tells_5 : decode cX0_tells 5 = .ok (.ifCond .eq 33, 3) := dk_153 0 33 (dk_at dksX0_tells_0 5 rfl rfl)
theorem dX0_tells_8 : decode cX0_tells 8 = .ok (.aload_n 0, 1) := dk_42 (dk_at dksX0_tells_0 8 rfl rfl)
theorem dX0_tells_9 : decode cX0_tells 9 = .ok (.iload_n 2, 1) := dk_28 (dk_at dksX0_tells_0 9 rfl rfl)
theorem dX0_tells_10 : decode cX0_tells 10 = .ok (.invokevirtual 487, 3) := dk_182 1 231 (dk_at dksX0_tells_0 10 rfl rfl)
theorem dX0_tells_13 : decode cX0_tells 13 = .ok (.ifCond .eq 25, 3) := dk_153 0 25 (dk_at dksX0_tells_0 13 rfl rfl)
theorem dX0_tells_16 : decode cX0_tells 16 = .ok (.iload_n 3, 1) := dk_29 (dk_at dksX0_tells_0 16 rfl rfl)
theorem dX0_tells_17 : decode cX0_tells 17 = .ok (.iconst 0, 1) := dk_3 (dk_at dksX0_tells_0 17 rfl rfl)
theorem dX0_tells_18 : decode cX0_tells 18 = .ok (.iconst 2, 1) := dk_5 (dk_at dksX0_tells_0 18 rfl rfl)
theorem dX0_tells_19 : decode cX0_tells 19 = .ok (.invokestatic 237, 3) := dk_184 0 237 (dk_at dksX0_tells_0 19 rfl rfl)
theorem dX0_tells_22 : decode cX0_tells 22 = .ok (.ifCond .eq 16, 3) := dk_153 0 16 (dk_at dksX0_tells_1 0 rfl rfl)
theorem dX0_tells_25 : decode cX0_tells 25 = .ok (.aload_n 0, 1) := dk_42 (dk_at dksX0_tells_1 3 rfl rfl)
theorem dX0_tells_26 : decode cX0_tells 26 = .ok (.getfield 164, 3) := dk_180 0 164 (dk_at dksX0_tells_1 4 rfl rfl)
theorem dX0_tells_29 : decode cX0_tells 29 = .ok (.iload_n 1, 1) := dk_27 (dk_at dksX0_tells_1 7 rfl rfl)
theorem dX0_tells_30 : decode cX0_tells 30 = .ok (.iload_n 2, 1) := dk_28 (dk_at dksX0_tells_1 8 rfl rfl)
theorem dX0_tells_31 : decode cX0_tells 31 = .ok (.iload_n 3, 1) := dk_29 (dk_at dksX0_tells_1 9 rfl rfl)
theorem dX0_tells_32 : decode cX0_tells 32 = .ok (.invokevirtual 537, 3) := dk_182 2 25 (dk_at dksX0_tells_1 10 rfl rfl)
theorem dX0_tells_35 : decode cX0_tells 35 = .ok (.goto 6, 3) := dk_167 0 6 (dk_at dksX0_tells_1 13 rfl rfl)
theorem dX0_tells_38 : decode cX0_tells 38 = .ok (.sipush (-1000), 3) := dk_17 252 24 (dk_at dksX0_tells_1 16 rfl rfl)
theorem dX0_tells_41 : decode cX0_tells 41 = .ok (.ireturn, 1) := dk_172 (dk_at dksX0_tells_1 19 rfl rfl)
abbrev cX0_book : ByteArray := prog_1_method_57_code
def yX0_book : MethodName := ⟨RX0, "book", "(II)I"⟩
def dkwX0_book_1 : List UInt8 := [153, 0, 16, 42, 180, 0, 174, 7, 27, 104, 28, 96, 46, 167, 0, 4, 2, 172]
abbrev dktX0_book_1 : List UInt8 := dkwX0_book_1 ++ []
def dkwX0_book_0 : List UInt8 := [27, 3, 42, 180, 0, 164, 180, 1, 189, 4, 100, 184, 0, 237, 153, 0, 25, 28, 3, 6, 184, 0, 237]
abbrev dktX0_book_0 : List UInt8 := dkwX0_book_0 ++ dktX0_book_1
theorem dksX0_book_0 : cX0_book.data.toList.drop 0 = dktX0_book_0 := by decide +kernel
theorem dksX0_book_1 : cX0_book.data.toList.drop 23 = dktX0_book_1 := dk_seg dksX0_book_0 23 rfl rfl
theorem dX0_book_0 : decode cX0_book 0 = .ok (.iload_n 1, 1) := dk_27 (dk_at dksX0_book_0 0 rfl rfl)
theorem dX0_book_1 : decode cX0_book 1 = .ok (.iconst 0, 1) := dk_3 (dk_at dksX0_book_0 1 rfl rfl)
theorem dX0_book_2 : decode cX0_book 2 = .ok (.aload_n 0, 1) := dk_42 (dk_at dksX0_book_0 2 rfl rfl)
theorem dX0_book_3 : decode cX0_book 3 = .ok (.getfield 164, 3) := dk_180 0 164 (dk_at dksX0_book_0 3 rfl rfl)
theorem dX0_book_6 : decode cX0_book 6 = .ok (.getfield 445, 3) := dk_180 1 189 (dk_at dksX0_book_0 6 rfl rfl)
theorem dX0_book_9 : decode cX0_book 9 = .ok (.iconst 1, 1) := dk_4 (dk_at dksX0_book_0 9 rfl rfl)
theorem dX0_book_10 : decode cX0_book 10 = .ok (.isub, 1) := dk_100 (dk_at dksX0_book_0 10 rfl rfl)
theorem dX0_book_11 : decode cX0_book 11 = .ok (.invokestatic 237, 3) := dk_184 0 237 (dk_at dksX0_book_0 11 rfl rfl)
theorem dX0_book_14 : decode cX0_book 14 = .ok (.ifCond .eq 25, 3) := dk_153 0 25 (dk_at dksX0_book_0 14 rfl rfl)
theorem dX0_book_17 : decode cX0_book 17 = .ok (.iload_n 2, 1) := dk_28 (dk_at dksX0_book_0 17 rfl rfl)
theorem dX0_book_18 : decode cX0_book 18 = .ok (.iconst 0, 1) := dk_3 (dk_at dksX0_book_0 18 rfl rfl)
theorem dX0_book_19 : decode cX0_book 19 = .ok (.iconst 3, 1) := dk_6 (dk_at dksX0_book_0 19 rfl rfl)
theorem dX0_book_20 : decode cX0_book 20 = .ok (.invokestatic 237, 3) := dk_184 0 237 (dk_at dksX0_book_0 20 rfl rfl)
theorem dX0_book_23 : decode cX0_book 23 = .ok (.ifCond .eq 16, 3) := dk_153 0 16 (dk_at dksX0_book_1 0 rfl rfl)
theorem dX0_book_26 : decode cX0_book 26 = .ok (.aload_n 0, 1) := dk_42 (dk_at dksX0_book_1 3 rfl rfl)
theorem dX0_book_27 : decode cX0_book 27 = .ok (.getfield 174, 3) := dk_180 0 174 (dk_at dksX0_book_1 4 rfl rfl)
theorem dX0_book_30 : decode cX0_book 30 = .ok (.iconst 4, 1) := dk_7 (dk_at dksX0_book_1 7 rfl rfl)
theorem dX0_book_31 : decode cX0_book 31 = .ok (.iload_n 1, 1) := dk_27 (dk_at dksX0_book_1 8 rfl rfl)
theorem dX0_book_32 : decode cX0_book 32 = .ok (.imul, 1) := dk_104 (dk_at dksX0_book_1 9 rfl rfl)
theorem dX0_book_33 : decode cX0_book 33 = .ok (.iload_n 2, 1) := dk_28 (dk_at dksX0_book_1 10 rfl rfl)
theorem dX0_book_34 : decode cX0_book 34 = .ok (.iadd, 1) := dk_96 (dk_at dksX0_book_1 11 rfl rfl)
theorem dX0_book_35 : decode cX0_book 35 = .ok (.iaload, 1) := dk_46 (dk_at dksX0_book_1 12 rfl rfl)
theorem dX0_book_36 : decode cX0_book 36 = .ok (.goto 4, 3) := dk_167 0 4 (dk_at dksX0_book_1 13 rfl rfl)
theorem dX0_book_39 : decode cX0_book 39 = .ok (.iconst (-1), 1) := dk_2 (dk_at dksX0_book_1 16 rfl rfl)
theorem dX0_book_40 : decode cX0_book 40 = .ok (.ireturn, 1) := dk_172 (dk_at dksX0_book_1 17 rfl rfl)
abbrev cX0_soonest : ByteArray := prog_1_method_70_code
def yX0_soonest : MethodName := ⟨RX0, "soonest", "(I)I"⟩
def dkwX0_soonest_2 : List UInt8 := [167, 0, 8, 42, 28, 182, 2, 72, 172]
abbrev dktX0_soonest_2 : List UInt8 := dkwX0_soonest_2 ++ []
def dkwX0_soonest_1 : List UInt8 := [182, 2, 63, 51, 61, 28, 2, 159, 0, 7, 27, 154, 0, 7, 28, 167, 0, 16, 28, 154, 0, 7, 3]
abbrev dktX0_soonest_1 : List UInt8 := dkwX0_soonest_1 ++ dktX0_soonest_2
def dkwX0_soonest_0 : List UInt8 := [27, 3, 4, 184, 0, 237, 154, 0, 5, 2, 172, 42, 182, 2, 66, 42, 182, 2, 69, 42, 180, 0, 189, 42]
abbrev dktX0_soonest_0 : List UInt8 := dkwX0_soonest_0 ++ dktX0_soonest_1
theorem dksX0_soonest_0 : cX0_soonest.data.toList.drop 0 = dktX0_soonest_0 := by decide +kernel
theorem dksX0_soonest_1 : cX0_soonest.data.toList.drop 24 = dktX0_soonest_1 := dk_seg dksX0_soonest_0 24 rfl rfl
theorem dksX0_soonest_2 : cX0_soonest.data.toList.drop 47 = dktX0_soonest_2 := dk_seg dksX0_soonest_1 23 rfl rfl
theorem dX0_soonest_0 : decode cX0_soonest 0 = .ok (.iload_n 1, 1) := dk_27 (dk_at dksX0_soonest_0 0 rfl rfl)
theorem dX0_soonest_1 : decode cX0_soonest 1 = .ok (.iconst 0, 1) := dk_3 (dk_at dksX0_soonest_0 1 rfl rfl)
theorem dX0_soonest_2 : decode cX0_soonest 2 = .ok (.iconst 1, 1) := dk_4 (dk_at dksX0_soonest_0 2 rfl rfl)
theorem dX0_soonest_3 : decode cX0_soonest 3 = .ok (.invokestatic 237, 3) := dk_184 0 237 (dk_at dksX0_soonest_0 3 rfl rfl)
theorem dX0_soonest_6 : decode cX0_soonest 6 = .ok (.ifCond .ne 5, 3) := dk_154 0 5 (dk_at dksX0_soonest_0 6 rfl rfl)
theorem dX0_soonest_9 : decode cX0_soonest 9 = .ok (.iconst (-1), 1) := dk_2 (dk_at dksX0_soonest_0 9 rfl rfl)
theorem dX0_soonest_10 : decode cX0_soonest 10 = .ok (.ireturn, 1) := dk_172 (dk_at dksX0_soonest_0 10 rfl rfl)
theorem dX0_soonest_11 : decode cX0_soonest 11 = .ok (.aload_n 0, 1) := dk_42 (dk_at dksX0_soonest_0 11 rfl rfl)
theorem dX0_soonest_12 : decode cX0_soonest 12 = .ok (.invokevirtual 578, 3) := dk_182 2 66 (dk_at dksX0_soonest_0 12 rfl rfl)
theorem dX0_soonest_15 : decode cX0_soonest 15 = .ok (.aload_n 0, 1) := dk_42 (dk_at dksX0_soonest_0 15 rfl rfl)
theorem dX0_soonest_16 : decode cX0_soonest 16 = .ok (.invokevirtual 581, 3) := dk_182 2 69 (dk_at dksX0_soonest_0 16 rfl rfl)
theorem dX0_soonest_19 : decode cX0_soonest 19 = .ok (.aload_n 0, 1) := dk_42 (dk_at dksX0_soonest_0 19 rfl rfl)
theorem dX0_soonest_20 : decode cX0_soonest 20 = .ok (.getfield 189, 3) := dk_180 0 189 (dk_at dksX0_soonest_0 20 rfl rfl)
theorem dX0_soonest_23 : decode cX0_soonest 23 = .ok (.aload_n 0, 1) := dk_42 (dk_at dksX0_soonest_0 23 rfl rfl)
theorem dX0_soonest_24 : decode cX0_soonest 24 = .ok (.invokevirtual 575, 3) := dk_182 2 63 (dk_at dksX0_soonest_1 0 rfl rfl)
theorem dX0_soonest_27 : decode cX0_soonest 27 = .ok (.baload, 1) := dk_51 (dk_at dksX0_soonest_1 3 rfl rfl)
theorem dX0_soonest_28 : decode cX0_soonest 28 = .ok (.istore_n 2, 1) := dk_61 (dk_at dksX0_soonest_1 4 rfl rfl)
theorem dX0_soonest_29 : decode cX0_soonest 29 = .ok (.iload_n 2, 1) := dk_28 (dk_at dksX0_soonest_1 5 rfl rfl)
theorem dX0_soonest_30 : decode cX0_soonest 30 = .ok (.iconst (-1), 1) := dk_2 (dk_at dksX0_soonest_1 6 rfl rfl)
theorem dX0_soonest_31 : decode cX0_soonest 31 = .ok (.if_icmp .eq 7, 3) := dk_159 0 7 (dk_at dksX0_soonest_1 7 rfl rfl)
theorem dX0_soonest_34 : decode cX0_soonest 34 = .ok (.iload_n 1, 1) := dk_27 (dk_at dksX0_soonest_1 10 rfl rfl)
theorem dX0_soonest_35 : decode cX0_soonest 35 = .ok (.ifCond .ne 7, 3) := dk_154 0 7 (dk_at dksX0_soonest_1 11 rfl rfl)
theorem dX0_soonest_38 : decode cX0_soonest 38 = .ok (.iload_n 2, 1) := dk_28 (dk_at dksX0_soonest_1 14 rfl rfl)
theorem dX0_soonest_39 : decode cX0_soonest 39 = .ok (.goto 16, 3) := dk_167 0 16 (dk_at dksX0_soonest_1 15 rfl rfl)
theorem dX0_soonest_42 : decode cX0_soonest 42 = .ok (.iload_n 2, 1) := dk_28 (dk_at dksX0_soonest_1 18 rfl rfl)
theorem dX0_soonest_43 : decode cX0_soonest 43 = .ok (.ifCond .ne 7, 3) := dk_154 0 7 (dk_at dksX0_soonest_1 19 rfl rfl)
theorem dX0_soonest_46 : decode cX0_soonest 46 = .ok (.iconst 0, 1) := dk_3 (dk_at dksX0_soonest_1 22 rfl rfl)
theorem dX0_soonest_47 : decode cX0_soonest 47 = .ok (.goto 8, 3) := dk_167 0 8 (dk_at dksX0_soonest_2 0 rfl rfl)
theorem dX0_soonest_50 : decode cX0_soonest 50 = .ok (.aload_n 0, 1) := dk_42 (dk_at dksX0_soonest_2 3 rfl rfl)
theorem dX0_soonest_51 : decode cX0_soonest 51 = .ok (.iload_n 2, 1) := dk_28 (dk_at dksX0_soonest_2 4 rfl rfl)
theorem dX0_soonest_52 : decode cX0_soonest 52 = .ok (.invokevirtual 584, 3) := dk_182 2 72 (dk_at dksX0_soonest_2 5 rfl rfl)
theorem dX0_soonest_55 : decode cX0_soonest 55 = .ok (.ireturn, 1) := dk_172 (dk_at dksX0_soonest_2 8 rfl rfl)
abbrev cX0_findsTogether : ByteArray := prog_1_method_59_code
def yX0_findsTogether : MethodName := ⟨RX0, "findsTogether", "()V"⟩
def dkwX0_findsTogether_4 : List UInt8 := [153, 0, 7, 4, 167, 0, 4, 3, 84, 132, 1, 1, 167, 255, 203, 177]
abbrev dktX0_findsTogether_4 : List UInt8 := dkwX0_findsTogether_4 ++ []
def dkwX0_findsTogether_3 : List UInt8 := [184, 2, 36, 42, 180, 1, 137, 42, 180, 1, 140, 184, 0, 1, 163, 0, 17, 42, 27, 3, 3, 182, 2, 33]
abbrev dktX0_findsTogether_3 : List UInt8 := dkwX0_findsTogether_3 ++ dktX0_findsTogether_4
def dkwX0_findsTogether_2 : List UInt8 := [167, 255, 210, 3, 60, 27, 4, 42, 180, 0, 122, 190, 120, 162, 0, 48, 42, 180, 0, 185, 27, 27]
abbrev dktX0_findsTogether_2 : List UInt8 := dkwX0_findsTogether_2 ++ dktX0_findsTogether_3
def dkwX0_findsTogether_1 : List UInt8 := [7, 27, 104, 28, 96, 42, 180, 0, 164, 27, 28, 182, 2, 7, 84, 132, 2, 1, 167, 255, 226, 132, 1, 1]
abbrev dktX0_findsTogether_1 : List UInt8 := dkwX0_findsTogether_1 ++ dktX0_findsTogether_2
def dkwX0_findsTogether_0 : List UInt8 := [3, 60, 27, 42, 180, 1, 137, 162, 0, 44, 3, 61, 28, 42, 180, 1, 140, 162, 0, 28, 42, 180, 0, 181]
abbrev dktX0_findsTogether_0 : List UInt8 := dkwX0_findsTogether_0 ++ dktX0_findsTogether_1
theorem dksX0_findsTogether_0 : cX0_findsTogether.data.toList.drop 0 = dktX0_findsTogether_0 := by decide +kernel
theorem dksX0_findsTogether_1 : cX0_findsTogether.data.toList.drop 24 = dktX0_findsTogether_1 := dk_seg dksX0_findsTogether_0 24 rfl rfl
theorem dksX0_findsTogether_2 : cX0_findsTogether.data.toList.drop 48 = dktX0_findsTogether_2 := dk_seg dksX0_findsTogether_1 24 rfl rfl
theorem dksX0_findsTogether_3 : cX0_findsTogether.data.toList.drop 70 = dktX0_findsTogether_3 := dk_seg dksX0_findsTogether_2 22 rfl rfl
theorem dksX0_findsTogether_4 : cX0_findsTogether.data.toList.drop 94 = dktX0_findsTogether_4 := dk_seg dksX0_findsTogether_3 24 rfl rfl
theorem dX0_findsTogether_0 : decode cX0_findsTogether 0 = .ok (.iconst 0, 1) := dk_3 (dk_at dksX0_findsTogether_0 0 rfl rfl)
theorem dX0_findsTogether_1 : decode cX0_findsTogether 1 = .ok (.istore_n 1, 1) := dk_60 (dk_at dksX0_findsTogether_0 1 rfl rfl)
theorem dX0_findsTogether_2 : decode cX0_findsTogether 2 = .ok (.iload_n 1, 1) := dk_27 (dk_at dksX0_findsTogether_0 2 rfl rfl)
theorem dX0_findsTogether_3 : decode cX0_findsTogether 3 = .ok (.aload_n 0, 1) := dk_42 (dk_at dksX0_findsTogether_0 3 rfl rfl)
theorem dX0_findsTogether_4 : decode cX0_findsTogether 4 = .ok (.getfield 393, 3) := dk_180 1 137 (dk_at dksX0_findsTogether_0 4 rfl rfl)
theorem dX0_findsTogether_7 : decode cX0_findsTogether 7 = .ok (.if_icmp .ge 44, 3) := dk_162 0 44 (dk_at dksX0_findsTogether_0 7 rfl rfl)
theorem dX0_findsTogether_10 : decode cX0_findsTogether 10 = .ok (.iconst 0, 1) := dk_3 (dk_at dksX0_findsTogether_0 10 rfl rfl)
theorem dX0_findsTogether_11 : decode cX0_findsTogether 11 = .ok (.istore_n 2, 1) := dk_61 (dk_at dksX0_findsTogether_0 11 rfl rfl)
theorem dX0_findsTogether_12 : decode cX0_findsTogether 12 = .ok (.iload_n 2, 1) := dk_28 (dk_at dksX0_findsTogether_0 12 rfl rfl)
theorem dX0_findsTogether_13 : decode cX0_findsTogether 13 = .ok (.aload_n 0, 1) := dk_42 (dk_at dksX0_findsTogether_0 13 rfl rfl)
theorem dX0_findsTogether_14 : decode cX0_findsTogether 14 = .ok (.getfield 396, 3) := dk_180 1 140 (dk_at dksX0_findsTogether_0 14 rfl rfl)
theorem dX0_findsTogether_17 : decode cX0_findsTogether 17 = .ok (.if_icmp .ge 28, 3) := dk_162 0 28 (dk_at dksX0_findsTogether_0 17 rfl rfl)
theorem dX0_findsTogether_20 : decode cX0_findsTogether 20 = .ok (.aload_n 0, 1) := dk_42 (dk_at dksX0_findsTogether_0 20 rfl rfl)
theorem dX0_findsTogether_21 : decode cX0_findsTogether 21 = .ok (.getfield 181, 3) := dk_180 0 181 (dk_at dksX0_findsTogether_0 21 rfl rfl)
theorem dX0_findsTogether_24 : decode cX0_findsTogether 24 = .ok (.iconst 4, 1) := dk_7 (dk_at dksX0_findsTogether_1 0 rfl rfl)
theorem dX0_findsTogether_25 : decode cX0_findsTogether 25 = .ok (.iload_n 1, 1) := dk_27 (dk_at dksX0_findsTogether_1 1 rfl rfl)
theorem dX0_findsTogether_26 : decode cX0_findsTogether 26 = .ok (.imul, 1) := dk_104 (dk_at dksX0_findsTogether_1 2 rfl rfl)
theorem dX0_findsTogether_27 : decode cX0_findsTogether 27 = .ok (.iload_n 2, 1) := dk_28 (dk_at dksX0_findsTogether_1 3 rfl rfl)
theorem dX0_findsTogether_28 : decode cX0_findsTogether 28 = .ok (.iadd, 1) := dk_96 (dk_at dksX0_findsTogether_1 4 rfl rfl)
theorem dX0_findsTogether_29 : decode cX0_findsTogether 29 = .ok (.aload_n 0, 1) := dk_42 (dk_at dksX0_findsTogether_1 5 rfl rfl)
theorem dX0_findsTogether_30 : decode cX0_findsTogether 30 = .ok (.getfield 164, 3) := dk_180 0 164 (dk_at dksX0_findsTogether_1 6 rfl rfl)
theorem dX0_findsTogether_33 : decode cX0_findsTogether 33 = .ok (.iload_n 1, 1) := dk_27 (dk_at dksX0_findsTogether_1 9 rfl rfl)
theorem dX0_findsTogether_34 : decode cX0_findsTogether 34 = .ok (.iload_n 2, 1) := dk_28 (dk_at dksX0_findsTogether_1 10 rfl rfl)
theorem dX0_findsTogether_35 : decode cX0_findsTogether 35 = .ok (.invokevirtual 519, 3) := dk_182 2 7 (dk_at dksX0_findsTogether_1 11 rfl rfl)
theorem dX0_findsTogether_38 : decode cX0_findsTogether 38 = .ok (.bastore, 1) := dk_84 (dk_at dksX0_findsTogether_1 14 rfl rfl)
theorem dX0_findsTogether_39 : decode cX0_findsTogether 39 = .ok (.iinc 2 1, 3) := dk_132 2 1 (dk_at dksX0_findsTogether_1 15 rfl rfl)
theorem dX0_findsTogether_42 : decode cX0_findsTogether 42 = .ok (.goto (-30), 3) := dk_167 255 226 (dk_at dksX0_findsTogether_1 18 rfl rfl)
theorem dX0_findsTogether_45 : decode cX0_findsTogether 45 = .ok (.iinc 1 1, 3) := dk_132 1 1 (dk_at dksX0_findsTogether_1 21 rfl rfl)
theorem dX0_findsTogether_48 : decode cX0_findsTogether 48 = .ok (.goto (-46), 3) := dk_167 255 210 (dk_at dksX0_findsTogether_2 0 rfl rfl)
theorem dX0_findsTogether_51 : decode cX0_findsTogether 51 = .ok (.iconst 0, 1) := dk_3 (dk_at dksX0_findsTogether_2 3 rfl rfl)
theorem dX0_findsTogether_52 : decode cX0_findsTogether 52 = .ok (.istore_n 1, 1) := dk_60 (dk_at dksX0_findsTogether_2 4 rfl rfl)
theorem dX0_findsTogether_53 : decode cX0_findsTogether 53 = .ok (.iload_n 1, 1) := dk_27 (dk_at dksX0_findsTogether_2 5 rfl rfl)
theorem dX0_findsTogether_54 : decode cX0_findsTogether 54 = .ok (.iconst 1, 1) := dk_4 (dk_at dksX0_findsTogether_2 6 rfl rfl)
theorem dX0_findsTogether_55 : decode cX0_findsTogether 55 = .ok (.aload_n 0, 1) := dk_42 (dk_at dksX0_findsTogether_2 7 rfl rfl)
theorem dX0_findsTogether_56 : decode cX0_findsTogether 56 = .ok (.getfield 122, 3) := dk_180 0 122 (dk_at dksX0_findsTogether_2 8 rfl rfl)
theorem dX0_findsTogether_59 : decode cX0_findsTogether 59 = .ok (.arraylength, 1) := dk_190 (dk_at dksX0_findsTogether_2 11 rfl rfl)
theorem dX0_findsTogether_60 : decode cX0_findsTogether 60 = .ok (.ishl, 1) := dk_120 (dk_at dksX0_findsTogether_2 12 rfl rfl)
theorem dX0_findsTogether_61 : decode cX0_findsTogether 61 = .ok (.if_icmp .ge 48, 3) := dk_162 0 48 (dk_at dksX0_findsTogether_2 13 rfl rfl)
theorem dX0_findsTogether_64 : decode cX0_findsTogether 64 = .ok (.aload_n 0, 1) := dk_42 (dk_at dksX0_findsTogether_2 16 rfl rfl)
theorem dX0_findsTogether_65 : decode cX0_findsTogether 65 = .ok (.getfield 185, 3) := dk_180 0 185 (dk_at dksX0_findsTogether_2 17 rfl rfl)
theorem dX0_findsTogether_68 : decode cX0_findsTogether 68 = .ok (.iload_n 1, 1) := dk_27 (dk_at dksX0_findsTogether_2 20 rfl rfl)
theorem dX0_findsTogether_69 : decode cX0_findsTogether 69 = .ok (.iload_n 1, 1) := dk_27 (dk_at dksX0_findsTogether_2 21 rfl rfl)
theorem dX0_findsTogether_70 : decode cX0_findsTogether 70 = .ok (.invokestatic 548, 3) := dk_184 2 36 (dk_at dksX0_findsTogether_3 0 rfl rfl)
theorem dX0_findsTogether_73 : decode cX0_findsTogether 73 = .ok (.aload_n 0, 1) := dk_42 (dk_at dksX0_findsTogether_3 3 rfl rfl)
theorem dX0_findsTogether_74 : decode cX0_findsTogether 74 = .ok (.getfield 393, 3) := dk_180 1 137 (dk_at dksX0_findsTogether_3 4 rfl rfl)
theorem dX0_findsTogether_77 : decode cX0_findsTogether 77 = .ok (.aload_n 0, 1) := dk_42 (dk_at dksX0_findsTogether_3 7 rfl rfl)
theorem dX0_findsTogether_78 : decode cX0_findsTogether 78 = .ok (.getfield 396, 3) := dk_180 1 140 (dk_at dksX0_findsTogether_3 8 rfl rfl)
theorem dX0_findsTogether_81 : decode cX0_findsTogether 81 = .ok (.invokestatic 1, 3) := dk_184 0 1 (dk_at dksX0_findsTogether_3 11 rfl rfl)
theorem dX0_findsTogether_84 : decode cX0_findsTogether 84 = .ok (.if_icmp .gt 17, 3) := dk_163 0 17 (dk_at dksX0_findsTogether_3 14 rfl rfl)
theorem dX0_findsTogether_87 : decode cX0_findsTogether 87 = .ok (.aload_n 0, 1) := dk_42 (dk_at dksX0_findsTogether_3 17 rfl rfl)
theorem dX0_findsTogether_88 : decode cX0_findsTogether 88 = .ok (.iload_n 1, 1) := dk_27 (dk_at dksX0_findsTogether_3 18 rfl rfl)
theorem dX0_findsTogether_89 : decode cX0_findsTogether 89 = .ok (.iconst 0, 1) := dk_3 (dk_at dksX0_findsTogether_3 19 rfl rfl)
theorem dX0_findsTogether_90 : decode cX0_findsTogether 90 = .ok (.iconst 0, 1) := dk_3 (dk_at dksX0_findsTogether_3 20 rfl rfl)
theorem dX0_findsTogether_91 : decode cX0_findsTogether 91 = .ok (.invokevirtual 545, 3) := dk_182 2 33 (dk_at dksX0_findsTogether_3 21 rfl rfl)
theorem dX0_findsTogether_94 : decode cX0_findsTogether 94 = .ok (.ifCond .eq 7, 3) := dk_153 0 7 (dk_at dksX0_findsTogether_4 0 rfl rfl)
theorem dX0_findsTogether_97 : decode cX0_findsTogether 97 = .ok (.iconst 1, 1) := dk_4 (dk_at dksX0_findsTogether_4 3 rfl rfl)
theorem dX0_findsTogether_98 : decode cX0_findsTogether 98 = .ok (.goto 4, 3) := dk_167 0 4 (dk_at dksX0_findsTogether_4 4 rfl rfl)
theorem dX0_findsTogether_101 : decode cX0_findsTogether 101 = .ok (.iconst 0, 1) := dk_3 (dk_at dksX0_findsTogether_4 7 rfl rfl)
theorem dX0_findsTogether_102 : decode cX0_findsTogether 102 = .ok (.bastore, 1) := dk_84 (dk_at dksX0_findsTogether_4 8 rfl rfl)
theorem dX0_findsTogether_103 : decode cX0_findsTogether 103 = .ok (.iinc 1 1, 3) := dk_132 1 1 (dk_at dksX0_findsTogether_4 9 rfl rfl)
theorem dX0_findsTogether_106 : decode cX0_findsTogether 106 = .ok (.goto (-53), 3) := dk_167 255 203 (dk_at dksX0_findsTogether_4 12 rfl rfl)
theorem dX0_findsTogether_109 : decode cX0_findsTogether 109 = .ok (.return_, 1) := dk_177 (dk_at dksX0_findsTogether_4 15 rfl rfl)
abbrev cX0_goesTogether : ByteArray := prog_1_method_58_code
def yX0_goesTogether : MethodName := ⟨RX0, "goesTogether", "(III)Z"⟩
def dkwX0_goesTogether_5 : List UInt8 := [132, 6, 1, 167, 255, 194, 132, 5, 1, 167, 255, 144, 3, 172]
abbrev dktX0_goesTogether_5 : List UInt8 := dkwX0_goesTogether_5 ++ []
def dkwX0_goesTogether_4 : List UInt8 := [4, 100, 126, 28, 4, 21, 5, 120, 128, 29, 4, 21, 6, 120, 128, 182, 2, 33, 153, 0, 5, 4, 172]
abbrev dktX0_goesTogether_4 : List UInt8 := dkwX0_goesTogether_4 ++ dktX0_goesTogether_5
def dkwX0_goesTogether_3 : List UInt8 := [184, 1, 247, 154, 0, 44, 42, 180, 0, 181, 7, 21, 5, 104, 21, 6, 96, 51, 153, 0, 29, 42, 27, 27]
abbrev dktX0_goesTogether_3 : List UInt8 := dkwX0_goesTogether_3 ++ dktX0_goesTogether_4
def dkwX0_goesTogether_2 : List UInt8 := [182, 2, 10, 159, 0, 6, 167, 0, 71, 3, 54, 6, 21, 6, 42, 180, 1, 140, 162, 0, 59, 29, 21, 6]
abbrev dktX0_goesTogether_2 : List UInt8 := dkwX0_goesTogether_2 ++ dktX0_goesTogether_3
def dkwX0_goesTogether_1 : List UInt8 := [28, 21, 5, 184, 1, 247, 154, 0, 94, 42, 180, 0, 132, 21, 5, 46, 42, 180, 0, 122, 21, 4, 50]
abbrev dktX0_goesTogether_1 : List UInt8 := dkwX0_goesTogether_1 ++ dktX0_goesTogether_2
def dkwX0_goesTogether_0 : List UInt8 := [27, 154, 0, 5, 4, 172, 27, 184, 2, 28, 54, 4, 3, 54, 5, 21, 5, 42, 180, 1, 137, 162, 0, 109]
abbrev dktX0_goesTogether_0 : List UInt8 := dkwX0_goesTogether_0 ++ dktX0_goesTogether_1
theorem dksX0_goesTogether_0 : cX0_goesTogether.data.toList.drop 0 = dktX0_goesTogether_0 := by decide +kernel
theorem dksX0_goesTogether_1 : cX0_goesTogether.data.toList.drop 24 = dktX0_goesTogether_1 := dk_seg dksX0_goesTogether_0 24 rfl rfl
theorem dksX0_goesTogether_2 : cX0_goesTogether.data.toList.drop 47 = dktX0_goesTogether_2 := dk_seg dksX0_goesTogether_1 23 rfl rfl
theorem dksX0_goesTogether_3 : cX0_goesTogether.data.toList.drop 71 = dktX0_goesTogether_3 := dk_seg dksX0_goesTogether_2 24 rfl rfl
theorem dksX0_goesTogether_4 : cX0_goesTogether.data.toList.drop 95 = dktX0_goesTogether_4 := dk_seg dksX0_goesTogether_3 24 rfl rfl
theorem dksX0_goesTogether_5 : cX0_goesTogether.data.toList.drop 118 = dktX0_goesTogether_5 := dk_seg dksX0_goesTogether_4 23 rfl rfl
theorem dX0_goesTogether_0 : decode cX0_goesTogether 0 = .ok (.iload_n 1, 1) := dk_27 (dk_at dksX0_goesTogether_0 0 rfl rfl)
theorem dX0_goesTogether_1 : decode cX0_goesTogether 1 = .ok (.ifCond .ne 5, 3) := dk_154 0 5 (dk_at dksX0_goesTogether_0 1 rfl rfl)
theorem dX0_goesTogether_4 : decode cX0_goesTogether 4 = .ok (.iconst 1, 1) := dk_4 (dk_at dksX0_goesTogether_0 4 rfl rfl)
theorem dX0_goesTogether_5 : decode cX0_goesTogether 5 = .ok (.ireturn, 1) := dk_172 (dk_at dksX0_goesTogether_0 5 rfl rfl)
theorem dX0_goesTogether_6 : decode cX0_goesTogether 6 = .ok (.iload_n 1, 1) := dk_27 (dk_at dksX0_goesTogether_0 6 rfl rfl)
theorem dX0_goesTogether_7 : decode cX0_goesTogether 7 = .ok (.invokestatic 540, 3) := dk_184 2 28 (dk_at dksX0_goesTogether_0 7 rfl rfl)
theorem dX0_goesTogether_10 : decode cX0_goesTogether 10 = .ok (.istore 4, 2) := dk_54 4 (dk_at dksX0_goesTogether_0 10 rfl rfl)
theorem dX0_goesTogether_12 : decode cX0_goesTogether 12 = .ok (.iconst 0, 1) := dk_3 (dk_at dksX0_goesTogether_0 12 rfl rfl)
theorem dX0_goesTogether_13 : decode cX0_goesTogether 13 = .ok (.istore 5, 2) := dk_54 5 (dk_at dksX0_goesTogether_0 13 rfl rfl)
theorem dX0_goesTogether_15 : decode cX0_goesTogether 15 = .ok (.iload 5, 2) := dk_21 5 (dk_at dksX0_goesTogether_0 15 rfl rfl)
theorem dX0_goesTogether_17 : decode cX0_goesTogether 17 = .ok (.aload_n 0, 1) := dk_42 (dk_at dksX0_goesTogether_0 17 rfl rfl)
theorem dX0_goesTogether_18 : decode cX0_goesTogether 18 = .ok (.getfield 393, 3) := dk_180 1 137 (dk_at dksX0_goesTogether_0 18 rfl rfl)
theorem dX0_goesTogether_21 : decode cX0_goesTogether 21 = .ok (.if_icmp .ge 109, 3) := dk_162 0 109 (dk_at dksX0_goesTogether_0 21 rfl rfl)
theorem dX0_goesTogether_24 : decode cX0_goesTogether 24 = .ok (.iload_n 2, 1) := dk_28 (dk_at dksX0_goesTogether_1 0 rfl rfl)
theorem dX0_goesTogether_25 : decode cX0_goesTogether 25 = .ok (.iload 5, 2) := dk_21 5 (dk_at dksX0_goesTogether_1 1 rfl rfl)
theorem dX0_goesTogether_27 : decode cX0_goesTogether 27 = .ok (.invokestatic 503, 3) := dk_184 1 247 (dk_at dksX0_goesTogether_1 3 rfl rfl)
theorem dX0_goesTogether_30 : decode cX0_goesTogether 30 = .ok (.ifCond .ne 94, 3) := dk_154 0 94 (dk_at dksX0_goesTogether_1 6 rfl rfl)
theorem dX0_goesTogether_33 : decode cX0_goesTogether 33 = .ok (.aload_n 0, 1) := dk_42 (dk_at dksX0_goesTogether_1 9 rfl rfl)
theorem dX0_goesTogether_34 : decode cX0_goesTogether 34 = .ok (.getfield 132, 3) := dk_180 0 132 (dk_at dksX0_goesTogether_1 10 rfl rfl)
theorem dX0_goesTogether_37 : decode cX0_goesTogether 37 = .ok (.iload 5, 2) := dk_21 5 (dk_at dksX0_goesTogether_1 13 rfl rfl)
theorem dX0_goesTogether_39 : decode cX0_goesTogether 39 = .ok (.iaload, 1) := dk_46 (dk_at dksX0_goesTogether_1 15 rfl rfl)
theorem dX0_goesTogether_40 : decode cX0_goesTogether 40 = .ok (.aload_n 0, 1) := dk_42 (dk_at dksX0_goesTogether_1 16 rfl rfl)
theorem dX0_goesTogether_41 : decode cX0_goesTogether 41 = .ok (.getfield 122, 3) := dk_180 0 122 (dk_at dksX0_goesTogether_1 17 rfl rfl)
theorem dX0_goesTogether_44 : decode cX0_goesTogether 44 = .ok (.iload 4, 2) := dk_21 4 (dk_at dksX0_goesTogether_1 20 rfl rfl)
theorem dX0_goesTogether_46 : decode cX0_goesTogether 46 = .ok (.aaload, 1) := dk_50 (dk_at dksX0_goesTogether_1 22 rfl rfl)
theorem dX0_goesTogether_47 : decode cX0_goesTogether 47 = .ok (.invokevirtual 522, 3) := dk_182 2 10 (dk_at dksX0_goesTogether_2 0 rfl rfl)
theorem dX0_goesTogether_50 : decode cX0_goesTogether 50 = .ok (.if_icmp .eq 6, 3) := dk_159 0 6 (dk_at dksX0_goesTogether_2 3 rfl rfl)
theorem dX0_goesTogether_53 : decode cX0_goesTogether 53 = .ok (.goto 71, 3) := dk_167 0 71 (dk_at dksX0_goesTogether_2 6 rfl rfl)
theorem dX0_goesTogether_56 : decode cX0_goesTogether 56 = .ok (.iconst 0, 1) := dk_3 (dk_at dksX0_goesTogether_2 9 rfl rfl)
theorem dX0_goesTogether_57 : decode cX0_goesTogether 57 = .ok (.istore 6, 2) := dk_54 6 (dk_at dksX0_goesTogether_2 10 rfl rfl)
theorem dX0_goesTogether_59 : decode cX0_goesTogether 59 = .ok (.iload 6, 2) := dk_21 6 (dk_at dksX0_goesTogether_2 12 rfl rfl)
theorem dX0_goesTogether_61 : decode cX0_goesTogether 61 = .ok (.aload_n 0, 1) := dk_42 (dk_at dksX0_goesTogether_2 14 rfl rfl)
theorem dX0_goesTogether_62 : decode cX0_goesTogether 62 = .ok (.getfield 396, 3) := dk_180 1 140 (dk_at dksX0_goesTogether_2 15 rfl rfl)
theorem dX0_goesTogether_65 : decode cX0_goesTogether 65 = .ok (.if_icmp .ge 59, 3) := dk_162 0 59 (dk_at dksX0_goesTogether_2 18 rfl rfl)
theorem dX0_goesTogether_68 : decode cX0_goesTogether 68 = .ok (.iload_n 3, 1) := dk_29 (dk_at dksX0_goesTogether_2 21 rfl rfl)
theorem dX0_goesTogether_69 : decode cX0_goesTogether 69 = .ok (.iload 6, 2) := dk_21 6 (dk_at dksX0_goesTogether_2 22 rfl rfl)
theorem dX0_goesTogether_71 : decode cX0_goesTogether 71 = .ok (.invokestatic 503, 3) := dk_184 1 247 (dk_at dksX0_goesTogether_3 0 rfl rfl)
theorem dX0_goesTogether_74 : decode cX0_goesTogether 74 = .ok (.ifCond .ne 44, 3) := dk_154 0 44 (dk_at dksX0_goesTogether_3 3 rfl rfl)
theorem dX0_goesTogether_77 : decode cX0_goesTogether 77 = .ok (.aload_n 0, 1) := dk_42 (dk_at dksX0_goesTogether_3 6 rfl rfl)
theorem dX0_goesTogether_78 : decode cX0_goesTogether 78 = .ok (.getfield 181, 3) := dk_180 0 181 (dk_at dksX0_goesTogether_3 7 rfl rfl)
theorem dX0_goesTogether_81 : decode cX0_goesTogether 81 = .ok (.iconst 4, 1) := dk_7 (dk_at dksX0_goesTogether_3 10 rfl rfl)
theorem dX0_goesTogether_82 : decode cX0_goesTogether 82 = .ok (.iload 5, 2) := dk_21 5 (dk_at dksX0_goesTogether_3 11 rfl rfl)
theorem dX0_goesTogether_84 : decode cX0_goesTogether 84 = .ok (.imul, 1) := dk_104 (dk_at dksX0_goesTogether_3 13 rfl rfl)
theorem dX0_goesTogether_85 : decode cX0_goesTogether 85 = .ok (.iload 6, 2) := dk_21 6 (dk_at dksX0_goesTogether_3 14 rfl rfl)
theorem dX0_goesTogether_87 : decode cX0_goesTogether 87 = .ok (.iadd, 1) := dk_96 (dk_at dksX0_goesTogether_3 16 rfl rfl)
theorem dX0_goesTogether_88 : decode cX0_goesTogether 88 = .ok (.baload, 1) := dk_51 (dk_at dksX0_goesTogether_3 17 rfl rfl)
theorem dX0_goesTogether_89 : decode cX0_goesTogether 89 = .ok (.ifCond .eq 29, 3) := dk_153 0 29 (dk_at dksX0_goesTogether_3 18 rfl rfl)
theorem dX0_goesTogether_92 : decode cX0_goesTogether 92 = .ok (.aload_n 0, 1) := dk_42 (dk_at dksX0_goesTogether_3 21 rfl rfl)
theorem dX0_goesTogether_93 : decode cX0_goesTogether 93 = .ok (.iload_n 1, 1) := dk_27 (dk_at dksX0_goesTogether_3 22 rfl rfl)
theorem dX0_goesTogether_94 : decode cX0_goesTogether 94 = .ok (.iload_n 1, 1) := dk_27 (dk_at dksX0_goesTogether_3 23 rfl rfl)
theorem dX0_goesTogether_95 : decode cX0_goesTogether 95 = .ok (.iconst 1, 1) := dk_4 (dk_at dksX0_goesTogether_4 0 rfl rfl)
theorem dX0_goesTogether_96 : decode cX0_goesTogether 96 = .ok (.isub, 1) := dk_100 (dk_at dksX0_goesTogether_4 1 rfl rfl)
theorem dX0_goesTogether_97 : decode cX0_goesTogether 97 = .ok (.iand, 1) := dk_126 (dk_at dksX0_goesTogether_4 2 rfl rfl)
theorem dX0_goesTogether_98 : decode cX0_goesTogether 98 = .ok (.iload_n 2, 1) := dk_28 (dk_at dksX0_goesTogether_4 3 rfl rfl)
theorem dX0_goesTogether_99 : decode cX0_goesTogether 99 = .ok (.iconst 1, 1) := dk_4 (dk_at dksX0_goesTogether_4 4 rfl rfl)
theorem dX0_goesTogether_100 : decode cX0_goesTogether 100 = .ok (.iload 5, 2) := dk_21 5 (dk_at dksX0_goesTogether_4 5 rfl rfl)
theorem dX0_goesTogether_102 : decode cX0_goesTogether 102 = .ok (.ishl, 1) := dk_120 (dk_at dksX0_goesTogether_4 7 rfl rfl)
theorem dX0_goesTogether_103 : decode cX0_goesTogether 103 = .ok (.ior, 1) := dk_128 (dk_at dksX0_goesTogether_4 8 rfl rfl)
theorem dX0_goesTogether_104 : decode cX0_goesTogether 104 = .ok (.iload_n 3, 1) := dk_29 (dk_at dksX0_goesTogether_4 9 rfl rfl)
theorem dX0_goesTogether_105 : decode cX0_goesTogether 105 = .ok (.iconst 1, 1) := dk_4 (dk_at dksX0_goesTogether_4 10 rfl rfl)
theorem dX0_goesTogether_106 : decode cX0_goesTogether 106 = .ok (.iload 6, 2) := dk_21 6 (dk_at dksX0_goesTogether_4 11 rfl rfl)
theorem dX0_goesTogether_108 : decode cX0_goesTogether 108 = .ok (.ishl, 1) := dk_120 (dk_at dksX0_goesTogether_4 13 rfl rfl)
theorem dX0_goesTogether_109 : decode cX0_goesTogether 109 = .ok (.ior, 1) := dk_128 (dk_at dksX0_goesTogether_4 14 rfl rfl)
theorem dX0_goesTogether_110 : decode cX0_goesTogether 110 = .ok (.invokevirtual 545, 3) := dk_182 2 33 (dk_at dksX0_goesTogether_4 15 rfl rfl)
theorem dX0_goesTogether_113 : decode cX0_goesTogether 113 = .ok (.ifCond .eq 5, 3) := dk_153 0 5 (dk_at dksX0_goesTogether_4 18 rfl rfl)
theorem dX0_goesTogether_116 : decode cX0_goesTogether 116 = .ok (.iconst 1, 1) := dk_4 (dk_at dksX0_goesTogether_4 21 rfl rfl)
theorem dX0_goesTogether_117 : decode cX0_goesTogether 117 = .ok (.ireturn, 1) := dk_172 (dk_at dksX0_goesTogether_4 22 rfl rfl)
theorem dX0_goesTogether_118 : decode cX0_goesTogether 118 = .ok (.iinc 6 1, 3) := dk_132 6 1 (dk_at dksX0_goesTogether_5 0 rfl rfl)
theorem dX0_goesTogether_121 : decode cX0_goesTogether 121 = .ok (.goto (-62), 3) := dk_167 255 194 (dk_at dksX0_goesTogether_5 3 rfl rfl)
theorem dX0_goesTogether_124 : decode cX0_goesTogether 124 = .ok (.iinc 5 1, 3) := dk_132 5 1 (dk_at dksX0_goesTogether_5 6 rfl rfl)
theorem dX0_goesTogether_127 : decode cX0_goesTogether 127 = .ok (.goto (-112), 3) := dk_167 255 144 (dk_at dksX0_goesTogether_5 9 rfl rfl)
theorem dX0_goesTogether_130 : decode cX0_goesTogether 130 = .ok (.iconst 0, 1) := dk_3 (dk_at dksX0_goesTogether_5 12 rfl rfl)
theorem dX0_goesTogether_131 : decode cX0_goesTogether 131 = .ok (.ireturn, 1) := dk_172 (dk_at dksX0_goesTogether_5 13 rfl rfl)
abbrev cX0_findsFar : ByteArray := prog_1_method_68_code
def yX0_findsFar : MethodName := ⟨RX0, "findsFar", "()V"⟩
def dkwX0_findsFar_2 : List UInt8 := [132, 2, 255, 167, 255, 216, 177]
abbrev dktX0_findsFar_2 : List UInt8 := dkwX0_findsFar_2 ++ []
def dkwX0_findsFar_1 : List UInt8 := [167, 0, 20, 42, 28, 182, 2, 57, 153, 0, 11, 42, 28, 182, 2, 60, 167, 0, 4, 2, 145, 84]
abbrev dktX0_findsFar_1 : List UInt8 := dkwX0_findsFar_1 ++ dktX0_findsFar_2
def dkwX0_findsFar_0 : List UInt8 := [42, 182, 2, 54, 60, 27, 61, 28, 155, 0, 42, 42, 180, 0, 189, 28, 28, 27, 160, 0, 7, 3]
abbrev dktX0_findsFar_0 : List UInt8 := dkwX0_findsFar_0 ++ dktX0_findsFar_1
theorem dksX0_findsFar_0 : cX0_findsFar.data.toList.drop 0 = dktX0_findsFar_0 := by decide +kernel
theorem dksX0_findsFar_1 : cX0_findsFar.data.toList.drop 22 = dktX0_findsFar_1 := dk_seg dksX0_findsFar_0 22 rfl rfl
theorem dksX0_findsFar_2 : cX0_findsFar.data.toList.drop 44 = dktX0_findsFar_2 := dk_seg dksX0_findsFar_1 22 rfl rfl
theorem dX0_findsFar_0 : decode cX0_findsFar 0 = .ok (.aload_n 0, 1) := dk_42 (dk_at dksX0_findsFar_0 0 rfl rfl)
theorem dX0_findsFar_1 : decode cX0_findsFar 1 = .ok (.invokevirtual 566, 3) := dk_182 2 54 (dk_at dksX0_findsFar_0 1 rfl rfl)
theorem dX0_findsFar_4 : decode cX0_findsFar 4 = .ok (.istore_n 1, 1) := dk_60 (dk_at dksX0_findsFar_0 4 rfl rfl)
theorem dX0_findsFar_5 : decode cX0_findsFar 5 = .ok (.iload_n 1, 1) := dk_27 (dk_at dksX0_findsFar_0 5 rfl rfl)
theorem dX0_findsFar_6 : decode cX0_findsFar 6 = .ok (.istore_n 2, 1) := dk_61 (dk_at dksX0_findsFar_0 6 rfl rfl)
theorem dX0_findsFar_7 : decode cX0_findsFar 7 = .ok (.iload_n 2, 1) := dk_28 (dk_at dksX0_findsFar_0 7 rfl rfl)
theorem dX0_findsFar_8 : decode cX0_findsFar 8 = .ok (.ifCond .lt 42, 3) := dk_155 0 42 (dk_at dksX0_findsFar_0 8 rfl rfl)
theorem dX0_findsFar_11 : decode cX0_findsFar 11 = .ok (.aload_n 0, 1) := dk_42 (dk_at dksX0_findsFar_0 11 rfl rfl)
theorem dX0_findsFar_12 : decode cX0_findsFar 12 = .ok (.getfield 189, 3) := dk_180 0 189 (dk_at dksX0_findsFar_0 12 rfl rfl)
theorem dX0_findsFar_15 : decode cX0_findsFar 15 = .ok (.iload_n 2, 1) := dk_28 (dk_at dksX0_findsFar_0 15 rfl rfl)
theorem dX0_findsFar_16 : decode cX0_findsFar 16 = .ok (.iload_n 2, 1) := dk_28 (dk_at dksX0_findsFar_0 16 rfl rfl)
theorem dX0_findsFar_17 : decode cX0_findsFar 17 = .ok (.iload_n 1, 1) := dk_27 (dk_at dksX0_findsFar_0 17 rfl rfl)
theorem dX0_findsFar_18 : decode cX0_findsFar 18 = .ok (.if_icmp .ne 7, 3) := dk_160 0 7 (dk_at dksX0_findsFar_0 18 rfl rfl)
theorem dX0_findsFar_21 : decode cX0_findsFar 21 = .ok (.iconst 0, 1) := dk_3 (dk_at dksX0_findsFar_0 21 rfl rfl)
theorem dX0_findsFar_22 : decode cX0_findsFar 22 = .ok (.goto 20, 3) := dk_167 0 20 (dk_at dksX0_findsFar_1 0 rfl rfl)
theorem dX0_findsFar_25 : decode cX0_findsFar 25 = .ok (.aload_n 0, 1) := dk_42 (dk_at dksX0_findsFar_1 3 rfl rfl)
theorem dX0_findsFar_26 : decode cX0_findsFar 26 = .ok (.iload_n 2, 1) := dk_28 (dk_at dksX0_findsFar_1 4 rfl rfl)
theorem dX0_findsFar_27 : decode cX0_findsFar 27 = .ok (.invokevirtual 569, 3) := dk_182 2 57 (dk_at dksX0_findsFar_1 5 rfl rfl)
theorem dX0_findsFar_30 : decode cX0_findsFar 30 = .ok (.ifCond .eq 11, 3) := dk_153 0 11 (dk_at dksX0_findsFar_1 8 rfl rfl)
theorem dX0_findsFar_33 : decode cX0_findsFar 33 = .ok (.aload_n 0, 1) := dk_42 (dk_at dksX0_findsFar_1 11 rfl rfl)
theorem dX0_findsFar_34 : decode cX0_findsFar 34 = .ok (.iload_n 2, 1) := dk_28 (dk_at dksX0_findsFar_1 12 rfl rfl)
theorem dX0_findsFar_35 : decode cX0_findsFar 35 = .ok (.invokevirtual 572, 3) := dk_182 2 60 (dk_at dksX0_findsFar_1 13 rfl rfl)
theorem dX0_findsFar_38 : decode cX0_findsFar 38 = .ok (.goto 4, 3) := dk_167 0 4 (dk_at dksX0_findsFar_1 16 rfl rfl)
theorem dX0_findsFar_41 : decode cX0_findsFar 41 = .ok (.iconst (-1), 1) := dk_2 (dk_at dksX0_findsFar_1 19 rfl rfl)
theorem dX0_findsFar_42 : decode cX0_findsFar 42 = .ok (.i2b, 1) := dk_145 (dk_at dksX0_findsFar_1 20 rfl rfl)
theorem dX0_findsFar_43 : decode cX0_findsFar 43 = .ok (.bastore, 1) := dk_84 (dk_at dksX0_findsFar_1 21 rfl rfl)
theorem dX0_findsFar_44 : decode cX0_findsFar 44 = .ok (.iinc 2 (-1), 3) := dk_132 2 255 (dk_at dksX0_findsFar_2 0 rfl rfl)
theorem dX0_findsFar_47 : decode cX0_findsFar 47 = .ok (.goto (-40), 3) := dk_167 255 216 (dk_at dksX0_findsFar_2 3 rfl rfl)
theorem dX0_findsFar_50 : decode cX0_findsFar 50 = .ok (.return_, 1) := dk_177 (dk_at dksX0_findsFar_2 6 rfl rfl)
abbrev cX0_lastState : ByteArray := prog_1_method_63_code
def yX0_lastState : MethodName := ⟨RX0, "lastState", "()I"⟩
def dkwX0_lastState_1 : List UInt8 := [28, 104, 120, 128, 60, 132, 2, 1, 167, 255, 228, 27, 172]
abbrev dktX0_lastState_1 : List UInt8 := dkwX0_lastState_1 ++ []
def dkwX0_lastState_0 : List UInt8 := [3, 60, 3, 61, 28, 42, 180, 0, 122, 190, 162, 0, 25, 27, 42, 180, 0, 122, 28, 50, 182, 2, 15, 5]
abbrev dktX0_lastState_0 : List UInt8 := dkwX0_lastState_0 ++ dktX0_lastState_1
theorem dksX0_lastState_0 : cX0_lastState.data.toList.drop 0 = dktX0_lastState_0 := by decide +kernel
theorem dksX0_lastState_1 : cX0_lastState.data.toList.drop 24 = dktX0_lastState_1 := dk_seg dksX0_lastState_0 24 rfl rfl
theorem dX0_lastState_0 : decode cX0_lastState 0 = .ok (.iconst 0, 1) := dk_3 (dk_at dksX0_lastState_0 0 rfl rfl)
theorem dX0_lastState_1 : decode cX0_lastState 1 = .ok (.istore_n 1, 1) := dk_60 (dk_at dksX0_lastState_0 1 rfl rfl)
theorem dX0_lastState_2 : decode cX0_lastState 2 = .ok (.iconst 0, 1) := dk_3 (dk_at dksX0_lastState_0 2 rfl rfl)
theorem dX0_lastState_3 : decode cX0_lastState 3 = .ok (.istore_n 2, 1) := dk_61 (dk_at dksX0_lastState_0 3 rfl rfl)
theorem dX0_lastState_4 : decode cX0_lastState 4 = .ok (.iload_n 2, 1) := dk_28 (dk_at dksX0_lastState_0 4 rfl rfl)
theorem dX0_lastState_5 : decode cX0_lastState 5 = .ok (.aload_n 0, 1) := dk_42 (dk_at dksX0_lastState_0 5 rfl rfl)
theorem dX0_lastState_6 : decode cX0_lastState 6 = .ok (.getfield 122, 3) := dk_180 0 122 (dk_at dksX0_lastState_0 6 rfl rfl)
theorem dX0_lastState_9 : decode cX0_lastState 9 = .ok (.arraylength, 1) := dk_190 (dk_at dksX0_lastState_0 9 rfl rfl)
theorem dX0_lastState_10 : decode cX0_lastState 10 = .ok (.if_icmp .ge 25, 3) := dk_162 0 25 (dk_at dksX0_lastState_0 10 rfl rfl)
theorem dX0_lastState_13 : decode cX0_lastState 13 = .ok (.iload_n 1, 1) := dk_27 (dk_at dksX0_lastState_0 13 rfl rfl)
theorem dX0_lastState_14 : decode cX0_lastState 14 = .ok (.aload_n 0, 1) := dk_42 (dk_at dksX0_lastState_0 14 rfl rfl)
theorem dX0_lastState_15 : decode cX0_lastState 15 = .ok (.getfield 122, 3) := dk_180 0 122 (dk_at dksX0_lastState_0 15 rfl rfl)
theorem dX0_lastState_18 : decode cX0_lastState 18 = .ok (.iload_n 2, 1) := dk_28 (dk_at dksX0_lastState_0 18 rfl rfl)
theorem dX0_lastState_19 : decode cX0_lastState 19 = .ok (.aaload, 1) := dk_50 (dk_at dksX0_lastState_0 19 rfl rfl)
theorem dX0_lastState_20 : decode cX0_lastState 20 = .ok (.invokevirtual 527, 3) := dk_182 2 15 (dk_at dksX0_lastState_0 20 rfl rfl)
theorem dX0_lastState_23 : decode cX0_lastState 23 = .ok (.iconst 2, 1) := dk_5 (dk_at dksX0_lastState_0 23 rfl rfl)
theorem dX0_lastState_24 : decode cX0_lastState 24 = .ok (.iload_n 2, 1) := dk_28 (dk_at dksX0_lastState_1 0 rfl rfl)
theorem dX0_lastState_25 : decode cX0_lastState 25 = .ok (.imul, 1) := dk_104 (dk_at dksX0_lastState_1 1 rfl rfl)
theorem dX0_lastState_26 : decode cX0_lastState 26 = .ok (.ishl, 1) := dk_120 (dk_at dksX0_lastState_1 2 rfl rfl)
theorem dX0_lastState_27 : decode cX0_lastState 27 = .ok (.ior, 1) := dk_128 (dk_at dksX0_lastState_1 3 rfl rfl)
theorem dX0_lastState_28 : decode cX0_lastState 28 = .ok (.istore_n 1, 1) := dk_60 (dk_at dksX0_lastState_1 4 rfl rfl)
theorem dX0_lastState_29 : decode cX0_lastState 29 = .ok (.iinc 2 1, 3) := dk_132 2 1 (dk_at dksX0_lastState_1 5 rfl rfl)
theorem dX0_lastState_32 : decode cX0_lastState 32 = .ok (.goto (-28), 3) := dk_167 255 228 (dk_at dksX0_lastState_1 8 rfl rfl)
theorem dX0_lastState_35 : decode cX0_lastState 35 = .ok (.iload_n 1, 1) := dk_27 (dk_at dksX0_lastState_1 11 rfl rfl)
theorem dX0_lastState_36 : decode cX0_lastState 36 = .ok (.ireturn, 1) := dk_172 (dk_at dksX0_lastState_1 12 rfl rfl)
abbrev cX0_isState : ByteArray := prog_1_method_66_code
def yX0_isState : MethodName := ⟨RX0, "isState", "(I)Z"⟩
def dkwX0_isState_1 : List UInt8 := [182, 2, 15, 164, 0, 5, 3, 172, 132, 2, 1, 167, 255, 225, 4, 172]
abbrev dktX0_isState_1 : List UInt8 := dkwX0_isState_1 ++ []
def dkwX0_isState_0 : List UInt8 := [3, 61, 28, 42, 180, 0, 122, 190, 162, 0, 28, 27, 28, 184, 2, 39, 42, 180, 0, 122, 28, 50]
abbrev dktX0_isState_0 : List UInt8 := dkwX0_isState_0 ++ dktX0_isState_1
theorem dksX0_isState_0 : cX0_isState.data.toList.drop 0 = dktX0_isState_0 := by decide +kernel
theorem dksX0_isState_1 : cX0_isState.data.toList.drop 22 = dktX0_isState_1 := dk_seg dksX0_isState_0 22 rfl rfl
theorem dX0_isState_0 : decode cX0_isState 0 = .ok (.iconst 0, 1) := dk_3 (dk_at dksX0_isState_0 0 rfl rfl)
theorem dX0_isState_1 : decode cX0_isState 1 = .ok (.istore_n 2, 1) := dk_61 (dk_at dksX0_isState_0 1 rfl rfl)
theorem dX0_isState_2 : decode cX0_isState 2 = .ok (.iload_n 2, 1) := dk_28 (dk_at dksX0_isState_0 2 rfl rfl)
theorem dX0_isState_3 : decode cX0_isState 3 = .ok (.aload_n 0, 1) := dk_42 (dk_at dksX0_isState_0 3 rfl rfl)
theorem dX0_isState_4 : decode cX0_isState 4 = .ok (.getfield 122, 3) := dk_180 0 122 (dk_at dksX0_isState_0 4 rfl rfl)
theorem dX0_isState_7 : decode cX0_isState 7 = .ok (.arraylength, 1) := dk_190 (dk_at dksX0_isState_0 7 rfl rfl)
theorem dX0_isState_8 : decode cX0_isState 8 = .ok (.if_icmp .ge 28, 3) := dk_162 0 28 (dk_at dksX0_isState_0 8 rfl rfl)
theorem dX0_isState_11 : decode cX0_isState 11 = .ok (.iload_n 1, 1) := dk_27 (dk_at dksX0_isState_0 11 rfl rfl)
theorem dX0_isState_12 : decode cX0_isState 12 = .ok (.iload_n 2, 1) := dk_28 (dk_at dksX0_isState_0 12 rfl rfl)
theorem dX0_isState_13 : decode cX0_isState 13 = .ok (.invokestatic 551, 3) := dk_184 2 39 (dk_at dksX0_isState_0 13 rfl rfl)
theorem dX0_isState_16 : decode cX0_isState 16 = .ok (.aload_n 0, 1) := dk_42 (dk_at dksX0_isState_0 16 rfl rfl)
theorem dX0_isState_17 : decode cX0_isState 17 = .ok (.getfield 122, 3) := dk_180 0 122 (dk_at dksX0_isState_0 17 rfl rfl)
theorem dX0_isState_20 : decode cX0_isState 20 = .ok (.iload_n 2, 1) := dk_28 (dk_at dksX0_isState_0 20 rfl rfl)
theorem dX0_isState_21 : decode cX0_isState 21 = .ok (.aaload, 1) := dk_50 (dk_at dksX0_isState_0 21 rfl rfl)
theorem dX0_isState_22 : decode cX0_isState 22 = .ok (.invokevirtual 527, 3) := dk_182 2 15 (dk_at dksX0_isState_1 0 rfl rfl)
theorem dX0_isState_25 : decode cX0_isState 25 = .ok (.if_icmp .le 5, 3) := dk_164 0 5 (dk_at dksX0_isState_1 3 rfl rfl)
theorem dX0_isState_28 : decode cX0_isState 28 = .ok (.iconst 0, 1) := dk_3 (dk_at dksX0_isState_1 6 rfl rfl)
theorem dX0_isState_29 : decode cX0_isState 29 = .ok (.ireturn, 1) := dk_172 (dk_at dksX0_isState_1 7 rfl rfl)
theorem dX0_isState_30 : decode cX0_isState 30 = .ok (.iinc 2 1, 3) := dk_132 2 1 (dk_at dksX0_isState_1 8 rfl rfl)
theorem dX0_isState_33 : decode cX0_isState 33 = .ok (.goto (-31), 3) := dk_167 255 225 (dk_at dksX0_isState_1 11 rfl rfl)
theorem dX0_isState_36 : decode cX0_isState 36 = .ok (.iconst 1, 1) := dk_4 (dk_at dksX0_isState_1 14 rfl rfl)
theorem dX0_isState_37 : decode cX0_isState 37 = .ok (.ireturn, 1) := dk_172 (dk_at dksX0_isState_1 15 rfl rfl)
abbrev cX0_doneIn : ByteArray := prog_1_method_60_code
def yX0_doneIn : MethodName := ⟨RX0, "doneIn", "(II)I"⟩
def dkwX0_doneIn_0 : List UInt8 := [26, 5, 27, 104, 122, 6, 126, 172]
abbrev dktX0_doneIn_0 : List UInt8 := dkwX0_doneIn_0 ++ []
theorem dksX0_doneIn_0 : cX0_doneIn.data.toList.drop 0 = dktX0_doneIn_0 := by decide +kernel
theorem dX0_doneIn_0 : decode cX0_doneIn 0 = .ok (.iload_n 0, 1) := dk_26 (dk_at dksX0_doneIn_0 0 rfl rfl)
theorem dX0_doneIn_1 : decode cX0_doneIn 1 = .ok (.iconst 2, 1) := dk_5 (dk_at dksX0_doneIn_0 1 rfl rfl)
theorem dX0_doneIn_2 : decode cX0_doneIn 2 = .ok (.iload_n 1, 1) := dk_27 (dk_at dksX0_doneIn_0 2 rfl rfl)
theorem dX0_doneIn_3 : decode cX0_doneIn 3 = .ok (.imul, 1) := dk_104 (dk_at dksX0_doneIn_0 3 rfl rfl)
theorem dX0_doneIn_4 : decode cX0_doneIn 4 = .ok (.ishr, 1) := dk_122 (dk_at dksX0_doneIn_0 4 rfl rfl)
theorem dX0_doneIn_5 : decode cX0_doneIn 5 = .ok (.iconst 3, 1) := dk_6 (dk_at dksX0_doneIn_0 5 rfl rfl)
theorem dX0_doneIn_6 : decode cX0_doneIn 6 = .ok (.iand, 1) := dk_126 (dk_at dksX0_doneIn_0 6 rfl rfl)
theorem dX0_doneIn_7 : decode cX0_doneIn 7 = .ok (.ireturn, 1) := dk_172 (dk_at dksX0_doneIn_0 7 rfl rfl)
abbrev cX0_fromHere : ByteArray := prog_1_method_67_code
def yX0_fromHere : MethodName := ⟨RX0, "fromHere", "(I)I"⟩
def dkwX0_fromHere_4 : List UInt8 := [172]
abbrev dktX0_fromHere_4 : List UInt8 := dkwX0_fromHere_4 ++ []
def dkwX0_fromHere_3 : List UInt8 := [162, 0, 10, 21, 5, 4, 96, 167, 0, 4, 29, 62, 21, 4, 4, 100, 28, 126, 54, 4, 167, 255, 179, 29]
abbrev dktX0_fromHere_3 : List UInt8 := dkwX0_fromHere_3 ++ dktX0_fromHere_4
def dkwX0_fromHere_2 : List UInt8 := [184, 2, 51, 51, 54, 5, 21, 5, 2, 159, 0, 23, 29, 2, 159, 0, 11, 21, 5, 4, 96, 29]
abbrev dktX0_fromHere_2 : List UInt8 := dkwX0_fromHere_2 ++ dktX0_fromHere_3
def dkwX0_fromHere_1 : List UInt8 := [153, 0, 57, 42, 28, 21, 4, 182, 2, 48, 154, 0, 6, 167, 0, 44, 42, 180, 0, 189, 27, 21, 4]
abbrev dktX0_fromHere_1 : List UInt8 := dkwX0_fromHere_1 ++ dktX0_fromHere_2
def dkwX0_fromHere_0 : List UInt8 := [42, 27, 182, 2, 45, 61, 2, 62, 28, 54, 4, 21, 4, 158, 0, 78, 42, 180, 0, 185, 21, 4, 51]
abbrev dktX0_fromHere_0 : List UInt8 := dkwX0_fromHere_0 ++ dktX0_fromHere_1
theorem dksX0_fromHere_0 : cX0_fromHere.data.toList.drop 0 = dktX0_fromHere_0 := by decide +kernel
theorem dksX0_fromHere_1 : cX0_fromHere.data.toList.drop 23 = dktX0_fromHere_1 := dk_seg dksX0_fromHere_0 23 rfl rfl
theorem dksX0_fromHere_2 : cX0_fromHere.data.toList.drop 46 = dktX0_fromHere_2 := dk_seg dksX0_fromHere_1 23 rfl rfl
theorem dksX0_fromHere_3 : cX0_fromHere.data.toList.drop 68 = dktX0_fromHere_3 := dk_seg dksX0_fromHere_2 22 rfl rfl
theorem dksX0_fromHere_4 : cX0_fromHere.data.toList.drop 92 = dktX0_fromHere_4 := dk_seg dksX0_fromHere_3 24 rfl rfl
theorem dX0_fromHere_0 : decode cX0_fromHere 0 = .ok (.aload_n 0, 1) := dk_42 (dk_at dksX0_fromHere_0 0 rfl rfl)
theorem dX0_fromHere_1 : decode cX0_fromHere 1 = .ok (.iload_n 1, 1) := dk_27 (dk_at dksX0_fromHere_0 1 rfl rfl)
theorem dX0_fromHere_2 : decode cX0_fromHere 2 = .ok (.invokevirtual 557, 3) := dk_182 2 45 (dk_at dksX0_fromHere_0 2 rfl rfl)
theorem dX0_fromHere_5 : decode cX0_fromHere 5 = .ok (.istore_n 2, 1) := dk_61 (dk_at dksX0_fromHere_0 5 rfl rfl)
theorem dX0_fromHere_6 : decode cX0_fromHere 6 = .ok (.iconst (-1), 1) := dk_2 (dk_at dksX0_fromHere_0 6 rfl rfl)
theorem dX0_fromHere_7 : decode cX0_fromHere 7 = .ok (.istore_n 3, 1) := dk_62 (dk_at dksX0_fromHere_0 7 rfl rfl)
theorem dX0_fromHere_8 : decode cX0_fromHere 8 = .ok (.iload_n 2, 1) := dk_28 (dk_at dksX0_fromHere_0 8 rfl rfl)
theorem dX0_fromHere_9 : decode cX0_fromHere 9 = .ok (.istore 4, 2) := dk_54 4 (dk_at dksX0_fromHere_0 9 rfl rfl)
theorem dX0_fromHere_11 : decode cX0_fromHere 11 = .ok (.iload 4, 2) := dk_21 4 (dk_at dksX0_fromHere_0 11 rfl rfl)
theorem dX0_fromHere_13 : decode cX0_fromHere 13 = .ok (.ifCond .le 78, 3) := dk_158 0 78 (dk_at dksX0_fromHere_0 13 rfl rfl)
theorem dX0_fromHere_16 : decode cX0_fromHere 16 = .ok (.aload_n 0, 1) := dk_42 (dk_at dksX0_fromHere_0 16 rfl rfl)
theorem dX0_fromHere_17 : decode cX0_fromHere 17 = .ok (.getfield 185, 3) := dk_180 0 185 (dk_at dksX0_fromHere_0 17 rfl rfl)
theorem dX0_fromHere_20 : decode cX0_fromHere 20 = .ok (.iload 4, 2) := dk_21 4 (dk_at dksX0_fromHere_0 20 rfl rfl)
theorem dX0_fromHere_22 : decode cX0_fromHere 22 = .ok (.baload, 1) := dk_51 (dk_at dksX0_fromHere_0 22 rfl rfl)
theorem dX0_fromHere_23 : decode cX0_fromHere 23 = .ok (.ifCond .eq 57, 3) := dk_153 0 57 (dk_at dksX0_fromHere_1 0 rfl rfl)
theorem dX0_fromHere_26 : decode cX0_fromHere 26 = .ok (.aload_n 0, 1) := dk_42 (dk_at dksX0_fromHere_1 3 rfl rfl)
theorem dX0_fromHere_27 : decode cX0_fromHere 27 = .ok (.iload_n 2, 1) := dk_28 (dk_at dksX0_fromHere_1 4 rfl rfl)
theorem dX0_fromHere_28 : decode cX0_fromHere 28 = .ok (.iload 4, 2) := dk_21 4 (dk_at dksX0_fromHere_1 5 rfl rfl)
theorem dX0_fromHere_30 : decode cX0_fromHere 30 = .ok (.invokevirtual 560, 3) := dk_182 2 48 (dk_at dksX0_fromHere_1 7 rfl rfl)
theorem dX0_fromHere_33 : decode cX0_fromHere 33 = .ok (.ifCond .ne 6, 3) := dk_154 0 6 (dk_at dksX0_fromHere_1 10 rfl rfl)
theorem dX0_fromHere_36 : decode cX0_fromHere 36 = .ok (.goto 44, 3) := dk_167 0 44 (dk_at dksX0_fromHere_1 13 rfl rfl)
theorem dX0_fromHere_39 : decode cX0_fromHere 39 = .ok (.aload_n 0, 1) := dk_42 (dk_at dksX0_fromHere_1 16 rfl rfl)
theorem dX0_fromHere_40 : decode cX0_fromHere 40 = .ok (.getfield 189, 3) := dk_180 0 189 (dk_at dksX0_fromHere_1 17 rfl rfl)
theorem dX0_fromHere_43 : decode cX0_fromHere 43 = .ok (.iload_n 1, 1) := dk_27 (dk_at dksX0_fromHere_1 20 rfl rfl)
theorem dX0_fromHere_44 : decode cX0_fromHere 44 = .ok (.iload 4, 2) := dk_21 4 (dk_at dksX0_fromHere_1 21 rfl rfl)
theorem dX0_fromHere_46 : decode cX0_fromHere 46 = .ok (.invokestatic 563, 3) := dk_184 2 51 (dk_at dksX0_fromHere_2 0 rfl rfl)
theorem dX0_fromHere_49 : decode cX0_fromHere 49 = .ok (.baload, 1) := dk_51 (dk_at dksX0_fromHere_2 3 rfl rfl)
theorem dX0_fromHere_50 : decode cX0_fromHere 50 = .ok (.istore 5, 2) := dk_54 5 (dk_at dksX0_fromHere_2 4 rfl rfl)
theorem dX0_fromHere_52 : decode cX0_fromHere 52 = .ok (.iload 5, 2) := dk_21 5 (dk_at dksX0_fromHere_2 6 rfl rfl)
theorem dX0_fromHere_54 : decode cX0_fromHere 54 = .ok (.iconst (-1), 1) := dk_2 (dk_at dksX0_fromHere_2 8 rfl rfl)
theorem dX0_fromHere_55 : decode cX0_fromHere 55 = .ok (.if_icmp .eq 23, 3) := dk_159 0 23 (dk_at dksX0_fromHere_2 9 rfl rfl)
theorem dX0_fromHere_58 : decode cX0_fromHere 58 = .ok (.iload_n 3, 1) := dk_29 (dk_at dksX0_fromHere_2 12 rfl rfl)
theorem dX0_fromHere_59 : decode cX0_fromHere 59 = .ok (.iconst (-1), 1) := dk_2 (dk_at dksX0_fromHere_2 13 rfl rfl)
theorem dX0_fromHere_60 : decode cX0_fromHere 60 = .ok (.if_icmp .eq 11, 3) := dk_159 0 11 (dk_at dksX0_fromHere_2 14 rfl rfl)
theorem dX0_fromHere_63 : decode cX0_fromHere 63 = .ok (.iload 5, 2) := dk_21 5 (dk_at dksX0_fromHere_2 17 rfl rfl)
theorem dX0_fromHere_65 : decode cX0_fromHere 65 = .ok (.iconst 1, 1) := dk_4 (dk_at dksX0_fromHere_2 19 rfl rfl)
theorem dX0_fromHere_66 : decode cX0_fromHere 66 = .ok (.iadd, 1) := dk_96 (dk_at dksX0_fromHere_2 20 rfl rfl)
theorem dX0_fromHere_67 : decode cX0_fromHere 67 = .ok (.iload_n 3, 1) := dk_29 (dk_at dksX0_fromHere_2 21 rfl rfl)
theorem dX0_fromHere_68 : decode cX0_fromHere 68 = .ok (.if_icmp .ge 10, 3) := dk_162 0 10 (dk_at dksX0_fromHere_3 0 rfl rfl)
theorem dX0_fromHere_71 : decode cX0_fromHere 71 = .ok (.iload 5, 2) := dk_21 5 (dk_at dksX0_fromHere_3 3 rfl rfl)
theorem dX0_fromHere_73 : decode cX0_fromHere 73 = .ok (.iconst 1, 1) := dk_4 (dk_at dksX0_fromHere_3 5 rfl rfl)
theorem dX0_fromHere_74 : decode cX0_fromHere 74 = .ok (.iadd, 1) := dk_96 (dk_at dksX0_fromHere_3 6 rfl rfl)
theorem dX0_fromHere_75 : decode cX0_fromHere 75 = .ok (.goto 4, 3) := dk_167 0 4 (dk_at dksX0_fromHere_3 7 rfl rfl)
theorem dX0_fromHere_78 : decode cX0_fromHere 78 = .ok (.iload_n 3, 1) := dk_29 (dk_at dksX0_fromHere_3 10 rfl rfl)
theorem dX0_fromHere_79 : decode cX0_fromHere 79 = .ok (.istore_n 3, 1) := dk_62 (dk_at dksX0_fromHere_3 11 rfl rfl)
theorem dX0_fromHere_80 : decode cX0_fromHere 80 = .ok (.iload 4, 2) := dk_21 4 (dk_at dksX0_fromHere_3 12 rfl rfl)
theorem dX0_fromHere_82 : decode cX0_fromHere 82 = .ok (.iconst 1, 1) := dk_4 (dk_at dksX0_fromHere_3 14 rfl rfl)
theorem dX0_fromHere_83 : decode cX0_fromHere 83 = .ok (.isub, 1) := dk_100 (dk_at dksX0_fromHere_3 15 rfl rfl)
theorem dX0_fromHere_84 : decode cX0_fromHere 84 = .ok (.iload_n 2, 1) := dk_28 (dk_at dksX0_fromHere_3 16 rfl rfl)
theorem dX0_fromHere_85 : decode cX0_fromHere 85 = .ok (.iand, 1) := dk_126 (dk_at dksX0_fromHere_3 17 rfl rfl)
theorem dX0_fromHere_86 : decode cX0_fromHere 86 = .ok (.istore 4, 2) := dk_54 4 (dk_at dksX0_fromHere_3 18 rfl rfl)
theorem dX0_fromHere_88 : decode cX0_fromHere 88 = .ok (.goto (-77), 3) := dk_167 255 179 (dk_at dksX0_fromHere_3 20 rfl rfl)
theorem dX0_fromHere_91 : decode cX0_fromHere 91 = .ok (.iload_n 3, 1) := dk_29 (dk_at dksX0_fromHere_3 23 rfl rfl)
theorem dX0_fromHere_92 : decode cX0_fromHere 92 = .ok (.ireturn, 1) := dk_172 (dk_at dksX0_fromHere_4 0 rfl rfl)
abbrev cX0_openIn : ByteArray := prog_1_method_61_code
def yX0_openIn : MethodName := ⟨RX0, "openIn", "(I)I"⟩
def dkwX0_openIn_4 : List UInt8 := [128, 62, 132, 4, 1, 167, 255, 206, 29, 172]
abbrev dktX0_openIn_4 : List UInt8 := dkwX0_openIn_4 ++ []
def dkwX0_openIn_3 : List UInt8 := [180, 0, 122, 21, 4, 50, 182, 2, 17, 28, 2, 130, 126, 154, 0, 10, 4, 21, 4, 120, 167, 0, 4, 3]
abbrev dktX0_openIn_3 : List UInt8 := dkwX0_openIn_3 ++ dktX0_openIn_4
def dkwX0_openIn_2 : List UInt8 := [3, 54, 4, 21, 4, 42, 180, 0, 122, 190, 162, 0, 46, 29, 28, 21, 4, 184, 1, 247, 154, 0, 27, 42]
abbrev dktX0_openIn_2 : List UInt8 := dkwX0_openIn_2 ++ dktX0_openIn_3
def dkwX0_openIn_1 : List UInt8 := [50, 182, 2, 15, 160, 0, 9, 4, 29, 120, 167, 0, 4, 3, 128, 61, 132, 3, 1, 167, 255, 217, 3, 62]
abbrev dktX0_openIn_1 : List UInt8 := dkwX0_openIn_1 ++ dktX0_openIn_2
def dkwX0_openIn_0 : List UInt8 := [3, 61, 3, 62, 29, 42, 180, 0, 122, 190, 162, 0, 36, 28, 27, 29, 184, 2, 39, 42, 180, 0, 122, 29]
abbrev dktX0_openIn_0 : List UInt8 := dkwX0_openIn_0 ++ dktX0_openIn_1
theorem dksX0_openIn_0 : cX0_openIn.data.toList.drop 0 = dktX0_openIn_0 := by decide +kernel
theorem dksX0_openIn_1 : cX0_openIn.data.toList.drop 24 = dktX0_openIn_1 := dk_seg dksX0_openIn_0 24 rfl rfl
theorem dksX0_openIn_2 : cX0_openIn.data.toList.drop 48 = dktX0_openIn_2 := dk_seg dksX0_openIn_1 24 rfl rfl
theorem dksX0_openIn_3 : cX0_openIn.data.toList.drop 72 = dktX0_openIn_3 := dk_seg dksX0_openIn_2 24 rfl rfl
theorem dksX0_openIn_4 : cX0_openIn.data.toList.drop 96 = dktX0_openIn_4 := dk_seg dksX0_openIn_3 24 rfl rfl
theorem dX0_openIn_0 : decode cX0_openIn 0 = .ok (.iconst 0, 1) := dk_3 (dk_at dksX0_openIn_0 0 rfl rfl)
theorem dX0_openIn_1 : decode cX0_openIn 1 = .ok (.istore_n 2, 1) := dk_61 (dk_at dksX0_openIn_0 1 rfl rfl)
theorem dX0_openIn_2 : decode cX0_openIn 2 = .ok (.iconst 0, 1) := dk_3 (dk_at dksX0_openIn_0 2 rfl rfl)
theorem dX0_openIn_3 : decode cX0_openIn 3 = .ok (.istore_n 3, 1) := dk_62 (dk_at dksX0_openIn_0 3 rfl rfl)
theorem dX0_openIn_4 : decode cX0_openIn 4 = .ok (.iload_n 3, 1) := dk_29 (dk_at dksX0_openIn_0 4 rfl rfl)
theorem dX0_openIn_5 : decode cX0_openIn 5 = .ok (.aload_n 0, 1) := dk_42 (dk_at dksX0_openIn_0 5 rfl rfl)
theorem dX0_openIn_6 : decode cX0_openIn 6 = .ok (.getfield 122, 3) := dk_180 0 122 (dk_at dksX0_openIn_0 6 rfl rfl)
theorem dX0_openIn_9 : decode cX0_openIn 9 = .ok (.arraylength, 1) := dk_190 (dk_at dksX0_openIn_0 9 rfl rfl)
theorem dX0_openIn_10 : decode cX0_openIn 10 = .ok (.if_icmp .ge 36, 3) := dk_162 0 36 (dk_at dksX0_openIn_0 10 rfl rfl)
theorem dX0_openIn_13 : decode cX0_openIn 13 = .ok (.iload_n 2, 1) := dk_28 (dk_at dksX0_openIn_0 13 rfl rfl)
theorem dX0_openIn_14 : decode cX0_openIn 14 = .ok (.iload_n 1, 1) := dk_27 (dk_at dksX0_openIn_0 14 rfl rfl)
theorem dX0_openIn_15 : decode cX0_openIn 15 = .ok (.iload_n 3, 1) := dk_29 (dk_at dksX0_openIn_0 15 rfl rfl)
theorem dX0_openIn_16 : decode cX0_openIn 16 = .ok (.invokestatic 551, 3) := dk_184 2 39 (dk_at dksX0_openIn_0 16 rfl rfl)
theorem dX0_openIn_19 : decode cX0_openIn 19 = .ok (.aload_n 0, 1) := dk_42 (dk_at dksX0_openIn_0 19 rfl rfl)
theorem dX0_openIn_20 : decode cX0_openIn 20 = .ok (.getfield 122, 3) := dk_180 0 122 (dk_at dksX0_openIn_0 20 rfl rfl)
theorem dX0_openIn_23 : decode cX0_openIn 23 = .ok (.iload_n 3, 1) := dk_29 (dk_at dksX0_openIn_0 23 rfl rfl)
theorem dX0_openIn_24 : decode cX0_openIn 24 = .ok (.aaload, 1) := dk_50 (dk_at dksX0_openIn_1 0 rfl rfl)
theorem dX0_openIn_25 : decode cX0_openIn 25 = .ok (.invokevirtual 527, 3) := dk_182 2 15 (dk_at dksX0_openIn_1 1 rfl rfl)
theorem dX0_openIn_28 : decode cX0_openIn 28 = .ok (.if_icmp .ne 9, 3) := dk_160 0 9 (dk_at dksX0_openIn_1 4 rfl rfl)
theorem dX0_openIn_31 : decode cX0_openIn 31 = .ok (.iconst 1, 1) := dk_4 (dk_at dksX0_openIn_1 7 rfl rfl)
theorem dX0_openIn_32 : decode cX0_openIn 32 = .ok (.iload_n 3, 1) := dk_29 (dk_at dksX0_openIn_1 8 rfl rfl)
theorem dX0_openIn_33 : decode cX0_openIn 33 = .ok (.ishl, 1) := dk_120 (dk_at dksX0_openIn_1 9 rfl rfl)
theorem dX0_openIn_34 : decode cX0_openIn 34 = .ok (.goto 4, 3) := dk_167 0 4 (dk_at dksX0_openIn_1 10 rfl rfl)
theorem dX0_openIn_37 : decode cX0_openIn 37 = .ok (.iconst 0, 1) := dk_3 (dk_at dksX0_openIn_1 13 rfl rfl)
theorem dX0_openIn_38 : decode cX0_openIn 38 = .ok (.ior, 1) := dk_128 (dk_at dksX0_openIn_1 14 rfl rfl)
theorem dX0_openIn_39 : decode cX0_openIn 39 = .ok (.istore_n 2, 1) := dk_61 (dk_at dksX0_openIn_1 15 rfl rfl)
theorem dX0_openIn_40 : decode cX0_openIn 40 = .ok (.iinc 3 1, 3) := dk_132 3 1 (dk_at dksX0_openIn_1 16 rfl rfl)
theorem dX0_openIn_43 : decode cX0_openIn 43 = .ok (.goto (-39), 3) := dk_167 255 217 (dk_at dksX0_openIn_1 19 rfl rfl)
theorem dX0_openIn_46 : decode cX0_openIn 46 = .ok (.iconst 0, 1) := dk_3 (dk_at dksX0_openIn_1 22 rfl rfl)
theorem dX0_openIn_47 : decode cX0_openIn 47 = .ok (.istore_n 3, 1) := dk_62 (dk_at dksX0_openIn_1 23 rfl rfl)
theorem dX0_openIn_48 : decode cX0_openIn 48 = .ok (.iconst 0, 1) := dk_3 (dk_at dksX0_openIn_2 0 rfl rfl)
theorem dX0_openIn_49 : decode cX0_openIn 49 = .ok (.istore 4, 2) := dk_54 4 (dk_at dksX0_openIn_2 1 rfl rfl)
theorem dX0_openIn_51 : decode cX0_openIn 51 = .ok (.iload 4, 2) := dk_21 4 (dk_at dksX0_openIn_2 3 rfl rfl)
theorem dX0_openIn_53 : decode cX0_openIn 53 = .ok (.aload_n 0, 1) := dk_42 (dk_at dksX0_openIn_2 5 rfl rfl)
theorem dX0_openIn_54 : decode cX0_openIn 54 = .ok (.getfield 122, 3) := dk_180 0 122 (dk_at dksX0_openIn_2 6 rfl rfl)
theorem dX0_openIn_57 : decode cX0_openIn 57 = .ok (.arraylength, 1) := dk_190 (dk_at dksX0_openIn_2 9 rfl rfl)
theorem dX0_openIn_58 : decode cX0_openIn 58 = .ok (.if_icmp .ge 46, 3) := dk_162 0 46 (dk_at dksX0_openIn_2 10 rfl rfl)
theorem dX0_openIn_61 : decode cX0_openIn 61 = .ok (.iload_n 3, 1) := dk_29 (dk_at dksX0_openIn_2 13 rfl rfl)
theorem dX0_openIn_62 : decode cX0_openIn 62 = .ok (.iload_n 2, 1) := dk_28 (dk_at dksX0_openIn_2 14 rfl rfl)
theorem dX0_openIn_63 : decode cX0_openIn 63 = .ok (.iload 4, 2) := dk_21 4 (dk_at dksX0_openIn_2 15 rfl rfl)
theorem dX0_openIn_65 : decode cX0_openIn 65 = .ok (.invokestatic 503, 3) := dk_184 1 247 (dk_at dksX0_openIn_2 17 rfl rfl)
theorem dX0_openIn_68 : decode cX0_openIn 68 = .ok (.ifCond .ne 27, 3) := dk_154 0 27 (dk_at dksX0_openIn_2 20 rfl rfl)
theorem dX0_openIn_71 : decode cX0_openIn 71 = .ok (.aload_n 0, 1) := dk_42 (dk_at dksX0_openIn_2 23 rfl rfl)
theorem dX0_openIn_72 : decode cX0_openIn 72 = .ok (.getfield 122, 3) := dk_180 0 122 (dk_at dksX0_openIn_3 0 rfl rfl)
theorem dX0_openIn_75 : decode cX0_openIn 75 = .ok (.iload 4, 2) := dk_21 4 (dk_at dksX0_openIn_3 3 rfl rfl)
theorem dX0_openIn_77 : decode cX0_openIn 77 = .ok (.aaload, 1) := dk_50 (dk_at dksX0_openIn_3 5 rfl rfl)
theorem dX0_openIn_78 : decode cX0_openIn 78 = .ok (.invokevirtual 529, 3) := dk_182 2 17 (dk_at dksX0_openIn_3 6 rfl rfl)
theorem dX0_openIn_81 : decode cX0_openIn 81 = .ok (.iload_n 2, 1) := dk_28 (dk_at dksX0_openIn_3 9 rfl rfl)
theorem dX0_openIn_82 : decode cX0_openIn 82 = .ok (.iconst (-1), 1) := dk_2 (dk_at dksX0_openIn_3 10 rfl rfl)
theorem dX0_openIn_83 : decode cX0_openIn 83 = .ok (.ixor, 1) := dk_130 (dk_at dksX0_openIn_3 11 rfl rfl)
theorem dX0_openIn_84 : decode cX0_openIn 84 = .ok (.iand, 1) := dk_126 (dk_at dksX0_openIn_3 12 rfl rfl)
theorem dX0_openIn_85 : decode cX0_openIn 85 = .ok (.ifCond .ne 10, 3) := dk_154 0 10 (dk_at dksX0_openIn_3 13 rfl rfl)
theorem dX0_openIn_88 : decode cX0_openIn 88 = .ok (.iconst 1, 1) := dk_4 (dk_at dksX0_openIn_3 16 rfl rfl)
theorem dX0_openIn_89 : decode cX0_openIn 89 = .ok (.iload 4, 2) := dk_21 4 (dk_at dksX0_openIn_3 17 rfl rfl)
theorem dX0_openIn_91 : decode cX0_openIn 91 = .ok (.ishl, 1) := dk_120 (dk_at dksX0_openIn_3 19 rfl rfl)
theorem dX0_openIn_92 : decode cX0_openIn 92 = .ok (.goto 4, 3) := dk_167 0 4 (dk_at dksX0_openIn_3 20 rfl rfl)
theorem dX0_openIn_95 : decode cX0_openIn 95 = .ok (.iconst 0, 1) := dk_3 (dk_at dksX0_openIn_3 23 rfl rfl)
theorem dX0_openIn_96 : decode cX0_openIn 96 = .ok (.ior, 1) := dk_128 (dk_at dksX0_openIn_4 0 rfl rfl)
theorem dX0_openIn_97 : decode cX0_openIn 97 = .ok (.istore_n 3, 1) := dk_62 (dk_at dksX0_openIn_4 1 rfl rfl)
theorem dX0_openIn_98 : decode cX0_openIn 98 = .ok (.iinc 4 1, 3) := dk_132 4 1 (dk_at dksX0_openIn_4 2 rfl rfl)
theorem dX0_openIn_101 : decode cX0_openIn 101 = .ok (.goto (-50), 3) := dk_167 255 206 (dk_at dksX0_openIn_4 5 rfl rfl)
theorem dX0_openIn_104 : decode cX0_openIn 104 = .ok (.iload_n 3, 1) := dk_29 (dk_at dksX0_openIn_4 8 rfl rfl)
theorem dX0_openIn_105 : decode cX0_openIn 105 = .ok (.ireturn, 1) := dk_172 (dk_at dksX0_openIn_4 9 rfl rfl)
abbrev cX0_isFull : ByteArray := prog_1_method_65_code
def yX0_isFull : MethodName := ⟨RX0, "isFull", "(II)Z"⟩
def dkwX0_isFull_1 : List UInt8 := [3, 172, 29, 29, 4, 100, 126, 62, 167, 255, 230, 4, 172]
abbrev dktX0_isFull_1 : List UInt8 := dkwX0_isFull_1 ++ []
def dkwX0_isFull_0 : List UInt8 := [27, 28, 2, 130, 126, 62, 29, 153, 0, 28, 42, 180, 0, 185, 28, 29, 184, 2, 42, 128, 51, 153, 0, 5]
abbrev dktX0_isFull_0 : List UInt8 := dkwX0_isFull_0 ++ dktX0_isFull_1
theorem dksX0_isFull_0 : cX0_isFull.data.toList.drop 0 = dktX0_isFull_0 := by decide +kernel
theorem dksX0_isFull_1 : cX0_isFull.data.toList.drop 24 = dktX0_isFull_1 := dk_seg dksX0_isFull_0 24 rfl rfl
theorem dX0_isFull_0 : decode cX0_isFull 0 = .ok (.iload_n 1, 1) := dk_27 (dk_at dksX0_isFull_0 0 rfl rfl)
theorem dX0_isFull_1 : decode cX0_isFull 1 = .ok (.iload_n 2, 1) := dk_28 (dk_at dksX0_isFull_0 1 rfl rfl)
theorem dX0_isFull_2 : decode cX0_isFull 2 = .ok (.iconst (-1), 1) := dk_2 (dk_at dksX0_isFull_0 2 rfl rfl)
theorem dX0_isFull_3 : decode cX0_isFull 3 = .ok (.ixor, 1) := dk_130 (dk_at dksX0_isFull_0 3 rfl rfl)
theorem dX0_isFull_4 : decode cX0_isFull 4 = .ok (.iand, 1) := dk_126 (dk_at dksX0_isFull_0 4 rfl rfl)
theorem dX0_isFull_5 : decode cX0_isFull 5 = .ok (.istore_n 3, 1) := dk_62 (dk_at dksX0_isFull_0 5 rfl rfl)
theorem dX0_isFull_6 : decode cX0_isFull 6 = .ok (.iload_n 3, 1) := dk_29 (dk_at dksX0_isFull_0 6 rfl rfl)
theorem dX0_isFull_7 : decode cX0_isFull 7 = .ok (.ifCond .eq 28, 3) := dk_153 0 28 (dk_at dksX0_isFull_0 7 rfl rfl)
theorem dX0_isFull_10 : decode cX0_isFull 10 = .ok (.aload_n 0, 1) := dk_42 (dk_at dksX0_isFull_0 10 rfl rfl)
theorem dX0_isFull_11 : decode cX0_isFull 11 = .ok (.getfield 185, 3) := dk_180 0 185 (dk_at dksX0_isFull_0 11 rfl rfl)
theorem dX0_isFull_14 : decode cX0_isFull 14 = .ok (.iload_n 2, 1) := dk_28 (dk_at dksX0_isFull_0 14 rfl rfl)
theorem dX0_isFull_15 : decode cX0_isFull 15 = .ok (.iload_n 3, 1) := dk_29 (dk_at dksX0_isFull_0 15 rfl rfl)
theorem dX0_isFull_16 : decode cX0_isFull 16 = .ok (.invokestatic 554, 3) := dk_184 2 42 (dk_at dksX0_isFull_0 16 rfl rfl)
theorem dX0_isFull_19 : decode cX0_isFull 19 = .ok (.ior, 1) := dk_128 (dk_at dksX0_isFull_0 19 rfl rfl)
theorem dX0_isFull_20 : decode cX0_isFull 20 = .ok (.baload, 1) := dk_51 (dk_at dksX0_isFull_0 20 rfl rfl)
theorem dX0_isFull_21 : decode cX0_isFull 21 = .ok (.ifCond .eq 5, 3) := dk_153 0 5 (dk_at dksX0_isFull_0 21 rfl rfl)
theorem dX0_isFull_24 : decode cX0_isFull 24 = .ok (.iconst 0, 1) := dk_3 (dk_at dksX0_isFull_1 0 rfl rfl)
theorem dX0_isFull_25 : decode cX0_isFull 25 = .ok (.ireturn, 1) := dk_172 (dk_at dksX0_isFull_1 1 rfl rfl)
theorem dX0_isFull_26 : decode cX0_isFull 26 = .ok (.iload_n 3, 1) := dk_29 (dk_at dksX0_isFull_1 2 rfl rfl)
theorem dX0_isFull_27 : decode cX0_isFull 27 = .ok (.iload_n 3, 1) := dk_29 (dk_at dksX0_isFull_1 3 rfl rfl)
theorem dX0_isFull_28 : decode cX0_isFull 28 = .ok (.iconst 1, 1) := dk_4 (dk_at dksX0_isFull_1 4 rfl rfl)
theorem dX0_isFull_29 : decode cX0_isFull 29 = .ok (.isub, 1) := dk_100 (dk_at dksX0_isFull_1 5 rfl rfl)
theorem dX0_isFull_30 : decode cX0_isFull 30 = .ok (.iand, 1) := dk_126 (dk_at dksX0_isFull_1 6 rfl rfl)
theorem dX0_isFull_31 : decode cX0_isFull 31 = .ok (.istore_n 3, 1) := dk_62 (dk_at dksX0_isFull_1 7 rfl rfl)
theorem dX0_isFull_32 : decode cX0_isFull 32 = .ok (.goto (-26), 3) := dk_167 255 230 (dk_at dksX0_isFull_1 8 rfl rfl)
theorem dX0_isFull_35 : decode cX0_isFull 35 = .ok (.iconst 1, 1) := dk_4 (dk_at dksX0_isFull_1 11 rfl rfl)
theorem dX0_isFull_36 : decode cX0_isFull 36 = .ok (.ireturn, 1) := dk_172 (dk_at dksX0_isFull_1 12 rfl rfl)
abbrev cX0_onBy : ByteArray := prog_1_method_62_code
def yX0_onBy : MethodName := ⟨RX0, "onBy", "(II)I"⟩
def dkwX0_onBy_1 : List UInt8 := [62, 167, 255, 235, 28, 172]
abbrev dktX0_onBy_1 : List UInt8 := dkwX0_onBy_1 ++ []
def dkwX0_onBy_0 : List UInt8 := [26, 61, 27, 62, 29, 153, 0, 23, 28, 4, 5, 29, 184, 2, 28, 104, 120, 96, 61, 29, 29, 4, 100, 126]
abbrev dktX0_onBy_0 : List UInt8 := dkwX0_onBy_0 ++ dktX0_onBy_1
theorem dksX0_onBy_0 : cX0_onBy.data.toList.drop 0 = dktX0_onBy_0 := by decide +kernel
theorem dksX0_onBy_1 : cX0_onBy.data.toList.drop 24 = dktX0_onBy_1 := dk_seg dksX0_onBy_0 24 rfl rfl
theorem dX0_onBy_0 : decode cX0_onBy 0 = .ok (.iload_n 0, 1) := dk_26 (dk_at dksX0_onBy_0 0 rfl rfl)
theorem dX0_onBy_1 : decode cX0_onBy 1 = .ok (.istore_n 2, 1) := dk_61 (dk_at dksX0_onBy_0 1 rfl rfl)
theorem dX0_onBy_2 : decode cX0_onBy 2 = .ok (.iload_n 1, 1) := dk_27 (dk_at dksX0_onBy_0 2 rfl rfl)
theorem dX0_onBy_3 : decode cX0_onBy 3 = .ok (.istore_n 3, 1) := dk_62 (dk_at dksX0_onBy_0 3 rfl rfl)
theorem dX0_onBy_4 : decode cX0_onBy 4 = .ok (.iload_n 3, 1) := dk_29 (dk_at dksX0_onBy_0 4 rfl rfl)
theorem dX0_onBy_5 : decode cX0_onBy 5 = .ok (.ifCond .eq 23, 3) := dk_153 0 23 (dk_at dksX0_onBy_0 5 rfl rfl)
theorem dX0_onBy_8 : decode cX0_onBy 8 = .ok (.iload_n 2, 1) := dk_28 (dk_at dksX0_onBy_0 8 rfl rfl)
theorem dX0_onBy_9 : decode cX0_onBy 9 = .ok (.iconst 1, 1) := dk_4 (dk_at dksX0_onBy_0 9 rfl rfl)
theorem dX0_onBy_10 : decode cX0_onBy 10 = .ok (.iconst 2, 1) := dk_5 (dk_at dksX0_onBy_0 10 rfl rfl)
theorem dX0_onBy_11 : decode cX0_onBy 11 = .ok (.iload_n 3, 1) := dk_29 (dk_at dksX0_onBy_0 11 rfl rfl)
theorem dX0_onBy_12 : decode cX0_onBy 12 = .ok (.invokestatic 540, 3) := dk_184 2 28 (dk_at dksX0_onBy_0 12 rfl rfl)
theorem dX0_onBy_15 : decode cX0_onBy 15 = .ok (.imul, 1) := dk_104 (dk_at dksX0_onBy_0 15 rfl rfl)
theorem dX0_onBy_16 : decode cX0_onBy 16 = .ok (.ishl, 1) := dk_120 (dk_at dksX0_onBy_0 16 rfl rfl)
theorem dX0_onBy_17 : decode cX0_onBy 17 = .ok (.iadd, 1) := dk_96 (dk_at dksX0_onBy_0 17 rfl rfl)
theorem dX0_onBy_18 : decode cX0_onBy 18 = .ok (.istore_n 2, 1) := dk_61 (dk_at dksX0_onBy_0 18 rfl rfl)
theorem dX0_onBy_19 : decode cX0_onBy 19 = .ok (.iload_n 3, 1) := dk_29 (dk_at dksX0_onBy_0 19 rfl rfl)
theorem dX0_onBy_20 : decode cX0_onBy 20 = .ok (.iload_n 3, 1) := dk_29 (dk_at dksX0_onBy_0 20 rfl rfl)
theorem dX0_onBy_21 : decode cX0_onBy 21 = .ok (.iconst 1, 1) := dk_4 (dk_at dksX0_onBy_0 21 rfl rfl)
theorem dX0_onBy_22 : decode cX0_onBy 22 = .ok (.isub, 1) := dk_100 (dk_at dksX0_onBy_0 22 rfl rfl)
theorem dX0_onBy_23 : decode cX0_onBy 23 = .ok (.iand, 1) := dk_126 (dk_at dksX0_onBy_0 23 rfl rfl)
theorem dX0_onBy_24 : decode cX0_onBy 24 = .ok (.istore_n 3, 1) := dk_62 (dk_at dksX0_onBy_1 0 rfl rfl)
theorem dX0_onBy_25 : decode cX0_onBy 25 = .ok (.goto (-21), 3) := dk_167 255 235 (dk_at dksX0_onBy_1 1 rfl rfl)
theorem dX0_onBy_28 : decode cX0_onBy 28 = .ok (.iload_n 2, 1) := dk_28 (dk_at dksX0_onBy_1 4 rfl rfl)
theorem dX0_onBy_29 : decode cX0_onBy 29 = .ok (.ireturn, 1) := dk_172 (dk_at dksX0_onBy_1 5 rfl rfl)
abbrev cX0_stateNow : ByteArray := prog_1_method_64_code
def yX0_stateNow : MethodName := ⟨RX0, "stateNow", "()I"⟩
def dkwX0_stateNow_1 : List UInt8 := [28, 104, 120, 128, 60, 132, 2, 1, 167, 255, 228, 27, 172]
abbrev dktX0_stateNow_1 : List UInt8 := dkwX0_stateNow_1 ++ []
def dkwX0_stateNow_0 : List UInt8 := [3, 60, 3, 61, 28, 42, 180, 0, 122, 190, 162, 0, 25, 27, 42, 180, 0, 164, 180, 1, 149, 28, 46, 5]
abbrev dktX0_stateNow_0 : List UInt8 := dkwX0_stateNow_0 ++ dktX0_stateNow_1
theorem dksX0_stateNow_0 : cX0_stateNow.data.toList.drop 0 = dktX0_stateNow_0 := by decide +kernel
theorem dksX0_stateNow_1 : cX0_stateNow.data.toList.drop 24 = dktX0_stateNow_1 := dk_seg dksX0_stateNow_0 24 rfl rfl
theorem dX0_stateNow_0 : decode cX0_stateNow 0 = .ok (.iconst 0, 1) := dk_3 (dk_at dksX0_stateNow_0 0 rfl rfl)
theorem dX0_stateNow_1 : decode cX0_stateNow 1 = .ok (.istore_n 1, 1) := dk_60 (dk_at dksX0_stateNow_0 1 rfl rfl)
theorem dX0_stateNow_2 : decode cX0_stateNow 2 = .ok (.iconst 0, 1) := dk_3 (dk_at dksX0_stateNow_0 2 rfl rfl)
theorem dX0_stateNow_3 : decode cX0_stateNow 3 = .ok (.istore_n 2, 1) := dk_61 (dk_at dksX0_stateNow_0 3 rfl rfl)
theorem dX0_stateNow_4 : decode cX0_stateNow 4 = .ok (.iload_n 2, 1) := dk_28 (dk_at dksX0_stateNow_0 4 rfl rfl)
theorem dX0_stateNow_5 : decode cX0_stateNow 5 = .ok (.aload_n 0, 1) := dk_42 (dk_at dksX0_stateNow_0 5 rfl rfl)
theorem dX0_stateNow_6 : decode cX0_stateNow 6 = .ok (.getfield 122, 3) := dk_180 0 122 (dk_at dksX0_stateNow_0 6 rfl rfl)
theorem dX0_stateNow_9 : decode cX0_stateNow 9 = .ok (.arraylength, 1) := dk_190 (dk_at dksX0_stateNow_0 9 rfl rfl)
theorem dX0_stateNow_10 : decode cX0_stateNow 10 = .ok (.if_icmp .ge 25, 3) := dk_162 0 25 (dk_at dksX0_stateNow_0 10 rfl rfl)
theorem dX0_stateNow_13 : decode cX0_stateNow 13 = .ok (.iload_n 1, 1) := dk_27 (dk_at dksX0_stateNow_0 13 rfl rfl)
theorem dX0_stateNow_14 : decode cX0_stateNow 14 = .ok (.aload_n 0, 1) := dk_42 (dk_at dksX0_stateNow_0 14 rfl rfl)
theorem dX0_stateNow_15 : decode cX0_stateNow 15 = .ok (.getfield 164, 3) := dk_180 0 164 (dk_at dksX0_stateNow_0 15 rfl rfl)
theorem dX0_stateNow_18 : decode cX0_stateNow 18 = .ok (.getfield 405, 3) := dk_180 1 149 (dk_at dksX0_stateNow_0 18 rfl rfl)
theorem dX0_stateNow_21 : decode cX0_stateNow 21 = .ok (.iload_n 2, 1) := dk_28 (dk_at dksX0_stateNow_0 21 rfl rfl)
theorem dX0_stateNow_22 : decode cX0_stateNow 22 = .ok (.iaload, 1) := dk_46 (dk_at dksX0_stateNow_0 22 rfl rfl)
theorem dX0_stateNow_23 : decode cX0_stateNow 23 = .ok (.iconst 2, 1) := dk_5 (dk_at dksX0_stateNow_0 23 rfl rfl)
theorem dX0_stateNow_24 : decode cX0_stateNow 24 = .ok (.iload_n 2, 1) := dk_28 (dk_at dksX0_stateNow_1 0 rfl rfl)
theorem dX0_stateNow_25 : decode cX0_stateNow 25 = .ok (.imul, 1) := dk_104 (dk_at dksX0_stateNow_1 1 rfl rfl)
theorem dX0_stateNow_26 : decode cX0_stateNow 26 = .ok (.ishl, 1) := dk_120 (dk_at dksX0_stateNow_1 2 rfl rfl)
theorem dX0_stateNow_27 : decode cX0_stateNow 27 = .ok (.ior, 1) := dk_128 (dk_at dksX0_stateNow_1 3 rfl rfl)
theorem dX0_stateNow_28 : decode cX0_stateNow 28 = .ok (.istore_n 1, 1) := dk_60 (dk_at dksX0_stateNow_1 4 rfl rfl)
theorem dX0_stateNow_29 : decode cX0_stateNow 29 = .ok (.iinc 2 1, 3) := dk_132 2 1 (dk_at dksX0_stateNow_1 5 rfl rfl)
theorem dX0_stateNow_32 : decode cX0_stateNow 32 = .ok (.goto (-28), 3) := dk_167 255 228 (dk_at dksX0_stateNow_1 8 rfl rfl)
theorem dX0_stateNow_35 : decode cX0_stateNow 35 = .ok (.iload_n 1, 1) := dk_27 (dk_at dksX0_stateNow_1 11 rfl rfl)
theorem dX0_stateNow_36 : decode cX0_stateNow 36 = .ok (.ireturn, 1) := dk_172 (dk_at dksX0_stateNow_1 12 rfl rfl)
abbrev cX0_firstSet : ByteArray := prog_1_method_69_code
def yX0_firstSet : MethodName := ⟨RX0, "firstSet", "(I)I"⟩
def dkwX0_firstSet_2 : List UInt8 := [184, 2, 51, 51, 27, 4, 100, 160, 0, 6, 21, 4, 172, 132, 4, 1, 167, 255, 208, 3, 172]
abbrev dktX0_firstSet_2 : List UInt8 := dkwX0_firstSet_2 ++ []
def dkwX0_firstSet_1 : List UInt8 := [130, 126, 154, 0, 33, 42, 180, 0, 185, 21, 4, 51, 153, 0, 23, 42, 180, 0, 189, 28, 21, 4]
abbrev dktX0_firstSet_1 : List UInt8 := dkwX0_firstSet_1 ++ dktX0_firstSet_2
def dkwX0_firstSet_0 : List UInt8 := [42, 182, 2, 63, 61, 42, 28, 182, 2, 45, 62, 4, 54, 4, 21, 4, 29, 163, 0, 48, 21, 4, 29, 2]
abbrev dktX0_firstSet_0 : List UInt8 := dkwX0_firstSet_0 ++ dktX0_firstSet_1
theorem dksX0_firstSet_0 : cX0_firstSet.data.toList.drop 0 = dktX0_firstSet_0 := by decide +kernel
theorem dksX0_firstSet_1 : cX0_firstSet.data.toList.drop 24 = dktX0_firstSet_1 := dk_seg dksX0_firstSet_0 24 rfl rfl
theorem dksX0_firstSet_2 : cX0_firstSet.data.toList.drop 46 = dktX0_firstSet_2 := dk_seg dksX0_firstSet_1 22 rfl rfl
theorem dX0_firstSet_0 : decode cX0_firstSet 0 = .ok (.aload_n 0, 1) := dk_42 (dk_at dksX0_firstSet_0 0 rfl rfl)
theorem dX0_firstSet_1 : decode cX0_firstSet 1 = .ok (.invokevirtual 575, 3) := dk_182 2 63 (dk_at dksX0_firstSet_0 1 rfl rfl)
theorem dX0_firstSet_4 : decode cX0_firstSet 4 = .ok (.istore_n 2, 1) := dk_61 (dk_at dksX0_firstSet_0 4 rfl rfl)
theorem dX0_firstSet_5 : decode cX0_firstSet 5 = .ok (.aload_n 0, 1) := dk_42 (dk_at dksX0_firstSet_0 5 rfl rfl)
theorem dX0_firstSet_6 : decode cX0_firstSet 6 = .ok (.iload_n 2, 1) := dk_28 (dk_at dksX0_firstSet_0 6 rfl rfl)
theorem dX0_firstSet_7 : decode cX0_firstSet 7 = .ok (.invokevirtual 557, 3) := dk_182 2 45 (dk_at dksX0_firstSet_0 7 rfl rfl)
theorem dX0_firstSet_10 : decode cX0_firstSet 10 = .ok (.istore_n 3, 1) := dk_62 (dk_at dksX0_firstSet_0 10 rfl rfl)
theorem dX0_firstSet_11 : decode cX0_firstSet 11 = .ok (.iconst 1, 1) := dk_4 (dk_at dksX0_firstSet_0 11 rfl rfl)
theorem dX0_firstSet_12 : decode cX0_firstSet 12 = .ok (.istore 4, 2) := dk_54 4 (dk_at dksX0_firstSet_0 12 rfl rfl)
theorem dX0_firstSet_14 : decode cX0_firstSet 14 = .ok (.iload 4, 2) := dk_21 4 (dk_at dksX0_firstSet_0 14 rfl rfl)
theorem dX0_firstSet_16 : decode cX0_firstSet 16 = .ok (.iload_n 3, 1) := dk_29 (dk_at dksX0_firstSet_0 16 rfl rfl)
theorem dX0_firstSet_17 : decode cX0_firstSet 17 = .ok (.if_icmp .gt 48, 3) := dk_163 0 48 (dk_at dksX0_firstSet_0 17 rfl rfl)
theorem dX0_firstSet_20 : decode cX0_firstSet 20 = .ok (.iload 4, 2) := dk_21 4 (dk_at dksX0_firstSet_0 20 rfl rfl)
theorem dX0_firstSet_22 : decode cX0_firstSet 22 = .ok (.iload_n 3, 1) := dk_29 (dk_at dksX0_firstSet_0 22 rfl rfl)
theorem dX0_firstSet_23 : decode cX0_firstSet 23 = .ok (.iconst (-1), 1) := dk_2 (dk_at dksX0_firstSet_0 23 rfl rfl)
theorem dX0_firstSet_24 : decode cX0_firstSet 24 = .ok (.ixor, 1) := dk_130 (dk_at dksX0_firstSet_1 0 rfl rfl)
theorem dX0_firstSet_25 : decode cX0_firstSet 25 = .ok (.iand, 1) := dk_126 (dk_at dksX0_firstSet_1 1 rfl rfl)
theorem dX0_firstSet_26 : decode cX0_firstSet 26 = .ok (.ifCond .ne 33, 3) := dk_154 0 33 (dk_at dksX0_firstSet_1 2 rfl rfl)
theorem dX0_firstSet_29 : decode cX0_firstSet 29 = .ok (.aload_n 0, 1) := dk_42 (dk_at dksX0_firstSet_1 5 rfl rfl)
theorem dX0_firstSet_30 : decode cX0_firstSet 30 = .ok (.getfield 185, 3) := dk_180 0 185 (dk_at dksX0_firstSet_1 6 rfl rfl)
theorem dX0_firstSet_33 : decode cX0_firstSet 33 = .ok (.iload 4, 2) := dk_21 4 (dk_at dksX0_firstSet_1 9 rfl rfl)
theorem dX0_firstSet_35 : decode cX0_firstSet 35 = .ok (.baload, 1) := dk_51 (dk_at dksX0_firstSet_1 11 rfl rfl)
theorem dX0_firstSet_36 : decode cX0_firstSet 36 = .ok (.ifCond .eq 23, 3) := dk_153 0 23 (dk_at dksX0_firstSet_1 12 rfl rfl)
theorem dX0_firstSet_39 : decode cX0_firstSet 39 = .ok (.aload_n 0, 1) := dk_42 (dk_at dksX0_firstSet_1 15 rfl rfl)
theorem dX0_firstSet_40 : decode cX0_firstSet 40 = .ok (.getfield 189, 3) := dk_180 0 189 (dk_at dksX0_firstSet_1 16 rfl rfl)
theorem dX0_firstSet_43 : decode cX0_firstSet 43 = .ok (.iload_n 2, 1) := dk_28 (dk_at dksX0_firstSet_1 19 rfl rfl)
theorem dX0_firstSet_44 : decode cX0_firstSet 44 = .ok (.iload 4, 2) := dk_21 4 (dk_at dksX0_firstSet_1 20 rfl rfl)
theorem dX0_firstSet_46 : decode cX0_firstSet 46 = .ok (.invokestatic 563, 3) := dk_184 2 51 (dk_at dksX0_firstSet_2 0 rfl rfl)
theorem dX0_firstSet_49 : decode cX0_firstSet 49 = .ok (.baload, 1) := dk_51 (dk_at dksX0_firstSet_2 3 rfl rfl)
theorem dX0_firstSet_50 : decode cX0_firstSet 50 = .ok (.iload_n 1, 1) := dk_27 (dk_at dksX0_firstSet_2 4 rfl rfl)
theorem dX0_firstSet_51 : decode cX0_firstSet 51 = .ok (.iconst 1, 1) := dk_4 (dk_at dksX0_firstSet_2 5 rfl rfl)
theorem dX0_firstSet_52 : decode cX0_firstSet 52 = .ok (.isub, 1) := dk_100 (dk_at dksX0_firstSet_2 6 rfl rfl)
theorem dX0_firstSet_53 : decode cX0_firstSet 53 = .ok (.if_icmp .ne 6, 3) := dk_160 0 6 (dk_at dksX0_firstSet_2 7 rfl rfl)
theorem dX0_firstSet_56 : decode cX0_firstSet 56 = .ok (.iload 4, 2) := dk_21 4 (dk_at dksX0_firstSet_2 10 rfl rfl)
theorem dX0_firstSet_58 : decode cX0_firstSet 58 = .ok (.ireturn, 1) := dk_172 (dk_at dksX0_firstSet_2 12 rfl rfl)
theorem dX0_firstSet_59 : decode cX0_firstSet 59 = .ok (.iinc 4 1, 3) := dk_132 4 1 (dk_at dksX0_firstSet_2 13 rfl rfl)
theorem dX0_firstSet_62 : decode cX0_firstSet 62 = .ok (.goto (-48), 3) := dk_167 255 208 (dk_at dksX0_firstSet_2 16 rfl rfl)
theorem dX0_firstSet_65 : decode cX0_firstSet 65 = .ok (.iconst 0, 1) := dk_3 (dk_at dksX0_firstSet_2 19 rfl rfl)
theorem dX0_firstSet_66 : decode cX0_firstSet 66 = .ok (.ireturn, 1) := dk_172 (dk_at dksX0_firstSet_2 20 rfl rfl)
abbrev cX0_few : ByteArray := prog_1_method_75_code
def yX0_few : MethodName := ⟨RX0, "few", "(I)I"⟩
def dkwX0_few_2 : List UInt8 := [172]
abbrev dktX0_few_2 : List UInt8 := dkwX0_few_2 ++ []
def dkwX0_few_1 : List UInt8 := [182, 2, 84, 61, 28, 2, 159, 0, 10, 27, 5, 112, 4, 160, 0, 7, 28, 167, 0, 7, 28, 184, 2, 36]
abbrev dktX0_few_1 : List UInt8 := dkwX0_few_1 ++ dktX0_few_2
def dkwX0_few_0 : List UInt8 := [27, 3, 6, 184, 0, 237, 154, 0, 5, 2, 172, 42, 27, 5, 162, 0, 7, 4, 167, 0, 4, 3]
abbrev dktX0_few_0 : List UInt8 := dkwX0_few_0 ++ dktX0_few_1
theorem dksX0_few_0 : cX0_few.data.toList.drop 0 = dktX0_few_0 := by decide +kernel
theorem dksX0_few_1 : cX0_few.data.toList.drop 22 = dktX0_few_1 := dk_seg dksX0_few_0 22 rfl rfl
theorem dksX0_few_2 : cX0_few.data.toList.drop 46 = dktX0_few_2 := dk_seg dksX0_few_1 24 rfl rfl
theorem dX0_few_0 : decode cX0_few 0 = .ok (.iload_n 1, 1) := dk_27 (dk_at dksX0_few_0 0 rfl rfl)
theorem dX0_few_1 : decode cX0_few 1 = .ok (.iconst 0, 1) := dk_3 (dk_at dksX0_few_0 1 rfl rfl)
theorem dX0_few_2 : decode cX0_few 2 = .ok (.iconst 3, 1) := dk_6 (dk_at dksX0_few_0 2 rfl rfl)
theorem dX0_few_3 : decode cX0_few 3 = .ok (.invokestatic 237, 3) := dk_184 0 237 (dk_at dksX0_few_0 3 rfl rfl)
theorem dX0_few_6 : decode cX0_few 6 = .ok (.ifCond .ne 5, 3) := dk_154 0 5 (dk_at dksX0_few_0 6 rfl rfl)
theorem dX0_few_9 : decode cX0_few 9 = .ok (.iconst (-1), 1) := dk_2 (dk_at dksX0_few_0 9 rfl rfl)
theorem dX0_few_10 : decode cX0_few 10 = .ok (.ireturn, 1) := dk_172 (dk_at dksX0_few_0 10 rfl rfl)
theorem dX0_few_11 : decode cX0_few 11 = .ok (.aload_n 0, 1) := dk_42 (dk_at dksX0_few_0 11 rfl rfl)
theorem dX0_few_12 : decode cX0_few 12 = .ok (.iload_n 1, 1) := dk_27 (dk_at dksX0_few_0 12 rfl rfl)
theorem dX0_few_13 : decode cX0_few 13 = .ok (.iconst 2, 1) := dk_5 (dk_at dksX0_few_0 13 rfl rfl)
theorem dX0_few_14 : decode cX0_few 14 = .ok (.if_icmp .ge 7, 3) := dk_162 0 7 (dk_at dksX0_few_0 14 rfl rfl)
theorem dX0_few_17 : decode cX0_few 17 = .ok (.iconst 1, 1) := dk_4 (dk_at dksX0_few_0 17 rfl rfl)
theorem dX0_few_18 : decode cX0_few 18 = .ok (.goto 4, 3) := dk_167 0 4 (dk_at dksX0_few_0 18 rfl rfl)
theorem dX0_few_21 : decode cX0_few 21 = .ok (.iconst 0, 1) := dk_3 (dk_at dksX0_few_0 21 rfl rfl)
theorem dX0_few_22 : decode cX0_few 22 = .ok (.invokevirtual 596, 3) := dk_182 2 84 (dk_at dksX0_few_1 0 rfl rfl)
theorem dX0_few_25 : decode cX0_few 25 = .ok (.istore_n 2, 1) := dk_61 (dk_at dksX0_few_1 3 rfl rfl)
theorem dX0_few_26 : decode cX0_few 26 = .ok (.iload_n 2, 1) := dk_28 (dk_at dksX0_few_1 4 rfl rfl)
theorem dX0_few_27 : decode cX0_few 27 = .ok (.iconst (-1), 1) := dk_2 (dk_at dksX0_few_1 5 rfl rfl)
theorem dX0_few_28 : decode cX0_few 28 = .ok (.if_icmp .eq 10, 3) := dk_159 0 10 (dk_at dksX0_few_1 6 rfl rfl)
theorem dX0_few_31 : decode cX0_few 31 = .ok (.iload_n 1, 1) := dk_27 (dk_at dksX0_few_1 9 rfl rfl)
theorem dX0_few_32 : decode cX0_few 32 = .ok (.iconst 2, 1) := dk_5 (dk_at dksX0_few_1 10 rfl rfl)
theorem dX0_few_33 : decode cX0_few 33 = .ok (.irem, 1) := dk_112 (dk_at dksX0_few_1 11 rfl rfl)
theorem dX0_few_34 : decode cX0_few 34 = .ok (.iconst 1, 1) := dk_4 (dk_at dksX0_few_1 12 rfl rfl)
theorem dX0_few_35 : decode cX0_few 35 = .ok (.if_icmp .ne 7, 3) := dk_160 0 7 (dk_at dksX0_few_1 13 rfl rfl)
theorem dX0_few_38 : decode cX0_few 38 = .ok (.iload_n 2, 1) := dk_28 (dk_at dksX0_few_1 16 rfl rfl)
theorem dX0_few_39 : decode cX0_few 39 = .ok (.goto 7, 3) := dk_167 0 7 (dk_at dksX0_few_1 17 rfl rfl)
theorem dX0_few_42 : decode cX0_few 42 = .ok (.iload_n 2, 1) := dk_28 (dk_at dksX0_few_1 20 rfl rfl)
theorem dX0_few_43 : decode cX0_few 43 = .ok (.invokestatic 548, 3) := dk_184 2 36 (dk_at dksX0_few_1 21 rfl rfl)
theorem dX0_few_46 : decode cX0_few 46 = .ok (.ireturn, 1) := dk_172 (dk_at dksX0_few_2 0 rfl rfl)
abbrev cX0_fewest : ByteArray := prog_1_method_74_code
def yX0_fewest : MethodName := ⟨RX0, "fewest", "(Z)I"⟩
def dkwX0_fewest_4 : List UInt8 := [132, 5, 1, 167, 255, 174, 21, 4, 172]
abbrev dktX0_fewest_4 : List UInt8 := dkwX0_fewest_4 ++ []
def dkwX0_fewest_3 : List UInt8 := [21, 4, 2, 159, 0, 16, 21, 5, 184, 2, 36, 21, 4, 184, 2, 36, 162, 0, 7, 21, 5, 54, 4]
abbrev dktX0_fewest_3 : List UInt8 := dkwX0_fewest_3 ++ dktX0_fewest_4
def dkwX0_fewest_2 : List UInt8 := [21, 6, 182, 2, 81, 2, 130, 126, 154, 0, 7, 4, 167, 0, 4, 3, 54, 7, 21, 7, 27, 159, 0, 26]
abbrev dktX0_fewest_2 : List UInt8 := dkwX0_fewest_2 ++ dktX0_fewest_3
def dkwX0_fewest_1 : List UInt8 := [162, 0, 77, 27, 153, 0, 12, 28, 21, 5, 2, 130, 126, 167, 0, 7, 28, 21, 5, 126, 54, 6, 29, 42]
abbrev dktX0_fewest_1 : List UInt8 := dkwX0_fewest_1 ++ dktX0_fewest_2
def dkwX0_fewest_0 : List UInt8 := [42, 182, 2, 75, 61, 42, 182, 2, 78, 62, 2, 54, 4, 3, 54, 5, 21, 5, 4, 42, 180, 1, 137, 120]
abbrev dktX0_fewest_0 : List UInt8 := dkwX0_fewest_0 ++ dktX0_fewest_1
theorem dksX0_fewest_0 : cX0_fewest.data.toList.drop 0 = dktX0_fewest_0 := by decide +kernel
theorem dksX0_fewest_1 : cX0_fewest.data.toList.drop 24 = dktX0_fewest_1 := dk_seg dksX0_fewest_0 24 rfl rfl
theorem dksX0_fewest_2 : cX0_fewest.data.toList.drop 48 = dktX0_fewest_2 := dk_seg dksX0_fewest_1 24 rfl rfl
theorem dksX0_fewest_3 : cX0_fewest.data.toList.drop 72 = dktX0_fewest_3 := dk_seg dksX0_fewest_2 24 rfl rfl
theorem dksX0_fewest_4 : cX0_fewest.data.toList.drop 95 = dktX0_fewest_4 := dk_seg dksX0_fewest_3 23 rfl rfl
theorem dX0_fewest_0 : decode cX0_fewest 0 = .ok (.aload_n 0, 1) := dk_42 (dk_at dksX0_fewest_0 0 rfl rfl)
theorem dX0_fewest_1 : decode cX0_fewest 1 = .ok (.invokevirtual 587, 3) := dk_182 2 75 (dk_at dksX0_fewest_0 1 rfl rfl)
theorem dX0_fewest_4 : decode cX0_fewest 4 = .ok (.istore_n 2, 1) := dk_61 (dk_at dksX0_fewest_0 4 rfl rfl)
theorem dX0_fewest_5 : decode cX0_fewest 5 = .ok (.aload_n 0, 1) := dk_42 (dk_at dksX0_fewest_0 5 rfl rfl)
theorem dX0_fewest_6 : decode cX0_fewest 6 = .ok (.invokevirtual 590, 3) := dk_182 2 78 (dk_at dksX0_fewest_0 6 rfl rfl)
theorem dX0_fewest_9 : decode cX0_fewest 9 = .ok (.istore_n 3, 1) := dk_62 (dk_at dksX0_fewest_0 9 rfl rfl)
theorem dX0_fewest_10 : decode cX0_fewest 10 = .ok (.iconst (-1), 1) := dk_2 (dk_at dksX0_fewest_0 10 rfl rfl)
theorem dX0_fewest_11 : decode cX0_fewest 11 = .ok (.istore 4, 2) := dk_54 4 (dk_at dksX0_fewest_0 11 rfl rfl)
theorem dX0_fewest_13 : decode cX0_fewest 13 = .ok (.iconst 0, 1) := dk_3 (dk_at dksX0_fewest_0 13 rfl rfl)
theorem dX0_fewest_14 : decode cX0_fewest 14 = .ok (.istore 5, 2) := dk_54 5 (dk_at dksX0_fewest_0 14 rfl rfl)
theorem dX0_fewest_16 : decode cX0_fewest 16 = .ok (.iload 5, 2) := dk_21 5 (dk_at dksX0_fewest_0 16 rfl rfl)
theorem dX0_fewest_18 : decode cX0_fewest 18 = .ok (.iconst 1, 1) := dk_4 (dk_at dksX0_fewest_0 18 rfl rfl)
theorem dX0_fewest_19 : decode cX0_fewest 19 = .ok (.aload_n 0, 1) := dk_42 (dk_at dksX0_fewest_0 19 rfl rfl)
theorem dX0_fewest_20 : decode cX0_fewest 20 = .ok (.getfield 393, 3) := dk_180 1 137 (dk_at dksX0_fewest_0 20 rfl rfl)
theorem dX0_fewest_23 : decode cX0_fewest 23 = .ok (.ishl, 1) := dk_120 (dk_at dksX0_fewest_0 23 rfl rfl)
theorem dX0_fewest_24 : decode cX0_fewest 24 = .ok (.if_icmp .ge 77, 3) := dk_162 0 77 (dk_at dksX0_fewest_1 0 rfl rfl)
theorem dX0_fewest_27 : decode cX0_fewest 27 = .ok (.iload_n 1, 1) := dk_27 (dk_at dksX0_fewest_1 3 rfl rfl)
theorem dX0_fewest_28 : decode cX0_fewest 28 = .ok (.ifCond .eq 12, 3) := dk_153 0 12 (dk_at dksX0_fewest_1 4 rfl rfl)
theorem dX0_fewest_31 : decode cX0_fewest 31 = .ok (.iload_n 2, 1) := dk_28 (dk_at dksX0_fewest_1 7 rfl rfl)
theorem dX0_fewest_32 : decode cX0_fewest 32 = .ok (.iload 5, 2) := dk_21 5 (dk_at dksX0_fewest_1 8 rfl rfl)
theorem dX0_fewest_34 : decode cX0_fewest 34 = .ok (.iconst (-1), 1) := dk_2 (dk_at dksX0_fewest_1 10 rfl rfl)
theorem dX0_fewest_35 : decode cX0_fewest 35 = .ok (.ixor, 1) := dk_130 (dk_at dksX0_fewest_1 11 rfl rfl)
theorem dX0_fewest_36 : decode cX0_fewest 36 = .ok (.iand, 1) := dk_126 (dk_at dksX0_fewest_1 12 rfl rfl)
theorem dX0_fewest_37 : decode cX0_fewest 37 = .ok (.goto 7, 3) := dk_167 0 7 (dk_at dksX0_fewest_1 13 rfl rfl)
theorem dX0_fewest_40 : decode cX0_fewest 40 = .ok (.iload_n 2, 1) := dk_28 (dk_at dksX0_fewest_1 16 rfl rfl)
theorem dX0_fewest_41 : decode cX0_fewest 41 = .ok (.iload 5, 2) := dk_21 5 (dk_at dksX0_fewest_1 17 rfl rfl)
theorem dX0_fewest_43 : decode cX0_fewest 43 = .ok (.iand, 1) := dk_126 (dk_at dksX0_fewest_1 19 rfl rfl)
theorem dX0_fewest_44 : decode cX0_fewest 44 = .ok (.istore 6, 2) := dk_54 6 (dk_at dksX0_fewest_1 20 rfl rfl)
theorem dX0_fewest_46 : decode cX0_fewest 46 = .ok (.iload_n 3, 1) := dk_29 (dk_at dksX0_fewest_1 22 rfl rfl)
theorem dX0_fewest_47 : decode cX0_fewest 47 = .ok (.aload_n 0, 1) := dk_42 (dk_at dksX0_fewest_1 23 rfl rfl)
theorem dX0_fewest_48 : decode cX0_fewest 48 = .ok (.iload 6, 2) := dk_21 6 (dk_at dksX0_fewest_2 0 rfl rfl)
theorem dX0_fewest_50 : decode cX0_fewest 50 = .ok (.invokevirtual 593, 3) := dk_182 2 81 (dk_at dksX0_fewest_2 2 rfl rfl)
theorem dX0_fewest_53 : decode cX0_fewest 53 = .ok (.iconst (-1), 1) := dk_2 (dk_at dksX0_fewest_2 5 rfl rfl)
theorem dX0_fewest_54 : decode cX0_fewest 54 = .ok (.ixor, 1) := dk_130 (dk_at dksX0_fewest_2 6 rfl rfl)
theorem dX0_fewest_55 : decode cX0_fewest 55 = .ok (.iand, 1) := dk_126 (dk_at dksX0_fewest_2 7 rfl rfl)
theorem dX0_fewest_56 : decode cX0_fewest 56 = .ok (.ifCond .ne 7, 3) := dk_154 0 7 (dk_at dksX0_fewest_2 8 rfl rfl)
theorem dX0_fewest_59 : decode cX0_fewest 59 = .ok (.iconst 1, 1) := dk_4 (dk_at dksX0_fewest_2 11 rfl rfl)
theorem dX0_fewest_60 : decode cX0_fewest 60 = .ok (.goto 4, 3) := dk_167 0 4 (dk_at dksX0_fewest_2 12 rfl rfl)
theorem dX0_fewest_63 : decode cX0_fewest 63 = .ok (.iconst 0, 1) := dk_3 (dk_at dksX0_fewest_2 15 rfl rfl)
theorem dX0_fewest_64 : decode cX0_fewest 64 = .ok (.istore 7, 2) := dk_54 7 (dk_at dksX0_fewest_2 16 rfl rfl)
theorem dX0_fewest_66 : decode cX0_fewest 66 = .ok (.iload 7, 2) := dk_21 7 (dk_at dksX0_fewest_2 18 rfl rfl)
theorem dX0_fewest_68 : decode cX0_fewest 68 = .ok (.iload_n 1, 1) := dk_27 (dk_at dksX0_fewest_2 20 rfl rfl)
theorem dX0_fewest_69 : decode cX0_fewest 69 = .ok (.if_icmp .eq 26, 3) := dk_159 0 26 (dk_at dksX0_fewest_2 21 rfl rfl)
theorem dX0_fewest_72 : decode cX0_fewest 72 = .ok (.iload 4, 2) := dk_21 4 (dk_at dksX0_fewest_3 0 rfl rfl)
theorem dX0_fewest_74 : decode cX0_fewest 74 = .ok (.iconst (-1), 1) := dk_2 (dk_at dksX0_fewest_3 2 rfl rfl)
theorem dX0_fewest_75 : decode cX0_fewest 75 = .ok (.if_icmp .eq 16, 3) := dk_159 0 16 (dk_at dksX0_fewest_3 3 rfl rfl)
theorem dX0_fewest_78 : decode cX0_fewest 78 = .ok (.iload 5, 2) := dk_21 5 (dk_at dksX0_fewest_3 6 rfl rfl)
theorem dX0_fewest_80 : decode cX0_fewest 80 = .ok (.invokestatic 548, 3) := dk_184 2 36 (dk_at dksX0_fewest_3 8 rfl rfl)
theorem dX0_fewest_83 : decode cX0_fewest 83 = .ok (.iload 4, 2) := dk_21 4 (dk_at dksX0_fewest_3 11 rfl rfl)
theorem dX0_fewest_85 : decode cX0_fewest 85 = .ok (.invokestatic 548, 3) := dk_184 2 36 (dk_at dksX0_fewest_3 13 rfl rfl)
theorem dX0_fewest_88 : decode cX0_fewest 88 = .ok (.if_icmp .ge 7, 3) := dk_162 0 7 (dk_at dksX0_fewest_3 16 rfl rfl)
theorem dX0_fewest_91 : decode cX0_fewest 91 = .ok (.iload 5, 2) := dk_21 5 (dk_at dksX0_fewest_3 19 rfl rfl)
theorem dX0_fewest_93 : decode cX0_fewest 93 = .ok (.istore 4, 2) := dk_54 4 (dk_at dksX0_fewest_3 21 rfl rfl)
theorem dX0_fewest_95 : decode cX0_fewest 95 = .ok (.iinc 5 1, 3) := dk_132 5 1 (dk_at dksX0_fewest_4 0 rfl rfl)
theorem dX0_fewest_98 : decode cX0_fewest 98 = .ok (.goto (-82), 3) := dk_167 255 174 (dk_at dksX0_fewest_4 3 rfl rfl)
theorem dX0_fewest_101 : decode cX0_fewest 101 = .ok (.iload 4, 2) := dk_21 4 (dk_at dksX0_fewest_4 6 rfl rfl)
theorem dX0_fewest_103 : decode cX0_fewest 103 = .ok (.ireturn, 1) := dk_172 (dk_at dksX0_fewest_4 8 rfl rfl)
abbrev cX0_servingTools : ByteArray := prog_1_method_72_code
def yX0_servingTools : MethodName := ⟨RX0, "servingTools", "()I"⟩
def dkwX0_servingTools_2 : List UInt8 := [167, 255, 223, 132, 2, 1, 167, 255, 207, 27, 172]
abbrev dktX0_servingTools_2 : List UInt8 := dkwX0_servingTools_2 ++ []
def dkwX0_servingTools_1 : List UInt8 := [180, 0, 164, 28, 29, 182, 2, 7, 153, 0, 9, 4, 28, 120, 167, 0, 4, 3, 128, 60, 132, 3, 1]
abbrev dktX0_servingTools_1 : List UInt8 := dkwX0_servingTools_1 ++ dktX0_servingTools_2
def dkwX0_servingTools_0 : List UInt8 := [3, 60, 3, 61, 28, 42, 180, 1, 137, 162, 0, 47, 3, 62, 29, 42, 180, 1, 140, 162, 0, 31, 27, 42]
abbrev dktX0_servingTools_0 : List UInt8 := dkwX0_servingTools_0 ++ dktX0_servingTools_1
theorem dksX0_servingTools_0 : cX0_servingTools.data.toList.drop 0 = dktX0_servingTools_0 := by decide +kernel
theorem dksX0_servingTools_1 : cX0_servingTools.data.toList.drop 24 = dktX0_servingTools_1 := dk_seg dksX0_servingTools_0 24 rfl rfl
theorem dksX0_servingTools_2 : cX0_servingTools.data.toList.drop 47 = dktX0_servingTools_2 := dk_seg dksX0_servingTools_1 23 rfl rfl
theorem dX0_servingTools_0 : decode cX0_servingTools 0 = .ok (.iconst 0, 1) := dk_3 (dk_at dksX0_servingTools_0 0 rfl rfl)
theorem dX0_servingTools_1 : decode cX0_servingTools 1 = .ok (.istore_n 1, 1) := dk_60 (dk_at dksX0_servingTools_0 1 rfl rfl)
theorem dX0_servingTools_2 : decode cX0_servingTools 2 = .ok (.iconst 0, 1) := dk_3 (dk_at dksX0_servingTools_0 2 rfl rfl)
theorem dX0_servingTools_3 : decode cX0_servingTools 3 = .ok (.istore_n 2, 1) := dk_61 (dk_at dksX0_servingTools_0 3 rfl rfl)
theorem dX0_servingTools_4 : decode cX0_servingTools 4 = .ok (.iload_n 2, 1) := dk_28 (dk_at dksX0_servingTools_0 4 rfl rfl)
theorem dX0_servingTools_5 : decode cX0_servingTools 5 = .ok (.aload_n 0, 1) := dk_42 (dk_at dksX0_servingTools_0 5 rfl rfl)
theorem dX0_servingTools_6 : decode cX0_servingTools 6 = .ok (.getfield 393, 3) := dk_180 1 137 (dk_at dksX0_servingTools_0 6 rfl rfl)
theorem dX0_servingTools_9 : decode cX0_servingTools 9 = .ok (.if_icmp .ge 47, 3) := dk_162 0 47 (dk_at dksX0_servingTools_0 9 rfl rfl)
theorem dX0_servingTools_12 : decode cX0_servingTools 12 = .ok (.iconst 0, 1) := dk_3 (dk_at dksX0_servingTools_0 12 rfl rfl)
theorem dX0_servingTools_13 : decode cX0_servingTools 13 = .ok (.istore_n 3, 1) := dk_62 (dk_at dksX0_servingTools_0 13 rfl rfl)
theorem dX0_servingTools_14 : decode cX0_servingTools 14 = .ok (.iload_n 3, 1) := dk_29 (dk_at dksX0_servingTools_0 14 rfl rfl)
theorem dX0_servingTools_15 : decode cX0_servingTools 15 = .ok (.aload_n 0, 1) := dk_42 (dk_at dksX0_servingTools_0 15 rfl rfl)
theorem dX0_servingTools_16 : decode cX0_servingTools 16 = .ok (.getfield 396, 3) := dk_180 1 140 (dk_at dksX0_servingTools_0 16 rfl rfl)
theorem dX0_servingTools_19 : decode cX0_servingTools 19 = .ok (.if_icmp .ge 31, 3) := dk_162 0 31 (dk_at dksX0_servingTools_0 19 rfl rfl)
theorem dX0_servingTools_22 : decode cX0_servingTools 22 = .ok (.iload_n 1, 1) := dk_27 (dk_at dksX0_servingTools_0 22 rfl rfl)
theorem dX0_servingTools_23 : decode cX0_servingTools 23 = .ok (.aload_n 0, 1) := dk_42 (dk_at dksX0_servingTools_0 23 rfl rfl)
theorem dX0_servingTools_24 : decode cX0_servingTools 24 = .ok (.getfield 164, 3) := dk_180 0 164 (dk_at dksX0_servingTools_1 0 rfl rfl)
theorem dX0_servingTools_27 : decode cX0_servingTools 27 = .ok (.iload_n 2, 1) := dk_28 (dk_at dksX0_servingTools_1 3 rfl rfl)
theorem dX0_servingTools_28 : decode cX0_servingTools 28 = .ok (.iload_n 3, 1) := dk_29 (dk_at dksX0_servingTools_1 4 rfl rfl)
theorem dX0_servingTools_29 : decode cX0_servingTools 29 = .ok (.invokevirtual 519, 3) := dk_182 2 7 (dk_at dksX0_servingTools_1 5 rfl rfl)
theorem dX0_servingTools_32 : decode cX0_servingTools 32 = .ok (.ifCond .eq 9, 3) := dk_153 0 9 (dk_at dksX0_servingTools_1 8 rfl rfl)
theorem dX0_servingTools_35 : decode cX0_servingTools 35 = .ok (.iconst 1, 1) := dk_4 (dk_at dksX0_servingTools_1 11 rfl rfl)
theorem dX0_servingTools_36 : decode cX0_servingTools 36 = .ok (.iload_n 2, 1) := dk_28 (dk_at dksX0_servingTools_1 12 rfl rfl)
theorem dX0_servingTools_37 : decode cX0_servingTools 37 = .ok (.ishl, 1) := dk_120 (dk_at dksX0_servingTools_1 13 rfl rfl)
theorem dX0_servingTools_38 : decode cX0_servingTools 38 = .ok (.goto 4, 3) := dk_167 0 4 (dk_at dksX0_servingTools_1 14 rfl rfl)
theorem dX0_servingTools_41 : decode cX0_servingTools 41 = .ok (.iconst 0, 1) := dk_3 (dk_at dksX0_servingTools_1 17 rfl rfl)
theorem dX0_servingTools_42 : decode cX0_servingTools 42 = .ok (.ior, 1) := dk_128 (dk_at dksX0_servingTools_1 18 rfl rfl)
theorem dX0_servingTools_43 : decode cX0_servingTools 43 = .ok (.istore_n 1, 1) := dk_60 (dk_at dksX0_servingTools_1 19 rfl rfl)
theorem dX0_servingTools_44 : decode cX0_servingTools 44 = .ok (.iinc 3 1, 3) := dk_132 3 1 (dk_at dksX0_servingTools_1 20 rfl rfl)
theorem dX0_servingTools_47 : decode cX0_servingTools 47 = .ok (.goto (-33), 3) := dk_167 255 223 (dk_at dksX0_servingTools_2 0 rfl rfl)
theorem dX0_servingTools_50 : decode cX0_servingTools 50 = .ok (.iinc 2 1, 3) := dk_132 2 1 (dk_at dksX0_servingTools_2 3 rfl rfl)
theorem dX0_servingTools_53 : decode cX0_servingTools 53 = .ok (.goto (-49), 3) := dk_167 255 207 (dk_at dksX0_servingTools_2 6 rfl rfl)
theorem dX0_servingTools_56 : decode cX0_servingTools 56 = .ok (.iload_n 1, 1) := dk_27 (dk_at dksX0_servingTools_2 9 rfl rfl)
theorem dX0_servingTools_57 : decode cX0_servingTools 57 = .ok (.ireturn, 1) := dk_172 (dk_at dksX0_servingTools_2 10 rfl rfl)
abbrev cX0_kindsLeft : ByteArray := prog_1_method_71_code
def yX0_kindsLeft : MethodName := ⟨RX0, "kindsLeft", "()I"⟩
def dkwX0_kindsLeft_2 : List UInt8 := [167, 255, 215, 27, 172]
abbrev dktX0_kindsLeft_2 : List UInt8 := dkwX0_kindsLeft_2 ++ []
def dkwX0_kindsLeft_1 : List UInt8 := [153, 0, 7, 3, 167, 0, 14, 4, 42, 180, 0, 122, 28, 50, 182, 2, 10, 120, 128, 60, 132, 2, 1]
abbrev dktX0_kindsLeft_1 : List UInt8 := dkwX0_kindsLeft_1 ++ dktX0_kindsLeft_2
def dkwX0_kindsLeft_0 : List UInt8 := [3, 60, 3, 61, 28, 42, 180, 0, 122, 190, 162, 0, 38, 27, 42, 180, 0, 164, 28, 182, 2, 22]
abbrev dktX0_kindsLeft_0 : List UInt8 := dkwX0_kindsLeft_0 ++ dktX0_kindsLeft_1
theorem dksX0_kindsLeft_0 : cX0_kindsLeft.data.toList.drop 0 = dktX0_kindsLeft_0 := by decide +kernel
theorem dksX0_kindsLeft_1 : cX0_kindsLeft.data.toList.drop 22 = dktX0_kindsLeft_1 := dk_seg dksX0_kindsLeft_0 22 rfl rfl
theorem dksX0_kindsLeft_2 : cX0_kindsLeft.data.toList.drop 45 = dktX0_kindsLeft_2 := dk_seg dksX0_kindsLeft_1 23 rfl rfl
theorem dX0_kindsLeft_0 : decode cX0_kindsLeft 0 = .ok (.iconst 0, 1) := dk_3 (dk_at dksX0_kindsLeft_0 0 rfl rfl)
theorem dX0_kindsLeft_1 : decode cX0_kindsLeft 1 = .ok (.istore_n 1, 1) := dk_60 (dk_at dksX0_kindsLeft_0 1 rfl rfl)
theorem dX0_kindsLeft_2 : decode cX0_kindsLeft 2 = .ok (.iconst 0, 1) := dk_3 (dk_at dksX0_kindsLeft_0 2 rfl rfl)
theorem dX0_kindsLeft_3 : decode cX0_kindsLeft 3 = .ok (.istore_n 2, 1) := dk_61 (dk_at dksX0_kindsLeft_0 3 rfl rfl)
theorem dX0_kindsLeft_4 : decode cX0_kindsLeft 4 = .ok (.iload_n 2, 1) := dk_28 (dk_at dksX0_kindsLeft_0 4 rfl rfl)
theorem dX0_kindsLeft_5 : decode cX0_kindsLeft 5 = .ok (.aload_n 0, 1) := dk_42 (dk_at dksX0_kindsLeft_0 5 rfl rfl)
theorem dX0_kindsLeft_6 : decode cX0_kindsLeft 6 = .ok (.getfield 122, 3) := dk_180 0 122 (dk_at dksX0_kindsLeft_0 6 rfl rfl)
theorem dX0_kindsLeft_9 : decode cX0_kindsLeft 9 = .ok (.arraylength, 1) := dk_190 (dk_at dksX0_kindsLeft_0 9 rfl rfl)
theorem dX0_kindsLeft_10 : decode cX0_kindsLeft 10 = .ok (.if_icmp .ge 38, 3) := dk_162 0 38 (dk_at dksX0_kindsLeft_0 10 rfl rfl)
theorem dX0_kindsLeft_13 : decode cX0_kindsLeft 13 = .ok (.iload_n 1, 1) := dk_27 (dk_at dksX0_kindsLeft_0 13 rfl rfl)
theorem dX0_kindsLeft_14 : decode cX0_kindsLeft 14 = .ok (.aload_n 0, 1) := dk_42 (dk_at dksX0_kindsLeft_0 14 rfl rfl)
theorem dX0_kindsLeft_15 : decode cX0_kindsLeft 15 = .ok (.getfield 164, 3) := dk_180 0 164 (dk_at dksX0_kindsLeft_0 15 rfl rfl)
theorem dX0_kindsLeft_18 : decode cX0_kindsLeft 18 = .ok (.iload_n 2, 1) := dk_28 (dk_at dksX0_kindsLeft_0 18 rfl rfl)
theorem dX0_kindsLeft_19 : decode cX0_kindsLeft 19 = .ok (.invokevirtual 534, 3) := dk_182 2 22 (dk_at dksX0_kindsLeft_0 19 rfl rfl)
theorem dX0_kindsLeft_22 : decode cX0_kindsLeft 22 = .ok (.ifCond .eq 7, 3) := dk_153 0 7 (dk_at dksX0_kindsLeft_1 0 rfl rfl)
theorem dX0_kindsLeft_25 : decode cX0_kindsLeft 25 = .ok (.iconst 0, 1) := dk_3 (dk_at dksX0_kindsLeft_1 3 rfl rfl)
theorem dX0_kindsLeft_26 : decode cX0_kindsLeft 26 = .ok (.goto 14, 3) := dk_167 0 14 (dk_at dksX0_kindsLeft_1 4 rfl rfl)
theorem dX0_kindsLeft_29 : decode cX0_kindsLeft 29 = .ok (.iconst 1, 1) := dk_4 (dk_at dksX0_kindsLeft_1 7 rfl rfl)
theorem dX0_kindsLeft_30 : decode cX0_kindsLeft 30 = .ok (.aload_n 0, 1) := dk_42 (dk_at dksX0_kindsLeft_1 8 rfl rfl)
theorem dX0_kindsLeft_31 : decode cX0_kindsLeft 31 = .ok (.getfield 122, 3) := dk_180 0 122 (dk_at dksX0_kindsLeft_1 9 rfl rfl)
theorem dX0_kindsLeft_34 : decode cX0_kindsLeft 34 = .ok (.iload_n 2, 1) := dk_28 (dk_at dksX0_kindsLeft_1 12 rfl rfl)
theorem dX0_kindsLeft_35 : decode cX0_kindsLeft 35 = .ok (.aaload, 1) := dk_50 (dk_at dksX0_kindsLeft_1 13 rfl rfl)
theorem dX0_kindsLeft_36 : decode cX0_kindsLeft 36 = .ok (.invokevirtual 522, 3) := dk_182 2 10 (dk_at dksX0_kindsLeft_1 14 rfl rfl)
theorem dX0_kindsLeft_39 : decode cX0_kindsLeft 39 = .ok (.ishl, 1) := dk_120 (dk_at dksX0_kindsLeft_1 17 rfl rfl)
theorem dX0_kindsLeft_40 : decode cX0_kindsLeft 40 = .ok (.ior, 1) := dk_128 (dk_at dksX0_kindsLeft_1 18 rfl rfl)
theorem dX0_kindsLeft_41 : decode cX0_kindsLeft 41 = .ok (.istore_n 1, 1) := dk_60 (dk_at dksX0_kindsLeft_1 19 rfl rfl)
theorem dX0_kindsLeft_42 : decode cX0_kindsLeft 42 = .ok (.iinc 2 1, 3) := dk_132 2 1 (dk_at dksX0_kindsLeft_1 20 rfl rfl)
theorem dX0_kindsLeft_45 : decode cX0_kindsLeft 45 = .ok (.goto (-41), 3) := dk_167 255 215 (dk_at dksX0_kindsLeft_2 0 rfl rfl)
theorem dX0_kindsLeft_48 : decode cX0_kindsLeft 48 = .ok (.iload_n 1, 1) := dk_27 (dk_at dksX0_kindsLeft_2 3 rfl rfl)
theorem dX0_kindsLeft_49 : decode cX0_kindsLeft 49 = .ok (.ireturn, 1) := dk_172 (dk_at dksX0_kindsLeft_2 4 rfl rfl)
abbrev cX0_kindsBy : ByteArray := prog_1_method_73_code
def yX0_kindsBy : MethodName := ⟨RX0, "kindsBy", "(I)I"⟩
def dkwX0_kindsBy_1 : List UInt8 := [180, 0, 132, 29, 46, 120, 167, 0, 4, 3, 128, 61, 132, 3, 1, 167, 255, 222, 28, 172]
abbrev dktX0_kindsBy_1 : List UInt8 := dkwX0_kindsBy_1 ++ []
def dkwX0_kindsBy_0 : List UInt8 := [3, 61, 3, 62, 29, 42, 180, 1, 137, 162, 0, 32, 28, 27, 29, 184, 1, 247, 153, 0, 14, 4, 42]
abbrev dktX0_kindsBy_0 : List UInt8 := dkwX0_kindsBy_0 ++ dktX0_kindsBy_1
theorem dksX0_kindsBy_0 : cX0_kindsBy.data.toList.drop 0 = dktX0_kindsBy_0 := by decide +kernel
theorem dksX0_kindsBy_1 : cX0_kindsBy.data.toList.drop 23 = dktX0_kindsBy_1 := dk_seg dksX0_kindsBy_0 23 rfl rfl
theorem dX0_kindsBy_0 : decode cX0_kindsBy 0 = .ok (.iconst 0, 1) := dk_3 (dk_at dksX0_kindsBy_0 0 rfl rfl)
theorem dX0_kindsBy_1 : decode cX0_kindsBy 1 = .ok (.istore_n 2, 1) := dk_61 (dk_at dksX0_kindsBy_0 1 rfl rfl)
theorem dX0_kindsBy_2 : decode cX0_kindsBy 2 = .ok (.iconst 0, 1) := dk_3 (dk_at dksX0_kindsBy_0 2 rfl rfl)
theorem dX0_kindsBy_3 : decode cX0_kindsBy 3 = .ok (.istore_n 3, 1) := dk_62 (dk_at dksX0_kindsBy_0 3 rfl rfl)
theorem dX0_kindsBy_4 : decode cX0_kindsBy 4 = .ok (.iload_n 3, 1) := dk_29 (dk_at dksX0_kindsBy_0 4 rfl rfl)
theorem dX0_kindsBy_5 : decode cX0_kindsBy 5 = .ok (.aload_n 0, 1) := dk_42 (dk_at dksX0_kindsBy_0 5 rfl rfl)
theorem dX0_kindsBy_6 : decode cX0_kindsBy 6 = .ok (.getfield 393, 3) := dk_180 1 137 (dk_at dksX0_kindsBy_0 6 rfl rfl)
theorem dX0_kindsBy_9 : decode cX0_kindsBy 9 = .ok (.if_icmp .ge 32, 3) := dk_162 0 32 (dk_at dksX0_kindsBy_0 9 rfl rfl)
theorem dX0_kindsBy_12 : decode cX0_kindsBy 12 = .ok (.iload_n 2, 1) := dk_28 (dk_at dksX0_kindsBy_0 12 rfl rfl)
theorem dX0_kindsBy_13 : decode cX0_kindsBy 13 = .ok (.iload_n 1, 1) := dk_27 (dk_at dksX0_kindsBy_0 13 rfl rfl)
theorem dX0_kindsBy_14 : decode cX0_kindsBy 14 = .ok (.iload_n 3, 1) := dk_29 (dk_at dksX0_kindsBy_0 14 rfl rfl)
theorem dX0_kindsBy_15 : decode cX0_kindsBy 15 = .ok (.invokestatic 503, 3) := dk_184 1 247 (dk_at dksX0_kindsBy_0 15 rfl rfl)
theorem dX0_kindsBy_18 : decode cX0_kindsBy 18 = .ok (.ifCond .eq 14, 3) := dk_153 0 14 (dk_at dksX0_kindsBy_0 18 rfl rfl)
theorem dX0_kindsBy_21 : decode cX0_kindsBy 21 = .ok (.iconst 1, 1) := dk_4 (dk_at dksX0_kindsBy_0 21 rfl rfl)
theorem dX0_kindsBy_22 : decode cX0_kindsBy 22 = .ok (.aload_n 0, 1) := dk_42 (dk_at dksX0_kindsBy_0 22 rfl rfl)
theorem dX0_kindsBy_23 : decode cX0_kindsBy 23 = .ok (.getfield 132, 3) := dk_180 0 132 (dk_at dksX0_kindsBy_1 0 rfl rfl)
theorem dX0_kindsBy_26 : decode cX0_kindsBy 26 = .ok (.iload_n 3, 1) := dk_29 (dk_at dksX0_kindsBy_1 3 rfl rfl)
theorem dX0_kindsBy_27 : decode cX0_kindsBy 27 = .ok (.iaload, 1) := dk_46 (dk_at dksX0_kindsBy_1 4 rfl rfl)
theorem dX0_kindsBy_28 : decode cX0_kindsBy 28 = .ok (.ishl, 1) := dk_120 (dk_at dksX0_kindsBy_1 5 rfl rfl)
theorem dX0_kindsBy_29 : decode cX0_kindsBy 29 = .ok (.goto 4, 3) := dk_167 0 4 (dk_at dksX0_kindsBy_1 6 rfl rfl)
theorem dX0_kindsBy_32 : decode cX0_kindsBy 32 = .ok (.iconst 0, 1) := dk_3 (dk_at dksX0_kindsBy_1 9 rfl rfl)
theorem dX0_kindsBy_33 : decode cX0_kindsBy 33 = .ok (.ior, 1) := dk_128 (dk_at dksX0_kindsBy_1 10 rfl rfl)
theorem dX0_kindsBy_34 : decode cX0_kindsBy 34 = .ok (.istore_n 2, 1) := dk_61 (dk_at dksX0_kindsBy_1 11 rfl rfl)
theorem dX0_kindsBy_35 : decode cX0_kindsBy 35 = .ok (.iinc 3 1, 3) := dk_132 3 1 (dk_at dksX0_kindsBy_1 12 rfl rfl)
theorem dX0_kindsBy_38 : decode cX0_kindsBy 38 = .ok (.goto (-34), 3) := dk_167 255 222 (dk_at dksX0_kindsBy_1 15 rfl rfl)
theorem dX0_kindsBy_41 : decode cX0_kindsBy 41 = .ok (.iload_n 2, 1) := dk_28 (dk_at dksX0_kindsBy_1 18 rfl rfl)
theorem dX0_kindsBy_42 : decode cX0_kindsBy 42 = .ok (.ireturn, 1) := dk_172 (dk_at dksX0_kindsBy_1 19 rfl rfl)
abbrev cX0_changes : ByteArray := prog_1_method_77_code
def yX0_changes : MethodName := ⟨RX0, "changes", "(I)I"⟩
def dkwX0_changes_4 : List UInt8 := [182, 2, 91, 167, 0, 4, 2, 172]
abbrev dktX0_changes_4 : List UInt8 := dkwX0_changes_4 ++ []
def dkwX0_changes_3 : List UInt8 := [28, 184, 2, 36, 167, 0, 26, 28, 27, 16, 10, 100, 184, 1, 247, 153, 0, 14, 42, 27, 16, 10, 100]
abbrev dktX0_changes_3 : List UInt8 := dkwX0_changes_3 ++ dktX0_changes_4
def dkwX0_changes_2 : List UInt8 := [153, 0, 14, 42, 29, 182, 2, 91, 2, 160, 0, 5, 2, 172, 132, 3, 1, 167, 255, 229, 27, 154, 0, 10]
abbrev dktX0_changes_2 : List UInt8 := dkwX0_changes_2 ++ dktX0_changes_3
def dkwX0_changes_1 : List UInt8 := [182, 2, 75, 182, 2, 81, 2, 130, 126, 61, 3, 62, 29, 7, 162, 0, 28, 28, 29, 184, 1, 247]
abbrev dktX0_changes_1 : List UInt8 := dkwX0_changes_1 ++ dktX0_changes_2
def dkwX0_changes_0 : List UInt8 := [27, 153, 0, 16, 27, 16, 10, 16, 13, 184, 0, 237, 154, 0, 5, 2, 172, 42, 182, 2, 78, 42, 42]
abbrev dktX0_changes_0 : List UInt8 := dkwX0_changes_0 ++ dktX0_changes_1
theorem dksX0_changes_0 : cX0_changes.data.toList.drop 0 = dktX0_changes_0 := by decide +kernel
theorem dksX0_changes_1 : cX0_changes.data.toList.drop 23 = dktX0_changes_1 := dk_seg dksX0_changes_0 23 rfl rfl
theorem dksX0_changes_2 : cX0_changes.data.toList.drop 45 = dktX0_changes_2 := dk_seg dksX0_changes_1 22 rfl rfl
theorem dksX0_changes_3 : cX0_changes.data.toList.drop 69 = dktX0_changes_3 := dk_seg dksX0_changes_2 24 rfl rfl
theorem dksX0_changes_4 : cX0_changes.data.toList.drop 92 = dktX0_changes_4 := dk_seg dksX0_changes_3 23 rfl rfl
theorem dX0_changes_0 : decode cX0_changes 0 = .ok (.iload_n 1, 1) := dk_27 (dk_at dksX0_changes_0 0 rfl rfl)
theorem dX0_changes_1 : decode cX0_changes 1 = .ok (.ifCond .eq 16, 3) := dk_153 0 16 (dk_at dksX0_changes_0 1 rfl rfl)
theorem dX0_changes_4 : decode cX0_changes 4 = .ok (.iload_n 1, 1) := dk_27 (dk_at dksX0_changes_0 4 rfl rfl)
theorem dX0_changes_5 : decode cX0_changes 5 = .ok (.bipush 10, 2) := dk_16 10 (dk_at dksX0_changes_0 5 rfl rfl)
theorem dX0_changes_7 : decode cX0_changes 7 = .ok (.bipush 13, 2) := dk_16 13 (dk_at dksX0_changes_0 7 rfl rfl)
theorem dX0_changes_9 : decode cX0_changes 9 = .ok (.invokestatic 237, 3) := dk_184 0 237 (dk_at dksX0_changes_0 9 rfl rfl)
theorem dX0_changes_12 : decode cX0_changes 12 = .ok (.ifCond .ne 5, 3) := dk_154 0 5 (dk_at dksX0_changes_0 12 rfl rfl)
theorem dX0_changes_15 : decode cX0_changes 15 = .ok (.iconst (-1), 1) := dk_2 (dk_at dksX0_changes_0 15 rfl rfl)
theorem dX0_changes_16 : decode cX0_changes 16 = .ok (.ireturn, 1) := dk_172 (dk_at dksX0_changes_0 16 rfl rfl)
theorem dX0_changes_17 : decode cX0_changes 17 = .ok (.aload_n 0, 1) := dk_42 (dk_at dksX0_changes_0 17 rfl rfl)
theorem dX0_changes_18 : decode cX0_changes 18 = .ok (.invokevirtual 590, 3) := dk_182 2 78 (dk_at dksX0_changes_0 18 rfl rfl)
theorem dX0_changes_21 : decode cX0_changes 21 = .ok (.aload_n 0, 1) := dk_42 (dk_at dksX0_changes_0 21 rfl rfl)
theorem dX0_changes_22 : decode cX0_changes 22 = .ok (.aload_n 0, 1) := dk_42 (dk_at dksX0_changes_0 22 rfl rfl)
theorem dX0_changes_23 : decode cX0_changes 23 = .ok (.invokevirtual 587, 3) := dk_182 2 75 (dk_at dksX0_changes_1 0 rfl rfl)
theorem dX0_changes_26 : decode cX0_changes 26 = .ok (.invokevirtual 593, 3) := dk_182 2 81 (dk_at dksX0_changes_1 3 rfl rfl)
theorem dX0_changes_29 : decode cX0_changes 29 = .ok (.iconst (-1), 1) := dk_2 (dk_at dksX0_changes_1 6 rfl rfl)
theorem dX0_changes_30 : decode cX0_changes 30 = .ok (.ixor, 1) := dk_130 (dk_at dksX0_changes_1 7 rfl rfl)
theorem dX0_changes_31 : decode cX0_changes 31 = .ok (.iand, 1) := dk_126 (dk_at dksX0_changes_1 8 rfl rfl)
theorem dX0_changes_32 : decode cX0_changes 32 = .ok (.istore_n 2, 1) := dk_61 (dk_at dksX0_changes_1 9 rfl rfl)
theorem dX0_changes_33 : decode cX0_changes 33 = .ok (.iconst 0, 1) := dk_3 (dk_at dksX0_changes_1 10 rfl rfl)
theorem dX0_changes_34 : decode cX0_changes 34 = .ok (.istore_n 3, 1) := dk_62 (dk_at dksX0_changes_1 11 rfl rfl)
theorem dX0_changes_35 : decode cX0_changes 35 = .ok (.iload_n 3, 1) := dk_29 (dk_at dksX0_changes_1 12 rfl rfl)
theorem dX0_changes_36 : decode cX0_changes 36 = .ok (.iconst 4, 1) := dk_7 (dk_at dksX0_changes_1 13 rfl rfl)
theorem dX0_changes_37 : decode cX0_changes 37 = .ok (.if_icmp .ge 28, 3) := dk_162 0 28 (dk_at dksX0_changes_1 14 rfl rfl)
theorem dX0_changes_40 : decode cX0_changes 40 = .ok (.iload_n 2, 1) := dk_28 (dk_at dksX0_changes_1 17 rfl rfl)
theorem dX0_changes_41 : decode cX0_changes 41 = .ok (.iload_n 3, 1) := dk_29 (dk_at dksX0_changes_1 18 rfl rfl)
theorem dX0_changes_42 : decode cX0_changes 42 = .ok (.invokestatic 503, 3) := dk_184 1 247 (dk_at dksX0_changes_1 19 rfl rfl)
theorem dX0_changes_45 : decode cX0_changes 45 = .ok (.ifCond .eq 14, 3) := dk_153 0 14 (dk_at dksX0_changes_2 0 rfl rfl)
theorem dX0_changes_48 : decode cX0_changes 48 = .ok (.aload_n 0, 1) := dk_42 (dk_at dksX0_changes_2 3 rfl rfl)
theorem dX0_changes_49 : decode cX0_changes 49 = .ok (.iload_n 3, 1) := dk_29 (dk_at dksX0_changes_2 4 rfl rfl)
theorem dX0_changes_50 : decode cX0_changes 50 = .ok (.invokevirtual 603, 3) := dk_182 2 91 (dk_at dksX0_changes_2 5 rfl rfl)
theorem dX0_changes_53 : decode cX0_changes 53 = .ok (.iconst (-1), 1) := dk_2 (dk_at dksX0_changes_2 8 rfl rfl)
theorem dX0_changes_54 : decode cX0_changes 54 = .ok (.if_icmp .ne 5, 3) := dk_160 0 5 (dk_at dksX0_changes_2 9 rfl rfl)
theorem dX0_changes_57 : decode cX0_changes 57 = .ok (.iconst (-1), 1) := dk_2 (dk_at dksX0_changes_2 12 rfl rfl)
theorem dX0_changes_58 : decode cX0_changes 58 = .ok (.ireturn, 1) := dk_172 (dk_at dksX0_changes_2 13 rfl rfl)
theorem dX0_changes_59 : decode cX0_changes 59 = .ok (.iinc 3 1, 3) := dk_132 3 1 (dk_at dksX0_changes_2 14 rfl rfl)
theorem dX0_changes_62 : decode cX0_changes 62 = .ok (.goto (-27), 3) := dk_167 255 229 (dk_at dksX0_changes_2 17 rfl rfl)
theorem dX0_changes_65 : decode cX0_changes 65 = .ok (.iload_n 1, 1) := dk_27 (dk_at dksX0_changes_2 20 rfl rfl)
theorem dX0_changes_66 : decode cX0_changes 66 = .ok (.ifCond .ne 10, 3) := dk_154 0 10 (dk_at dksX0_changes_2 21 rfl rfl)
theorem dX0_changes_69 : decode cX0_changes 69 = .ok (.iload_n 2, 1) := dk_28 (dk_at dksX0_changes_3 0 rfl rfl)
theorem dX0_changes_70 : decode cX0_changes 70 = .ok (.invokestatic 548, 3) := dk_184 2 36 (dk_at dksX0_changes_3 1 rfl rfl)
theorem dX0_changes_73 : decode cX0_changes 73 = .ok (.goto 26, 3) := dk_167 0 26 (dk_at dksX0_changes_3 4 rfl rfl)
theorem dX0_changes_76 : decode cX0_changes 76 = .ok (.iload_n 2, 1) := dk_28 (dk_at dksX0_changes_3 7 rfl rfl)
theorem dX0_changes_77 : decode cX0_changes 77 = .ok (.iload_n 1, 1) := dk_27 (dk_at dksX0_changes_3 8 rfl rfl)
theorem dX0_changes_78 : decode cX0_changes 78 = .ok (.bipush 10, 2) := dk_16 10 (dk_at dksX0_changes_3 9 rfl rfl)
theorem dX0_changes_80 : decode cX0_changes 80 = .ok (.isub, 1) := dk_100 (dk_at dksX0_changes_3 11 rfl rfl)
theorem dX0_changes_81 : decode cX0_changes 81 = .ok (.invokestatic 503, 3) := dk_184 1 247 (dk_at dksX0_changes_3 12 rfl rfl)
theorem dX0_changes_84 : decode cX0_changes 84 = .ok (.ifCond .eq 14, 3) := dk_153 0 14 (dk_at dksX0_changes_3 15 rfl rfl)
theorem dX0_changes_87 : decode cX0_changes 87 = .ok (.aload_n 0, 1) := dk_42 (dk_at dksX0_changes_3 18 rfl rfl)
theorem dX0_changes_88 : decode cX0_changes 88 = .ok (.iload_n 1, 1) := dk_27 (dk_at dksX0_changes_3 19 rfl rfl)
theorem dX0_changes_89 : decode cX0_changes 89 = .ok (.bipush 10, 2) := dk_16 10 (dk_at dksX0_changes_3 20 rfl rfl)
theorem dX0_changes_91 : decode cX0_changes 91 = .ok (.isub, 1) := dk_100 (dk_at dksX0_changes_3 22 rfl rfl)
theorem dX0_changes_92 : decode cX0_changes 92 = .ok (.invokevirtual 603, 3) := dk_182 2 91 (dk_at dksX0_changes_4 0 rfl rfl)
theorem dX0_changes_95 : decode cX0_changes 95 = .ok (.goto 4, 3) := dk_167 0 4 (dk_at dksX0_changes_4 3 rfl rfl)
theorem dX0_changes_98 : decode cX0_changes 98 = .ok (.iconst (-1), 1) := dk_2 (dk_at dksX0_changes_4 6 rfl rfl)
theorem dX0_changes_99 : decode cX0_changes 99 = .ok (.ireturn, 1) := dk_172 (dk_at dksX0_changes_4 7 rfl rfl)
abbrev cX0_branchFor : ByteArray := prog_1_method_76_code
def yX0_branchFor : MethodName := ⟨RX0, "branchFor", "(I)I"⟩
def dkwX0_branchFor_3 : List UInt8 := [132, 3, 1, 167, 255, 192, 132, 2, 1, 167, 255, 179, 2, 172]
abbrev dktX0_branchFor_3 : List UInt8 := dkwX0_branchFor_3 ++ []
def dkwX0_branchFor_2 : List UInt8 := [160, 0, 18, 42, 180, 0, 164, 29, 21, 4, 182, 2, 88, 153, 0, 5, 28, 172, 132, 4, 1, 167, 255, 209]
abbrev dktX0_branchFor_2 : List UInt8 := dkwX0_branchFor_2 ++ dktX0_branchFor_3
def dkwX0_branchFor_1 : List UInt8 := [180, 1, 140, 162, 0, 44, 42, 180, 0, 132, 29, 46, 27, 160, 0, 28, 42, 180, 0, 136, 29, 46, 28]
abbrev dktX0_branchFor_1 : List UInt8 := dkwX0_branchFor_1 ++ dktX0_branchFor_2
def dkwX0_branchFor_0 : List UInt8 := [3, 61, 28, 7, 162, 0, 78, 3, 62, 29, 42, 180, 1, 137, 162, 0, 62, 3, 54, 4, 21, 4, 42]
abbrev dktX0_branchFor_0 : List UInt8 := dkwX0_branchFor_0 ++ dktX0_branchFor_1
theorem dksX0_branchFor_0 : cX0_branchFor.data.toList.drop 0 = dktX0_branchFor_0 := by decide +kernel
theorem dksX0_branchFor_1 : cX0_branchFor.data.toList.drop 23 = dktX0_branchFor_1 := dk_seg dksX0_branchFor_0 23 rfl rfl
theorem dksX0_branchFor_2 : cX0_branchFor.data.toList.drop 46 = dktX0_branchFor_2 := dk_seg dksX0_branchFor_1 23 rfl rfl
theorem dksX0_branchFor_3 : cX0_branchFor.data.toList.drop 70 = dktX0_branchFor_3 := dk_seg dksX0_branchFor_2 24 rfl rfl
theorem dX0_branchFor_0 : decode cX0_branchFor 0 = .ok (.iconst 0, 1) := dk_3 (dk_at dksX0_branchFor_0 0 rfl rfl)
theorem dX0_branchFor_1 : decode cX0_branchFor 1 = .ok (.istore_n 2, 1) := dk_61 (dk_at dksX0_branchFor_0 1 rfl rfl)
theorem dX0_branchFor_2 : decode cX0_branchFor 2 = .ok (.iload_n 2, 1) := dk_28 (dk_at dksX0_branchFor_0 2 rfl rfl)
theorem dX0_branchFor_3 : decode cX0_branchFor 3 = .ok (.iconst 4, 1) := dk_7 (dk_at dksX0_branchFor_0 3 rfl rfl)
theorem dX0_branchFor_4 : decode cX0_branchFor 4 = .ok (.if_icmp .ge 78, 3) := dk_162 0 78 (dk_at dksX0_branchFor_0 4 rfl rfl)
theorem dX0_branchFor_7 : decode cX0_branchFor 7 = .ok (.iconst 0, 1) := dk_3 (dk_at dksX0_branchFor_0 7 rfl rfl)
theorem dX0_branchFor_8 : decode cX0_branchFor 8 = .ok (.istore_n 3, 1) := dk_62 (dk_at dksX0_branchFor_0 8 rfl rfl)
theorem dX0_branchFor_9 : decode cX0_branchFor 9 = .ok (.iload_n 3, 1) := dk_29 (dk_at dksX0_branchFor_0 9 rfl rfl)
theorem dX0_branchFor_10 : decode cX0_branchFor 10 = .ok (.aload_n 0, 1) := dk_42 (dk_at dksX0_branchFor_0 10 rfl rfl)
theorem dX0_branchFor_11 : decode cX0_branchFor 11 = .ok (.getfield 393, 3) := dk_180 1 137 (dk_at dksX0_branchFor_0 11 rfl rfl)
theorem dX0_branchFor_14 : decode cX0_branchFor 14 = .ok (.if_icmp .ge 62, 3) := dk_162 0 62 (dk_at dksX0_branchFor_0 14 rfl rfl)
theorem dX0_branchFor_17 : decode cX0_branchFor 17 = .ok (.iconst 0, 1) := dk_3 (dk_at dksX0_branchFor_0 17 rfl rfl)
theorem dX0_branchFor_18 : decode cX0_branchFor 18 = .ok (.istore 4, 2) := dk_54 4 (dk_at dksX0_branchFor_0 18 rfl rfl)
theorem dX0_branchFor_20 : decode cX0_branchFor 20 = .ok (.iload 4, 2) := dk_21 4 (dk_at dksX0_branchFor_0 20 rfl rfl)
theorem dX0_branchFor_22 : decode cX0_branchFor 22 = .ok (.aload_n 0, 1) := dk_42 (dk_at dksX0_branchFor_0 22 rfl rfl)
theorem dX0_branchFor_23 : decode cX0_branchFor 23 = .ok (.getfield 396, 3) := dk_180 1 140 (dk_at dksX0_branchFor_1 0 rfl rfl)
theorem dX0_branchFor_26 : decode cX0_branchFor 26 = .ok (.if_icmp .ge 44, 3) := dk_162 0 44 (dk_at dksX0_branchFor_1 3 rfl rfl)
theorem dX0_branchFor_29 : decode cX0_branchFor 29 = .ok (.aload_n 0, 1) := dk_42 (dk_at dksX0_branchFor_1 6 rfl rfl)
theorem dX0_branchFor_30 : decode cX0_branchFor 30 = .ok (.getfield 132, 3) := dk_180 0 132 (dk_at dksX0_branchFor_1 7 rfl rfl)
theorem dX0_branchFor_33 : decode cX0_branchFor 33 = .ok (.iload_n 3, 1) := dk_29 (dk_at dksX0_branchFor_1 10 rfl rfl)
theorem dX0_branchFor_34 : decode cX0_branchFor 34 = .ok (.iaload, 1) := dk_46 (dk_at dksX0_branchFor_1 11 rfl rfl)
theorem dX0_branchFor_35 : decode cX0_branchFor 35 = .ok (.iload_n 1, 1) := dk_27 (dk_at dksX0_branchFor_1 12 rfl rfl)
theorem dX0_branchFor_36 : decode cX0_branchFor 36 = .ok (.if_icmp .ne 28, 3) := dk_160 0 28 (dk_at dksX0_branchFor_1 13 rfl rfl)
theorem dX0_branchFor_39 : decode cX0_branchFor 39 = .ok (.aload_n 0, 1) := dk_42 (dk_at dksX0_branchFor_1 16 rfl rfl)
theorem dX0_branchFor_40 : decode cX0_branchFor 40 = .ok (.getfield 136, 3) := dk_180 0 136 (dk_at dksX0_branchFor_1 17 rfl rfl)
theorem dX0_branchFor_43 : decode cX0_branchFor 43 = .ok (.iload_n 3, 1) := dk_29 (dk_at dksX0_branchFor_1 20 rfl rfl)
theorem dX0_branchFor_44 : decode cX0_branchFor 44 = .ok (.iaload, 1) := dk_46 (dk_at dksX0_branchFor_1 21 rfl rfl)
theorem dX0_branchFor_45 : decode cX0_branchFor 45 = .ok (.iload_n 2, 1) := dk_28 (dk_at dksX0_branchFor_1 22 rfl rfl)
theorem dX0_branchFor_46 : decode cX0_branchFor 46 = .ok (.if_icmp .ne 18, 3) := dk_160 0 18 (dk_at dksX0_branchFor_2 0 rfl rfl)
theorem dX0_branchFor_49 : decode cX0_branchFor 49 = .ok (.aload_n 0, 1) := dk_42 (dk_at dksX0_branchFor_2 3 rfl rfl)
theorem dX0_branchFor_50 : decode cX0_branchFor 50 = .ok (.getfield 164, 3) := dk_180 0 164 (dk_at dksX0_branchFor_2 4 rfl rfl)
theorem dX0_branchFor_53 : decode cX0_branchFor 53 = .ok (.iload_n 3, 1) := dk_29 (dk_at dksX0_branchFor_2 7 rfl rfl)
theorem dX0_branchFor_54 : decode cX0_branchFor 54 = .ok (.iload 4, 2) := dk_21 4 (dk_at dksX0_branchFor_2 8 rfl rfl)
theorem dX0_branchFor_56 : decode cX0_branchFor 56 = .ok (.invokevirtual 600, 3) := dk_182 2 88 (dk_at dksX0_branchFor_2 10 rfl rfl)
theorem dX0_branchFor_59 : decode cX0_branchFor 59 = .ok (.ifCond .eq 5, 3) := dk_153 0 5 (dk_at dksX0_branchFor_2 13 rfl rfl)
theorem dX0_branchFor_62 : decode cX0_branchFor 62 = .ok (.iload_n 2, 1) := dk_28 (dk_at dksX0_branchFor_2 16 rfl rfl)
theorem dX0_branchFor_63 : decode cX0_branchFor 63 = .ok (.ireturn, 1) := dk_172 (dk_at dksX0_branchFor_2 17 rfl rfl)
theorem dX0_branchFor_64 : decode cX0_branchFor 64 = .ok (.iinc 4 1, 3) := dk_132 4 1 (dk_at dksX0_branchFor_2 18 rfl rfl)
theorem dX0_branchFor_67 : decode cX0_branchFor 67 = .ok (.goto (-47), 3) := dk_167 255 209 (dk_at dksX0_branchFor_2 21 rfl rfl)
theorem dX0_branchFor_70 : decode cX0_branchFor 70 = .ok (.iinc 3 1, 3) := dk_132 3 1 (dk_at dksX0_branchFor_3 0 rfl rfl)
theorem dX0_branchFor_73 : decode cX0_branchFor 73 = .ok (.goto (-64), 3) := dk_167 255 192 (dk_at dksX0_branchFor_3 3 rfl rfl)
theorem dX0_branchFor_76 : decode cX0_branchFor 76 = .ok (.iinc 2 1, 3) := dk_132 2 1 (dk_at dksX0_branchFor_3 6 rfl rfl)
theorem dX0_branchFor_79 : decode cX0_branchFor 79 = .ok (.goto (-77), 3) := dk_167 255 179 (dk_at dksX0_branchFor_3 9 rfl rfl)
theorem dX0_branchFor_82 : decode cX0_branchFor 82 = .ok (.iconst (-1), 1) := dk_2 (dk_at dksX0_branchFor_3 12 rfl rfl)
theorem dX0_branchFor_83 : decode cX0_branchFor 83 = .ok (.ireturn, 1) := dk_172 (dk_at dksX0_branchFor_3 13 rfl rfl)
abbrev cX0_vote : ByteArray := prog_1_method_80_code
def yX0_vote : MethodName := ⟨RX0, "vote", "(I)I"⟩
def dkwX0_vote_1 : List UInt8 := [153, 0, 7, 4, 167, 0, 4, 3, 172]
abbrev dktX0_vote_1 : List UInt8 := dkwX0_vote_1 ++ []
def dkwX0_vote_0 : List UInt8 := [27, 155, 0, 13, 27, 4, 42, 180, 1, 137, 120, 161, 0, 7, 2, 167, 0, 16, 42, 27, 182, 2, 97]
abbrev dktX0_vote_0 : List UInt8 := dkwX0_vote_0 ++ dktX0_vote_1
theorem dksX0_vote_0 : cX0_vote.data.toList.drop 0 = dktX0_vote_0 := by decide +kernel
theorem dksX0_vote_1 : cX0_vote.data.toList.drop 23 = dktX0_vote_1 := dk_seg dksX0_vote_0 23 rfl rfl
theorem dX0_vote_0 : decode cX0_vote 0 = .ok (.iload_n 1, 1) := dk_27 (dk_at dksX0_vote_0 0 rfl rfl)
theorem dX0_vote_1 : decode cX0_vote 1 = .ok (.ifCond .lt 13, 3) := dk_155 0 13 (dk_at dksX0_vote_0 1 rfl rfl)
theorem dX0_vote_4 : decode cX0_vote 4 = .ok (.iload_n 1, 1) := dk_27 (dk_at dksX0_vote_0 4 rfl rfl)
theorem dX0_vote_5 : decode cX0_vote 5 = .ok (.iconst 1, 1) := dk_4 (dk_at dksX0_vote_0 5 rfl rfl)
theorem dX0_vote_6 : decode cX0_vote 6 = .ok (.aload_n 0, 1) := dk_42 (dk_at dksX0_vote_0 6 rfl rfl)
theorem dX0_vote_7 : decode cX0_vote 7 = .ok (.getfield 393, 3) := dk_180 1 137 (dk_at dksX0_vote_0 7 rfl rfl)
theorem dX0_vote_10 : decode cX0_vote 10 = .ok (.ishl, 1) := dk_120 (dk_at dksX0_vote_0 10 rfl rfl)
theorem dX0_vote_11 : decode cX0_vote 11 = .ok (.if_icmp .lt 7, 3) := dk_161 0 7 (dk_at dksX0_vote_0 11 rfl rfl)
theorem dX0_vote_14 : decode cX0_vote 14 = .ok (.iconst (-1), 1) := dk_2 (dk_at dksX0_vote_0 14 rfl rfl)
theorem dX0_vote_15 : decode cX0_vote 15 = .ok (.goto 16, 3) := dk_167 0 16 (dk_at dksX0_vote_0 15 rfl rfl)
theorem dX0_vote_18 : decode cX0_vote 18 = .ok (.aload_n 0, 1) := dk_42 (dk_at dksX0_vote_0 18 rfl rfl)
theorem dX0_vote_19 : decode cX0_vote 19 = .ok (.iload_n 1, 1) := dk_27 (dk_at dksX0_vote_0 19 rfl rfl)
theorem dX0_vote_20 : decode cX0_vote 20 = .ok (.invokevirtual 609, 3) := dk_182 2 97 (dk_at dksX0_vote_0 20 rfl rfl)
theorem dX0_vote_23 : decode cX0_vote 23 = .ok (.ifCond .eq 7, 3) := dk_153 0 7 (dk_at dksX0_vote_1 0 rfl rfl)
theorem dX0_vote_26 : decode cX0_vote 26 = .ok (.iconst 1, 1) := dk_4 (dk_at dksX0_vote_1 3 rfl rfl)
theorem dX0_vote_27 : decode cX0_vote 27 = .ok (.goto 4, 3) := dk_167 0 4 (dk_at dksX0_vote_1 4 rfl rfl)
theorem dX0_vote_30 : decode cX0_vote 30 = .ok (.iconst 0, 1) := dk_3 (dk_at dksX0_vote_1 7 rfl rfl)
theorem dX0_vote_31 : decode cX0_vote 31 = .ok (.ireturn, 1) := dk_172 (dk_at dksX0_vote_1 8 rfl rfl)
abbrev cX0_isAgreed : ByteArray := prog_1_method_79_code
def yX0_isAgreed : MethodName := ⟨RX0, "isAgreed", "(I)Z"⟩
def dkwX0_isAgreed_0 : List UInt8 := [42, 27, 182, 2, 94, 42, 180, 0, 153, 161, 0, 7, 4, 167, 0, 4, 3, 172]
abbrev dktX0_isAgreed_0 : List UInt8 := dkwX0_isAgreed_0 ++ []
theorem dksX0_isAgreed_0 : cX0_isAgreed.data.toList.drop 0 = dktX0_isAgreed_0 := by decide +kernel
theorem dX0_isAgreed_0 : decode cX0_isAgreed 0 = .ok (.aload_n 0, 1) := dk_42 (dk_at dksX0_isAgreed_0 0 rfl rfl)
theorem dX0_isAgreed_1 : decode cX0_isAgreed 1 = .ok (.iload_n 1, 1) := dk_27 (dk_at dksX0_isAgreed_0 1 rfl rfl)
theorem dX0_isAgreed_2 : decode cX0_isAgreed 2 = .ok (.invokevirtual 606, 3) := dk_182 2 94 (dk_at dksX0_isAgreed_0 2 rfl rfl)
theorem dX0_isAgreed_5 : decode cX0_isAgreed 5 = .ok (.aload_n 0, 1) := dk_42 (dk_at dksX0_isAgreed_0 5 rfl rfl)
theorem dX0_isAgreed_6 : decode cX0_isAgreed 6 = .ok (.getfield 153, 3) := dk_180 0 153 (dk_at dksX0_isAgreed_0 6 rfl rfl)
theorem dX0_isAgreed_9 : decode cX0_isAgreed 9 = .ok (.if_icmp .lt 7, 3) := dk_161 0 7 (dk_at dksX0_isAgreed_0 9 rfl rfl)
theorem dX0_isAgreed_12 : decode cX0_isAgreed 12 = .ok (.iconst 1, 1) := dk_4 (dk_at dksX0_isAgreed_0 12 rfl rfl)
theorem dX0_isAgreed_13 : decode cX0_isAgreed 13 = .ok (.goto 4, 3) := dk_167 0 4 (dk_at dksX0_isAgreed_0 13 rfl rfl)
theorem dX0_isAgreed_16 : decode cX0_isAgreed 16 = .ok (.iconst 0, 1) := dk_3 (dk_at dksX0_isAgreed_0 16 rfl rfl)
theorem dX0_isAgreed_17 : decode cX0_isAgreed 17 = .ok (.ireturn, 1) := dk_172 (dk_at dksX0_isAgreed_0 17 rfl rfl)
abbrev cX0_votesOf : ByteArray := prog_1_method_78_code
def yX0_votesOf : MethodName := ⟨RX0, "votesOf", "(I)I"⟩
def dkwX0_votesOf_1 : List UInt8 := [180, 0, 142, 29, 46, 167, 0, 4, 3, 96, 61, 132, 3, 1, 167, 255, 224, 28, 172]
abbrev dktX0_votesOf_1 : List UInt8 := dkwX0_votesOf_1 ++ []
def dkwX0_votesOf_0 : List UInt8 := [3, 61, 3, 62, 29, 42, 180, 1, 137, 162, 0, 30, 28, 27, 29, 184, 1, 247, 153, 0, 12, 42]
abbrev dktX0_votesOf_0 : List UInt8 := dkwX0_votesOf_0 ++ dktX0_votesOf_1
theorem dksX0_votesOf_0 : cX0_votesOf.data.toList.drop 0 = dktX0_votesOf_0 := by decide +kernel
theorem dksX0_votesOf_1 : cX0_votesOf.data.toList.drop 22 = dktX0_votesOf_1 := dk_seg dksX0_votesOf_0 22 rfl rfl
theorem dX0_votesOf_0 : decode cX0_votesOf 0 = .ok (.iconst 0, 1) := dk_3 (dk_at dksX0_votesOf_0 0 rfl rfl)
theorem dX0_votesOf_1 : decode cX0_votesOf 1 = .ok (.istore_n 2, 1) := dk_61 (dk_at dksX0_votesOf_0 1 rfl rfl)
theorem dX0_votesOf_2 : decode cX0_votesOf 2 = .ok (.iconst 0, 1) := dk_3 (dk_at dksX0_votesOf_0 2 rfl rfl)
theorem dX0_votesOf_3 : decode cX0_votesOf 3 = .ok (.istore_n 3, 1) := dk_62 (dk_at dksX0_votesOf_0 3 rfl rfl)
theorem dX0_votesOf_4 : decode cX0_votesOf 4 = .ok (.iload_n 3, 1) := dk_29 (dk_at dksX0_votesOf_0 4 rfl rfl)
theorem dX0_votesOf_5 : decode cX0_votesOf 5 = .ok (.aload_n 0, 1) := dk_42 (dk_at dksX0_votesOf_0 5 rfl rfl)
theorem dX0_votesOf_6 : decode cX0_votesOf 6 = .ok (.getfield 393, 3) := dk_180 1 137 (dk_at dksX0_votesOf_0 6 rfl rfl)
theorem dX0_votesOf_9 : decode cX0_votesOf 9 = .ok (.if_icmp .ge 30, 3) := dk_162 0 30 (dk_at dksX0_votesOf_0 9 rfl rfl)
theorem dX0_votesOf_12 : decode cX0_votesOf 12 = .ok (.iload_n 2, 1) := dk_28 (dk_at dksX0_votesOf_0 12 rfl rfl)
theorem dX0_votesOf_13 : decode cX0_votesOf 13 = .ok (.iload_n 1, 1) := dk_27 (dk_at dksX0_votesOf_0 13 rfl rfl)
theorem dX0_votesOf_14 : decode cX0_votesOf 14 = .ok (.iload_n 3, 1) := dk_29 (dk_at dksX0_votesOf_0 14 rfl rfl)
theorem dX0_votesOf_15 : decode cX0_votesOf 15 = .ok (.invokestatic 503, 3) := dk_184 1 247 (dk_at dksX0_votesOf_0 15 rfl rfl)
theorem dX0_votesOf_18 : decode cX0_votesOf 18 = .ok (.ifCond .eq 12, 3) := dk_153 0 12 (dk_at dksX0_votesOf_0 18 rfl rfl)
theorem dX0_votesOf_21 : decode cX0_votesOf 21 = .ok (.aload_n 0, 1) := dk_42 (dk_at dksX0_votesOf_0 21 rfl rfl)
theorem dX0_votesOf_22 : decode cX0_votesOf 22 = .ok (.getfield 142, 3) := dk_180 0 142 (dk_at dksX0_votesOf_1 0 rfl rfl)
theorem dX0_votesOf_25 : decode cX0_votesOf 25 = .ok (.iload_n 3, 1) := dk_29 (dk_at dksX0_votesOf_1 3 rfl rfl)
theorem dX0_votesOf_26 : decode cX0_votesOf 26 = .ok (.iaload, 1) := dk_46 (dk_at dksX0_votesOf_1 4 rfl rfl)
theorem dX0_votesOf_27 : decode cX0_votesOf 27 = .ok (.goto 4, 3) := dk_167 0 4 (dk_at dksX0_votesOf_1 5 rfl rfl)
theorem dX0_votesOf_30 : decode cX0_votesOf 30 = .ok (.iconst 0, 1) := dk_3 (dk_at dksX0_votesOf_1 8 rfl rfl)
theorem dX0_votesOf_31 : decode cX0_votesOf 31 = .ok (.iadd, 1) := dk_96 (dk_at dksX0_votesOf_1 9 rfl rfl)
theorem dX0_votesOf_32 : decode cX0_votesOf 32 = .ok (.istore_n 2, 1) := dk_61 (dk_at dksX0_votesOf_1 10 rfl rfl)
theorem dX0_votesOf_33 : decode cX0_votesOf 33 = .ok (.iinc 3 1, 3) := dk_132 3 1 (dk_at dksX0_votesOf_1 11 rfl rfl)
theorem dX0_votesOf_36 : decode cX0_votesOf 36 = .ok (.goto (-32), 3) := dk_167 255 224 (dk_at dksX0_votesOf_1 14 rfl rfl)
theorem dX0_votesOf_39 : decode cX0_votesOf 39 = .ok (.iload_n 2, 1) := dk_28 (dk_at dksX0_votesOf_1 17 rfl rfl)
theorem dX0_votesOf_40 : decode cX0_votesOf 40 = .ok (.ireturn, 1) := dk_172 (dk_at dksX0_votesOf_1 18 rfl rfl)
abbrev cX0_of : ByteArray := prog_1_method_86_code
def yX0_of : MethodName := ⟨RX0, "of", "(II)I"⟩
def dkwX0_of_6 : List UInt8 := [42, 180, 0, 195, 27, 46, 172]
abbrev dktX0_of_6 : List UInt8 := dkwX0_of_6 ++ []
def dkwX0_of_5 : List UInt8 := [180, 1, 220, 27, 46, 172, 42, 27, 3, 182, 2, 109, 172, 42, 27, 4, 182, 2, 109, 172, 42, 182, 2, 113]
abbrev dktX0_of_5 : List UInt8 := dkwX0_of_5 ++ dktX0_of_6
def dkwX0_of_4 : List UInt8 := [46, 172, 42, 180, 0, 145, 27, 46, 172, 42, 180, 0, 164, 180, 1, 218, 27, 46, 172, 42, 180, 0, 164]
abbrev dktX0_of_4 : List UInt8 := dkwX0_of_4 ++ dktX0_of_5
def dkwX0_of_3 : List UInt8 := [180, 0, 164, 180, 1, 214, 27, 46, 172, 42, 180, 0, 164, 180, 1, 216, 27, 46, 172, 42, 180, 0, 142, 27]
abbrev dktX0_of_3 : List UInt8 := dkwX0_of_3 ++ dktX0_of_4
def dkwX0_of_2 : List UInt8 := [42, 180, 0, 132, 27, 46, 172, 42, 180, 0, 136, 27, 46, 172, 42, 180, 0, 139, 27, 46, 172, 42]
abbrev dktX0_of_2 : List UInt8 := dkwX0_of_2 ++ dktX0_of_3
def dkwX0_of_1 : List UInt8 := [170, 0, 0, 0, 0, 147, 0, 0, 0, 0, 0, 0, 0, 10, 0, 0, 0, 58, 0, 0, 0, 65, 0, 0, 0, 72, 0, 0, 0, 79, 0, 0, 0, 89, 0, 0, 0, 99, 0, 0, 0, 106, 0, 0, 0, 113, 0, 0, 0, 123, 0, 0, 0, 133, 0, 0, 0, 140]
abbrev dktX0_of_1 : List UInt8 := dkwX0_of_1 ++ dktX0_of_2
def dkwX0_of_0 : List UInt8 := [42, 27, 182, 1, 228, 153, 0, 13, 28, 3, 16, 11, 184, 0, 237, 154, 0, 6, 16, 254, 172, 28]
abbrev dktX0_of_0 : List UInt8 := dkwX0_of_0 ++ dktX0_of_1
theorem dksX0_of_0 : cX0_of.data.toList.drop 0 = dktX0_of_0 := by decide +kernel
theorem dksX0_of_1 : cX0_of.data.toList.drop 22 = dktX0_of_1 := dk_seg dksX0_of_0 22 rfl rfl
theorem dksX0_of_2 : cX0_of.data.toList.drop 80 = dktX0_of_2 := dk_seg dksX0_of_1 58 rfl rfl
theorem dksX0_of_3 : cX0_of.data.toList.drop 102 = dktX0_of_3 := dk_seg dksX0_of_2 22 rfl rfl
theorem dksX0_of_4 : cX0_of.data.toList.drop 126 = dktX0_of_4 := dk_seg dksX0_of_3 24 rfl rfl
theorem dksX0_of_5 : cX0_of.data.toList.drop 149 = dktX0_of_5 := dk_seg dksX0_of_4 23 rfl rfl
theorem dksX0_of_6 : cX0_of.data.toList.drop 173 = dktX0_of_6 := dk_seg dksX0_of_5 24 rfl rfl
theorem dX0_of_0 : decode cX0_of 0 = .ok (.aload_n 0, 1) := dk_42 (dk_at dksX0_of_0 0 rfl rfl)
theorem dX0_of_1 : decode cX0_of 1 = .ok (.iload_n 1, 1) := dk_27 (dk_at dksX0_of_0 1 rfl rfl)
theorem dX0_of_2 : decode cX0_of 2 = .ok (.invokevirtual 484, 3) := dk_182 1 228 (dk_at dksX0_of_0 2 rfl rfl)
theorem dX0_of_5 : decode cX0_of 5 = .ok (.ifCond .eq 13, 3) := dk_153 0 13 (dk_at dksX0_of_0 5 rfl rfl)
theorem dX0_of_8 : decode cX0_of 8 = .ok (.iload_n 2, 1) := dk_28 (dk_at dksX0_of_0 8 rfl rfl)
theorem dX0_of_9 : decode cX0_of 9 = .ok (.iconst 0, 1) := dk_3 (dk_at dksX0_of_0 9 rfl rfl)
theorem dX0_of_10 : decode cX0_of 10 = .ok (.bipush 11, 2) := dk_16 11 (dk_at dksX0_of_0 10 rfl rfl)
theorem dX0_of_12 : decode cX0_of 12 = .ok (.invokestatic 237, 3) := dk_184 0 237 (dk_at dksX0_of_0 12 rfl rfl)
theorem dX0_of_15 : decode cX0_of 15 = .ok (.ifCond .ne 6, 3) := dk_154 0 6 (dk_at dksX0_of_0 15 rfl rfl)
theorem dX0_of_18 : decode cX0_of 18 = .ok (.bipush (-2), 2) := dk_16 254 (dk_at dksX0_of_0 18 rfl rfl)
theorem dX0_of_20 : decode cX0_of 20 = .ok (.ireturn, 1) := dk_172 (dk_at dksX0_of_0 20 rfl rfl)
theorem dX0_of_21 : decode cX0_of 21 = .ok (.iload_n 2, 1) := dk_28 (dk_at dksX0_of_0 21 rfl rfl)
theorem dX0_of_22 : decode cX0_of 22 = .ok (.tableswitch 147 0 10 #[58, 65, 72, 79, 89, 99, 106, 113, 123, 133, 140], 58) := by decide +kernel
theorem dX0_of_80 : decode cX0_of 80 = .ok (.aload_n 0, 1) := dk_42 (dk_at dksX0_of_2 0 rfl rfl)
theorem dX0_of_81 : decode cX0_of 81 = .ok (.getfield 132, 3) := dk_180 0 132 (dk_at dksX0_of_2 1 rfl rfl)
theorem dX0_of_84 : decode cX0_of 84 = .ok (.iload_n 1, 1) := dk_27 (dk_at dksX0_of_2 4 rfl rfl)
theorem dX0_of_85 : decode cX0_of 85 = .ok (.iaload, 1) := dk_46 (dk_at dksX0_of_2 5 rfl rfl)
theorem dX0_of_86 : decode cX0_of 86 = .ok (.ireturn, 1) := dk_172 (dk_at dksX0_of_2 6 rfl rfl)
theorem dX0_of_87 : decode cX0_of 87 = .ok (.aload_n 0, 1) := dk_42 (dk_at dksX0_of_2 7 rfl rfl)
theorem dX0_of_88 : decode cX0_of 88 = .ok (.getfield 136, 3) := dk_180 0 136 (dk_at dksX0_of_2 8 rfl rfl)
theorem dX0_of_91 : decode cX0_of 91 = .ok (.iload_n 1, 1) := dk_27 (dk_at dksX0_of_2 11 rfl rfl)
theorem dX0_of_92 : decode cX0_of 92 = .ok (.iaload, 1) := dk_46 (dk_at dksX0_of_2 12 rfl rfl)
theorem dX0_of_93 : decode cX0_of 93 = .ok (.ireturn, 1) := dk_172 (dk_at dksX0_of_2 13 rfl rfl)
theorem dX0_of_94 : decode cX0_of 94 = .ok (.aload_n 0, 1) := dk_42 (dk_at dksX0_of_2 14 rfl rfl)
theorem dX0_of_95 : decode cX0_of 95 = .ok (.getfield 139, 3) := dk_180 0 139 (dk_at dksX0_of_2 15 rfl rfl)
theorem dX0_of_98 : decode cX0_of 98 = .ok (.iload_n 1, 1) := dk_27 (dk_at dksX0_of_2 18 rfl rfl)
theorem dX0_of_99 : decode cX0_of 99 = .ok (.iaload, 1) := dk_46 (dk_at dksX0_of_2 19 rfl rfl)
theorem dX0_of_100 : decode cX0_of 100 = .ok (.ireturn, 1) := dk_172 (dk_at dksX0_of_2 20 rfl rfl)
theorem dX0_of_101 : decode cX0_of 101 = .ok (.aload_n 0, 1) := dk_42 (dk_at dksX0_of_2 21 rfl rfl)
theorem dX0_of_102 : decode cX0_of 102 = .ok (.getfield 164, 3) := dk_180 0 164 (dk_at dksX0_of_3 0 rfl rfl)
theorem dX0_of_105 : decode cX0_of 105 = .ok (.getfield 470, 3) := dk_180 1 214 (dk_at dksX0_of_3 3 rfl rfl)
theorem dX0_of_108 : decode cX0_of 108 = .ok (.iload_n 1, 1) := dk_27 (dk_at dksX0_of_3 6 rfl rfl)
theorem dX0_of_109 : decode cX0_of 109 = .ok (.iaload, 1) := dk_46 (dk_at dksX0_of_3 7 rfl rfl)
theorem dX0_of_110 : decode cX0_of 110 = .ok (.ireturn, 1) := dk_172 (dk_at dksX0_of_3 8 rfl rfl)
theorem dX0_of_111 : decode cX0_of 111 = .ok (.aload_n 0, 1) := dk_42 (dk_at dksX0_of_3 9 rfl rfl)
theorem dX0_of_112 : decode cX0_of 112 = .ok (.getfield 164, 3) := dk_180 0 164 (dk_at dksX0_of_3 10 rfl rfl)
theorem dX0_of_115 : decode cX0_of 115 = .ok (.getfield 472, 3) := dk_180 1 216 (dk_at dksX0_of_3 13 rfl rfl)
theorem dX0_of_118 : decode cX0_of 118 = .ok (.iload_n 1, 1) := dk_27 (dk_at dksX0_of_3 16 rfl rfl)
theorem dX0_of_119 : decode cX0_of 119 = .ok (.iaload, 1) := dk_46 (dk_at dksX0_of_3 17 rfl rfl)
theorem dX0_of_120 : decode cX0_of 120 = .ok (.ireturn, 1) := dk_172 (dk_at dksX0_of_3 18 rfl rfl)
theorem dX0_of_121 : decode cX0_of 121 = .ok (.aload_n 0, 1) := dk_42 (dk_at dksX0_of_3 19 rfl rfl)
theorem dX0_of_122 : decode cX0_of 122 = .ok (.getfield 142, 3) := dk_180 0 142 (dk_at dksX0_of_3 20 rfl rfl)
theorem dX0_of_125 : decode cX0_of 125 = .ok (.iload_n 1, 1) := dk_27 (dk_at dksX0_of_3 23 rfl rfl)
theorem dX0_of_126 : decode cX0_of 126 = .ok (.iaload, 1) := dk_46 (dk_at dksX0_of_4 0 rfl rfl)
theorem dX0_of_127 : decode cX0_of 127 = .ok (.ireturn, 1) := dk_172 (dk_at dksX0_of_4 1 rfl rfl)
theorem dX0_of_128 : decode cX0_of 128 = .ok (.aload_n 0, 1) := dk_42 (dk_at dksX0_of_4 2 rfl rfl)
theorem dX0_of_129 : decode cX0_of 129 = .ok (.getfield 145, 3) := dk_180 0 145 (dk_at dksX0_of_4 3 rfl rfl)
theorem dX0_of_132 : decode cX0_of 132 = .ok (.iload_n 1, 1) := dk_27 (dk_at dksX0_of_4 6 rfl rfl)
theorem dX0_of_133 : decode cX0_of 133 = .ok (.iaload, 1) := dk_46 (dk_at dksX0_of_4 7 rfl rfl)
theorem dX0_of_134 : decode cX0_of 134 = .ok (.ireturn, 1) := dk_172 (dk_at dksX0_of_4 8 rfl rfl)
theorem dX0_of_135 : decode cX0_of 135 = .ok (.aload_n 0, 1) := dk_42 (dk_at dksX0_of_4 9 rfl rfl)
theorem dX0_of_136 : decode cX0_of 136 = .ok (.getfield 164, 3) := dk_180 0 164 (dk_at dksX0_of_4 10 rfl rfl)
theorem dX0_of_139 : decode cX0_of 139 = .ok (.getfield 474, 3) := dk_180 1 218 (dk_at dksX0_of_4 13 rfl rfl)
theorem dX0_of_142 : decode cX0_of 142 = .ok (.iload_n 1, 1) := dk_27 (dk_at dksX0_of_4 16 rfl rfl)
theorem dX0_of_143 : decode cX0_of 143 = .ok (.iaload, 1) := dk_46 (dk_at dksX0_of_4 17 rfl rfl)
theorem dX0_of_144 : decode cX0_of 144 = .ok (.ireturn, 1) := dk_172 (dk_at dksX0_of_4 18 rfl rfl)
theorem dX0_of_145 : decode cX0_of 145 = .ok (.aload_n 0, 1) := dk_42 (dk_at dksX0_of_4 19 rfl rfl)
theorem dX0_of_146 : decode cX0_of 146 = .ok (.getfield 164, 3) := dk_180 0 164 (dk_at dksX0_of_4 20 rfl rfl)
theorem dX0_of_149 : decode cX0_of 149 = .ok (.getfield 476, 3) := dk_180 1 220 (dk_at dksX0_of_5 0 rfl rfl)
theorem dX0_of_152 : decode cX0_of 152 = .ok (.iload_n 1, 1) := dk_27 (dk_at dksX0_of_5 3 rfl rfl)
theorem dX0_of_153 : decode cX0_of 153 = .ok (.iaload, 1) := dk_46 (dk_at dksX0_of_5 4 rfl rfl)
theorem dX0_of_154 : decode cX0_of 154 = .ok (.ireturn, 1) := dk_172 (dk_at dksX0_of_5 5 rfl rfl)
theorem dX0_of_155 : decode cX0_of 155 = .ok (.aload_n 0, 1) := dk_42 (dk_at dksX0_of_5 6 rfl rfl)
theorem dX0_of_156 : decode cX0_of 156 = .ok (.iload_n 1, 1) := dk_27 (dk_at dksX0_of_5 7 rfl rfl)
theorem dX0_of_157 : decode cX0_of 157 = .ok (.iconst 0, 1) := dk_3 (dk_at dksX0_of_5 8 rfl rfl)
theorem dX0_of_158 : decode cX0_of 158 = .ok (.invokevirtual 621, 3) := dk_182 2 109 (dk_at dksX0_of_5 9 rfl rfl)
theorem dX0_of_161 : decode cX0_of 161 = .ok (.ireturn, 1) := dk_172 (dk_at dksX0_of_5 12 rfl rfl)
theorem dX0_of_162 : decode cX0_of 162 = .ok (.aload_n 0, 1) := dk_42 (dk_at dksX0_of_5 13 rfl rfl)
theorem dX0_of_163 : decode cX0_of 163 = .ok (.iload_n 1, 1) := dk_27 (dk_at dksX0_of_5 14 rfl rfl)
theorem dX0_of_164 : decode cX0_of 164 = .ok (.iconst 1, 1) := dk_4 (dk_at dksX0_of_5 15 rfl rfl)
theorem dX0_of_165 : decode cX0_of 165 = .ok (.invokevirtual 621, 3) := dk_182 2 109 (dk_at dksX0_of_5 16 rfl rfl)
theorem dX0_of_168 : decode cX0_of 168 = .ok (.ireturn, 1) := dk_172 (dk_at dksX0_of_5 19 rfl rfl)
theorem dX0_of_169 : decode cX0_of 169 = .ok (.aload_n 0, 1) := dk_42 (dk_at dksX0_of_5 20 rfl rfl)
theorem dX0_of_170 : decode cX0_of 170 = .ok (.invokevirtual 625, 3) := dk_182 2 113 (dk_at dksX0_of_5 21 rfl rfl)
theorem dX0_of_173 : decode cX0_of 173 = .ok (.aload_n 0, 1) := dk_42 (dk_at dksX0_of_6 0 rfl rfl)
theorem dX0_of_174 : decode cX0_of 174 = .ok (.getfield 195, 3) := dk_180 0 195 (dk_at dksX0_of_6 1 rfl rfl)
theorem dX0_of_177 : decode cX0_of 177 = .ok (.iload_n 1, 1) := dk_27 (dk_at dksX0_of_6 4 rfl rfl)
theorem dX0_of_178 : decode cX0_of 178 = .ok (.iaload, 1) := dk_46 (dk_at dksX0_of_6 5 rfl rfl)
theorem dX0_of_179 : decode cX0_of 179 = .ok (.ireturn, 1) := dk_172 (dk_at dksX0_of_6 6 rfl rfl)
abbrev cX0_swingsOf : ByteArray := prog_1_method_82_code
def yX0_swingsOf : MethodName := ⟨RX0, "swingsOf", "(IZ)I"⟩
def dkwX0_swingsOf_4 : List UInt8 := [29, 172]
abbrev dktX0_swingsOf_4 : List UInt8 := dkwX0_swingsOf_4 ++ []
def dkwX0_swingsOf_3 : List UInt8 := [180, 1, 137, 4, 100, 21, 5, 100, 184, 2, 100, 104, 167, 0, 4, 4, 96, 62, 132, 4, 1, 167, 255, 172]
abbrev dktX0_swingsOf_3 : List UInt8 := dkwX0_swingsOf_3 ++ dktX0_swingsOf_4
def dkwX0_swingsOf_2 : List UInt8 := [154, 0, 6, 167, 0, 39, 21, 4, 184, 2, 36, 54, 5, 29, 28, 153, 0, 24, 21, 5, 184, 2, 100, 42]
abbrev dktX0_swingsOf_2 : List UInt8 := dkwX0_swingsOf_2 ++ dktX0_swingsOf_3
def dkwX0_swingsOf_1 : List UInt8 := [154, 0, 64, 42, 21, 4, 182, 2, 97, 154, 0, 55, 42, 21, 4, 4, 27, 120, 128, 182, 2, 97]
abbrev dktX0_swingsOf_1 : List UInt8 := dkwX0_swingsOf_1 ++ dktX0_swingsOf_2
def dkwX0_swingsOf_0 : List UInt8 := [3, 62, 3, 54, 4, 21, 4, 4, 42, 180, 1, 137, 120, 162, 0, 79, 21, 4, 27, 184, 1, 247]
abbrev dktX0_swingsOf_0 : List UInt8 := dkwX0_swingsOf_0 ++ dktX0_swingsOf_1
theorem dksX0_swingsOf_0 : cX0_swingsOf.data.toList.drop 0 = dktX0_swingsOf_0 := by decide +kernel
theorem dksX0_swingsOf_1 : cX0_swingsOf.data.toList.drop 22 = dktX0_swingsOf_1 := dk_seg dksX0_swingsOf_0 22 rfl rfl
theorem dksX0_swingsOf_2 : cX0_swingsOf.data.toList.drop 44 = dktX0_swingsOf_2 := dk_seg dksX0_swingsOf_1 22 rfl rfl
theorem dksX0_swingsOf_3 : cX0_swingsOf.data.toList.drop 68 = dktX0_swingsOf_3 := dk_seg dksX0_swingsOf_2 24 rfl rfl
theorem dksX0_swingsOf_4 : cX0_swingsOf.data.toList.drop 92 = dktX0_swingsOf_4 := dk_seg dksX0_swingsOf_3 24 rfl rfl
theorem dX0_swingsOf_0 : decode cX0_swingsOf 0 = .ok (.iconst 0, 1) := dk_3 (dk_at dksX0_swingsOf_0 0 rfl rfl)
theorem dX0_swingsOf_1 : decode cX0_swingsOf 1 = .ok (.istore_n 3, 1) := dk_62 (dk_at dksX0_swingsOf_0 1 rfl rfl)
theorem dX0_swingsOf_2 : decode cX0_swingsOf 2 = .ok (.iconst 0, 1) := dk_3 (dk_at dksX0_swingsOf_0 2 rfl rfl)
theorem dX0_swingsOf_3 : decode cX0_swingsOf 3 = .ok (.istore 4, 2) := dk_54 4 (dk_at dksX0_swingsOf_0 3 rfl rfl)
theorem dX0_swingsOf_5 : decode cX0_swingsOf 5 = .ok (.iload 4, 2) := dk_21 4 (dk_at dksX0_swingsOf_0 5 rfl rfl)
theorem dX0_swingsOf_7 : decode cX0_swingsOf 7 = .ok (.iconst 1, 1) := dk_4 (dk_at dksX0_swingsOf_0 7 rfl rfl)
theorem dX0_swingsOf_8 : decode cX0_swingsOf 8 = .ok (.aload_n 0, 1) := dk_42 (dk_at dksX0_swingsOf_0 8 rfl rfl)
theorem dX0_swingsOf_9 : decode cX0_swingsOf 9 = .ok (.getfield 393, 3) := dk_180 1 137 (dk_at dksX0_swingsOf_0 9 rfl rfl)
theorem dX0_swingsOf_12 : decode cX0_swingsOf 12 = .ok (.ishl, 1) := dk_120 (dk_at dksX0_swingsOf_0 12 rfl rfl)
theorem dX0_swingsOf_13 : decode cX0_swingsOf 13 = .ok (.if_icmp .ge 79, 3) := dk_162 0 79 (dk_at dksX0_swingsOf_0 13 rfl rfl)
theorem dX0_swingsOf_16 : decode cX0_swingsOf 16 = .ok (.iload 4, 2) := dk_21 4 (dk_at dksX0_swingsOf_0 16 rfl rfl)
theorem dX0_swingsOf_18 : decode cX0_swingsOf 18 = .ok (.iload_n 1, 1) := dk_27 (dk_at dksX0_swingsOf_0 18 rfl rfl)
theorem dX0_swingsOf_19 : decode cX0_swingsOf 19 = .ok (.invokestatic 503, 3) := dk_184 1 247 (dk_at dksX0_swingsOf_0 19 rfl rfl)
theorem dX0_swingsOf_22 : decode cX0_swingsOf 22 = .ok (.ifCond .ne 64, 3) := dk_154 0 64 (dk_at dksX0_swingsOf_1 0 rfl rfl)
theorem dX0_swingsOf_25 : decode cX0_swingsOf 25 = .ok (.aload_n 0, 1) := dk_42 (dk_at dksX0_swingsOf_1 3 rfl rfl)
theorem dX0_swingsOf_26 : decode cX0_swingsOf 26 = .ok (.iload 4, 2) := dk_21 4 (dk_at dksX0_swingsOf_1 4 rfl rfl)
theorem dX0_swingsOf_28 : decode cX0_swingsOf 28 = .ok (.invokevirtual 609, 3) := dk_182 2 97 (dk_at dksX0_swingsOf_1 6 rfl rfl)
theorem dX0_swingsOf_31 : decode cX0_swingsOf 31 = .ok (.ifCond .ne 55, 3) := dk_154 0 55 (dk_at dksX0_swingsOf_1 9 rfl rfl)
theorem dX0_swingsOf_34 : decode cX0_swingsOf 34 = .ok (.aload_n 0, 1) := dk_42 (dk_at dksX0_swingsOf_1 12 rfl rfl)
theorem dX0_swingsOf_35 : decode cX0_swingsOf 35 = .ok (.iload 4, 2) := dk_21 4 (dk_at dksX0_swingsOf_1 13 rfl rfl)
theorem dX0_swingsOf_37 : decode cX0_swingsOf 37 = .ok (.iconst 1, 1) := dk_4 (dk_at dksX0_swingsOf_1 15 rfl rfl)
theorem dX0_swingsOf_38 : decode cX0_swingsOf 38 = .ok (.iload_n 1, 1) := dk_27 (dk_at dksX0_swingsOf_1 16 rfl rfl)
theorem dX0_swingsOf_39 : decode cX0_swingsOf 39 = .ok (.ishl, 1) := dk_120 (dk_at dksX0_swingsOf_1 17 rfl rfl)
theorem dX0_swingsOf_40 : decode cX0_swingsOf 40 = .ok (.ior, 1) := dk_128 (dk_at dksX0_swingsOf_1 18 rfl rfl)
theorem dX0_swingsOf_41 : decode cX0_swingsOf 41 = .ok (.invokevirtual 609, 3) := dk_182 2 97 (dk_at dksX0_swingsOf_1 19 rfl rfl)
theorem dX0_swingsOf_44 : decode cX0_swingsOf 44 = .ok (.ifCond .ne 6, 3) := dk_154 0 6 (dk_at dksX0_swingsOf_2 0 rfl rfl)
theorem dX0_swingsOf_47 : decode cX0_swingsOf 47 = .ok (.goto 39, 3) := dk_167 0 39 (dk_at dksX0_swingsOf_2 3 rfl rfl)
theorem dX0_swingsOf_50 : decode cX0_swingsOf 50 = .ok (.iload 4, 2) := dk_21 4 (dk_at dksX0_swingsOf_2 6 rfl rfl)
theorem dX0_swingsOf_52 : decode cX0_swingsOf 52 = .ok (.invokestatic 548, 3) := dk_184 2 36 (dk_at dksX0_swingsOf_2 8 rfl rfl)
theorem dX0_swingsOf_55 : decode cX0_swingsOf 55 = .ok (.istore 5, 2) := dk_54 5 (dk_at dksX0_swingsOf_2 11 rfl rfl)
theorem dX0_swingsOf_57 : decode cX0_swingsOf 57 = .ok (.iload_n 3, 1) := dk_29 (dk_at dksX0_swingsOf_2 13 rfl rfl)
theorem dX0_swingsOf_58 : decode cX0_swingsOf 58 = .ok (.iload_n 2, 1) := dk_28 (dk_at dksX0_swingsOf_2 14 rfl rfl)
theorem dX0_swingsOf_59 : decode cX0_swingsOf 59 = .ok (.ifCond .eq 24, 3) := dk_153 0 24 (dk_at dksX0_swingsOf_2 15 rfl rfl)
theorem dX0_swingsOf_62 : decode cX0_swingsOf 62 = .ok (.iload 5, 2) := dk_21 5 (dk_at dksX0_swingsOf_2 18 rfl rfl)
theorem dX0_swingsOf_64 : decode cX0_swingsOf 64 = .ok (.invokestatic 612, 3) := dk_184 2 100 (dk_at dksX0_swingsOf_2 20 rfl rfl)
theorem dX0_swingsOf_67 : decode cX0_swingsOf 67 = .ok (.aload_n 0, 1) := dk_42 (dk_at dksX0_swingsOf_2 23 rfl rfl)
theorem dX0_swingsOf_68 : decode cX0_swingsOf 68 = .ok (.getfield 393, 3) := dk_180 1 137 (dk_at dksX0_swingsOf_3 0 rfl rfl)
theorem dX0_swingsOf_71 : decode cX0_swingsOf 71 = .ok (.iconst 1, 1) := dk_4 (dk_at dksX0_swingsOf_3 3 rfl rfl)
theorem dX0_swingsOf_72 : decode cX0_swingsOf 72 = .ok (.isub, 1) := dk_100 (dk_at dksX0_swingsOf_3 4 rfl rfl)
theorem dX0_swingsOf_73 : decode cX0_swingsOf 73 = .ok (.iload 5, 2) := dk_21 5 (dk_at dksX0_swingsOf_3 5 rfl rfl)
theorem dX0_swingsOf_75 : decode cX0_swingsOf 75 = .ok (.isub, 1) := dk_100 (dk_at dksX0_swingsOf_3 7 rfl rfl)
theorem dX0_swingsOf_76 : decode cX0_swingsOf 76 = .ok (.invokestatic 612, 3) := dk_184 2 100 (dk_at dksX0_swingsOf_3 8 rfl rfl)
theorem dX0_swingsOf_79 : decode cX0_swingsOf 79 = .ok (.imul, 1) := dk_104 (dk_at dksX0_swingsOf_3 11 rfl rfl)
theorem dX0_swingsOf_80 : decode cX0_swingsOf 80 = .ok (.goto 4, 3) := dk_167 0 4 (dk_at dksX0_swingsOf_3 12 rfl rfl)
theorem dX0_swingsOf_83 : decode cX0_swingsOf 83 = .ok (.iconst 1, 1) := dk_4 (dk_at dksX0_swingsOf_3 15 rfl rfl)
theorem dX0_swingsOf_84 : decode cX0_swingsOf 84 = .ok (.iadd, 1) := dk_96 (dk_at dksX0_swingsOf_3 16 rfl rfl)
theorem dX0_swingsOf_85 : decode cX0_swingsOf 85 = .ok (.istore_n 3, 1) := dk_62 (dk_at dksX0_swingsOf_3 17 rfl rfl)
theorem dX0_swingsOf_86 : decode cX0_swingsOf 86 = .ok (.iinc 4 1, 3) := dk_132 4 1 (dk_at dksX0_swingsOf_3 18 rfl rfl)
theorem dX0_swingsOf_89 : decode cX0_swingsOf 89 = .ok (.goto (-84), 3) := dk_167 255 172 (dk_at dksX0_swingsOf_3 21 rfl rfl)
theorem dX0_swingsOf_92 : decode cX0_swingsOf 92 = .ok (.iload_n 3, 1) := dk_29 (dk_at dksX0_swingsOf_4 0 rfl rfl)
theorem dX0_swingsOf_93 : decode cX0_swingsOf 93 = .ok (.ireturn, 1) := dk_172 (dk_at dksX0_swingsOf_4 1 rfl rfl)
abbrev cX0_ordersOf : ByteArray := prog_1_method_81_code
def yX0_ordersOf : MethodName := ⟨RX0, "ordersOf", "(I)I"⟩
def dkwX0_ordersOf_0 : List UInt8 := [26, 5, 162, 0, 7, 4, 167, 0, 11, 26, 26, 4, 100, 184, 2, 100, 104, 172]
abbrev dktX0_ordersOf_0 : List UInt8 := dkwX0_ordersOf_0 ++ []
theorem dksX0_ordersOf_0 : cX0_ordersOf.data.toList.drop 0 = dktX0_ordersOf_0 := by decide +kernel
theorem dX0_ordersOf_0 : decode cX0_ordersOf 0 = .ok (.iload_n 0, 1) := dk_26 (dk_at dksX0_ordersOf_0 0 rfl rfl)
theorem dX0_ordersOf_1 : decode cX0_ordersOf 1 = .ok (.iconst 2, 1) := dk_5 (dk_at dksX0_ordersOf_0 1 rfl rfl)
theorem dX0_ordersOf_2 : decode cX0_ordersOf 2 = .ok (.if_icmp .ge 7, 3) := dk_162 0 7 (dk_at dksX0_ordersOf_0 2 rfl rfl)
theorem dX0_ordersOf_5 : decode cX0_ordersOf 5 = .ok (.iconst 1, 1) := dk_4 (dk_at dksX0_ordersOf_0 5 rfl rfl)
theorem dX0_ordersOf_6 : decode cX0_ordersOf 6 = .ok (.goto 11, 3) := dk_167 0 11 (dk_at dksX0_ordersOf_0 6 rfl rfl)
theorem dX0_ordersOf_9 : decode cX0_ordersOf 9 = .ok (.iload_n 0, 1) := dk_26 (dk_at dksX0_ordersOf_0 9 rfl rfl)
theorem dX0_ordersOf_10 : decode cX0_ordersOf 10 = .ok (.iload_n 0, 1) := dk_26 (dk_at dksX0_ordersOf_0 10 rfl rfl)
theorem dX0_ordersOf_11 : decode cX0_ordersOf 11 = .ok (.iconst 1, 1) := dk_4 (dk_at dksX0_ordersOf_0 11 rfl rfl)
theorem dX0_ordersOf_12 : decode cX0_ordersOf 12 = .ok (.isub, 1) := dk_100 (dk_at dksX0_ordersOf_0 12 rfl rfl)
theorem dX0_ordersOf_13 : decode cX0_ordersOf 13 = .ok (.invokestatic 612, 3) := dk_184 2 100 (dk_at dksX0_ordersOf_0 13 rfl rfl)
theorem dX0_ordersOf_16 : decode cX0_ordersOf 16 = .ok (.imul, 1) := dk_104 (dk_at dksX0_ordersOf_0 16 rfl rfl)
theorem dX0_ordersOf_17 : decode cX0_ordersOf 17 = .ok (.ireturn, 1) := dk_172 (dk_at dksX0_ordersOf_0 17 rfl rfl)
abbrev cX0_findsMates : ByteArray := prog_1_method_85_code
def yX0_findsMates : MethodName := ⟨RX0, "findsMates", "()V"⟩
def dkwX0_findsMates_7 : List UInt8 := [180, 0, 195, 27, 46, 27, 79, 132, 1, 1, 167, 255, 223, 177]
abbrev dktX0_findsMates_7 : List UInt8 := dkwX0_findsMates_7 ++ []
def dkwX0_findsMates_6 : List UInt8 := [60, 27, 42, 180, 1, 137, 162, 0, 31, 42, 180, 0, 195, 27, 46, 2, 159, 0, 15, 42, 180, 0, 192, 42]
abbrev dktX0_findsMates_6 : List UInt8 := dkwX0_findsMates_6 ++ dktX0_findsMates_7
def dkwX0_findsMates_5 : List UInt8 := [160, 0, 7, 2, 167, 0, 9, 42, 21, 6, 182, 2, 103, 62, 167, 255, 169, 132, 1, 1, 167, 255, 147, 3]
abbrev dktX0_findsMates_5 : List UInt8 := dkwX0_findsMates_5 ++ dktX0_findsMates_6
def dkwX0_findsMates_4 : List UInt8 := [159, 0, 16, 42, 180, 0, 198, 21, 6, 92, 46, 4, 29, 120, 128, 79, 21, 6, 61, 21, 6, 2]
abbrev dktX0_findsMates_4 : List UInt8 := dkwX0_findsMates_4 ++ dktX0_findsMates_5
def dkwX0_findsMates_3 : List UInt8 := [180, 0, 195, 29, 28, 79, 21, 5, 153, 0, 8, 21, 4, 167, 0, 4, 28, 54, 6, 21, 6, 2]
abbrev dktX0_findsMates_3 : List UInt8 := dkwX0_findsMates_3 ++ dktX0_findsMates_4
def dkwX0_findsMates_2 : List UInt8 := [180, 0, 195, 29, 46, 54, 4, 42, 29, 28, 21, 4, 182, 2, 106, 54, 5, 21, 5, 153, 0, 10, 42]
abbrev dktX0_findsMates_2 : List UInt8 := dkwX0_findsMates_2 ++ dktX0_findsMates_3
def dkwX0_findsMates_1 : List UInt8 := [3, 60, 27, 42, 180, 1, 140, 162, 0, 107, 27, 61, 42, 28, 182, 2, 103, 62, 29, 2, 159, 0, 88, 42]
abbrev dktX0_findsMates_1 : List UInt8 := dkwX0_findsMates_1 ++ dktX0_findsMates_2
def dkwX0_findsMates_0 : List UInt8 := [42, 180, 0, 195, 2, 184, 0, 224, 42, 180, 0, 198, 3, 184, 0, 224, 42, 180, 0, 192, 2, 184, 0, 224]
abbrev dktX0_findsMates_0 : List UInt8 := dkwX0_findsMates_0 ++ dktX0_findsMates_1
theorem dksX0_findsMates_0 : cX0_findsMates.data.toList.drop 0 = dktX0_findsMates_0 := by decide +kernel
theorem dksX0_findsMates_1 : cX0_findsMates.data.toList.drop 24 = dktX0_findsMates_1 := dk_seg dksX0_findsMates_0 24 rfl rfl
theorem dksX0_findsMates_2 : cX0_findsMates.data.toList.drop 48 = dktX0_findsMates_2 := dk_seg dksX0_findsMates_1 24 rfl rfl
theorem dksX0_findsMates_3 : cX0_findsMates.data.toList.drop 71 = dktX0_findsMates_3 := dk_seg dksX0_findsMates_2 23 rfl rfl
theorem dksX0_findsMates_4 : cX0_findsMates.data.toList.drop 93 = dktX0_findsMates_4 := dk_seg dksX0_findsMates_3 22 rfl rfl
theorem dksX0_findsMates_5 : cX0_findsMates.data.toList.drop 115 = dktX0_findsMates_5 := dk_seg dksX0_findsMates_4 22 rfl rfl
theorem dksX0_findsMates_6 : cX0_findsMates.data.toList.drop 139 = dktX0_findsMates_6 := dk_seg dksX0_findsMates_5 24 rfl rfl
theorem dksX0_findsMates_7 : cX0_findsMates.data.toList.drop 163 = dktX0_findsMates_7 := dk_seg dksX0_findsMates_6 24 rfl rfl
theorem dX0_findsMates_0 : decode cX0_findsMates 0 = .ok (.aload_n 0, 1) := dk_42 (dk_at dksX0_findsMates_0 0 rfl rfl)
theorem dX0_findsMates_1 : decode cX0_findsMates 1 = .ok (.getfield 195, 3) := dk_180 0 195 (dk_at dksX0_findsMates_0 1 rfl rfl)
theorem dX0_findsMates_4 : decode cX0_findsMates 4 = .ok (.iconst (-1), 1) := dk_2 (dk_at dksX0_findsMates_0 4 rfl rfl)
theorem dX0_findsMates_5 : decode cX0_findsMates 5 = .ok (.invokestatic 224, 3) := dk_184 0 224 (dk_at dksX0_findsMates_0 5 rfl rfl)
theorem dX0_findsMates_8 : decode cX0_findsMates 8 = .ok (.aload_n 0, 1) := dk_42 (dk_at dksX0_findsMates_0 8 rfl rfl)
theorem dX0_findsMates_9 : decode cX0_findsMates 9 = .ok (.getfield 198, 3) := dk_180 0 198 (dk_at dksX0_findsMates_0 9 rfl rfl)
theorem dX0_findsMates_12 : decode cX0_findsMates 12 = .ok (.iconst 0, 1) := dk_3 (dk_at dksX0_findsMates_0 12 rfl rfl)
theorem dX0_findsMates_13 : decode cX0_findsMates 13 = .ok (.invokestatic 224, 3) := dk_184 0 224 (dk_at dksX0_findsMates_0 13 rfl rfl)
theorem dX0_findsMates_16 : decode cX0_findsMates 16 = .ok (.aload_n 0, 1) := dk_42 (dk_at dksX0_findsMates_0 16 rfl rfl)
theorem dX0_findsMates_17 : decode cX0_findsMates 17 = .ok (.getfield 192, 3) := dk_180 0 192 (dk_at dksX0_findsMates_0 17 rfl rfl)
theorem dX0_findsMates_20 : decode cX0_findsMates 20 = .ok (.iconst (-1), 1) := dk_2 (dk_at dksX0_findsMates_0 20 rfl rfl)
theorem dX0_findsMates_21 : decode cX0_findsMates 21 = .ok (.invokestatic 224, 3) := dk_184 0 224 (dk_at dksX0_findsMates_0 21 rfl rfl)
theorem dX0_findsMates_24 : decode cX0_findsMates 24 = .ok (.iconst 0, 1) := dk_3 (dk_at dksX0_findsMates_1 0 rfl rfl)
theorem dX0_findsMates_25 : decode cX0_findsMates 25 = .ok (.istore_n 1, 1) := dk_60 (dk_at dksX0_findsMates_1 1 rfl rfl)
theorem dX0_findsMates_26 : decode cX0_findsMates 26 = .ok (.iload_n 1, 1) := dk_27 (dk_at dksX0_findsMates_1 2 rfl rfl)
theorem dX0_findsMates_27 : decode cX0_findsMates 27 = .ok (.aload_n 0, 1) := dk_42 (dk_at dksX0_findsMates_1 3 rfl rfl)
theorem dX0_findsMates_28 : decode cX0_findsMates 28 = .ok (.getfield 396, 3) := dk_180 1 140 (dk_at dksX0_findsMates_1 4 rfl rfl)
theorem dX0_findsMates_31 : decode cX0_findsMates 31 = .ok (.if_icmp .ge 107, 3) := dk_162 0 107 (dk_at dksX0_findsMates_1 7 rfl rfl)
theorem dX0_findsMates_34 : decode cX0_findsMates 34 = .ok (.iload_n 1, 1) := dk_27 (dk_at dksX0_findsMates_1 10 rfl rfl)
theorem dX0_findsMates_35 : decode cX0_findsMates 35 = .ok (.istore_n 2, 1) := dk_61 (dk_at dksX0_findsMates_1 11 rfl rfl)
theorem dX0_findsMates_36 : decode cX0_findsMates 36 = .ok (.aload_n 0, 1) := dk_42 (dk_at dksX0_findsMates_1 12 rfl rfl)
theorem dX0_findsMates_37 : decode cX0_findsMates 37 = .ok (.iload_n 2, 1) := dk_28 (dk_at dksX0_findsMates_1 13 rfl rfl)
theorem dX0_findsMates_38 : decode cX0_findsMates 38 = .ok (.invokevirtual 615, 3) := dk_182 2 103 (dk_at dksX0_findsMates_1 14 rfl rfl)
theorem dX0_findsMates_41 : decode cX0_findsMates 41 = .ok (.istore_n 3, 1) := dk_62 (dk_at dksX0_findsMates_1 17 rfl rfl)
theorem dX0_findsMates_42 : decode cX0_findsMates 42 = .ok (.iload_n 3, 1) := dk_29 (dk_at dksX0_findsMates_1 18 rfl rfl)
theorem dX0_findsMates_43 : decode cX0_findsMates 43 = .ok (.iconst (-1), 1) := dk_2 (dk_at dksX0_findsMates_1 19 rfl rfl)
theorem dX0_findsMates_44 : decode cX0_findsMates 44 = .ok (.if_icmp .eq 88, 3) := dk_159 0 88 (dk_at dksX0_findsMates_1 20 rfl rfl)
theorem dX0_findsMates_47 : decode cX0_findsMates 47 = .ok (.aload_n 0, 1) := dk_42 (dk_at dksX0_findsMates_1 23 rfl rfl)
theorem dX0_findsMates_48 : decode cX0_findsMates 48 = .ok (.getfield 195, 3) := dk_180 0 195 (dk_at dksX0_findsMates_2 0 rfl rfl)
theorem dX0_findsMates_51 : decode cX0_findsMates 51 = .ok (.iload_n 3, 1) := dk_29 (dk_at dksX0_findsMates_2 3 rfl rfl)
theorem dX0_findsMates_52 : decode cX0_findsMates 52 = .ok (.iaload, 1) := dk_46 (dk_at dksX0_findsMates_2 4 rfl rfl)
theorem dX0_findsMates_53 : decode cX0_findsMates 53 = .ok (.istore 4, 2) := dk_54 4 (dk_at dksX0_findsMates_2 5 rfl rfl)
theorem dX0_findsMates_55 : decode cX0_findsMates 55 = .ok (.aload_n 0, 1) := dk_42 (dk_at dksX0_findsMates_2 7 rfl rfl)
theorem dX0_findsMates_56 : decode cX0_findsMates 56 = .ok (.iload_n 3, 1) := dk_29 (dk_at dksX0_findsMates_2 8 rfl rfl)
theorem dX0_findsMates_57 : decode cX0_findsMates 57 = .ok (.iload_n 2, 1) := dk_28 (dk_at dksX0_findsMates_2 9 rfl rfl)
theorem dX0_findsMates_58 : decode cX0_findsMates 58 = .ok (.iload 4, 2) := dk_21 4 (dk_at dksX0_findsMates_2 10 rfl rfl)
theorem dX0_findsMates_60 : decode cX0_findsMates 60 = .ok (.invokevirtual 618, 3) := dk_182 2 106 (dk_at dksX0_findsMates_2 12 rfl rfl)
theorem dX0_findsMates_63 : decode cX0_findsMates 63 = .ok (.istore 5, 2) := dk_54 5 (dk_at dksX0_findsMates_2 15 rfl rfl)
theorem dX0_findsMates_65 : decode cX0_findsMates 65 = .ok (.iload 5, 2) := dk_21 5 (dk_at dksX0_findsMates_2 17 rfl rfl)
theorem dX0_findsMates_67 : decode cX0_findsMates 67 = .ok (.ifCond .eq 10, 3) := dk_153 0 10 (dk_at dksX0_findsMates_2 19 rfl rfl)
theorem dX0_findsMates_70 : decode cX0_findsMates 70 = .ok (.aload_n 0, 1) := dk_42 (dk_at dksX0_findsMates_2 22 rfl rfl)
theorem dX0_findsMates_71 : decode cX0_findsMates 71 = .ok (.getfield 195, 3) := dk_180 0 195 (dk_at dksX0_findsMates_3 0 rfl rfl)
theorem dX0_findsMates_74 : decode cX0_findsMates 74 = .ok (.iload_n 3, 1) := dk_29 (dk_at dksX0_findsMates_3 3 rfl rfl)
theorem dX0_findsMates_75 : decode cX0_findsMates 75 = .ok (.iload_n 2, 1) := dk_28 (dk_at dksX0_findsMates_3 4 rfl rfl)
theorem dX0_findsMates_76 : decode cX0_findsMates 76 = .ok (.iastore, 1) := dk_79 (dk_at dksX0_findsMates_3 5 rfl rfl)
theorem dX0_findsMates_77 : decode cX0_findsMates 77 = .ok (.iload 5, 2) := dk_21 5 (dk_at dksX0_findsMates_3 6 rfl rfl)
theorem dX0_findsMates_79 : decode cX0_findsMates 79 = .ok (.ifCond .eq 8, 3) := dk_153 0 8 (dk_at dksX0_findsMates_3 8 rfl rfl)
theorem dX0_findsMates_82 : decode cX0_findsMates 82 = .ok (.iload 4, 2) := dk_21 4 (dk_at dksX0_findsMates_3 11 rfl rfl)
theorem dX0_findsMates_84 : decode cX0_findsMates 84 = .ok (.goto 4, 3) := dk_167 0 4 (dk_at dksX0_findsMates_3 13 rfl rfl)
theorem dX0_findsMates_87 : decode cX0_findsMates 87 = .ok (.iload_n 2, 1) := dk_28 (dk_at dksX0_findsMates_3 16 rfl rfl)
theorem dX0_findsMates_88 : decode cX0_findsMates 88 = .ok (.istore 6, 2) := dk_54 6 (dk_at dksX0_findsMates_3 17 rfl rfl)
theorem dX0_findsMates_90 : decode cX0_findsMates 90 = .ok (.iload 6, 2) := dk_21 6 (dk_at dksX0_findsMates_3 19 rfl rfl)
theorem dX0_findsMates_92 : decode cX0_findsMates 92 = .ok (.iconst (-1), 1) := dk_2 (dk_at dksX0_findsMates_3 21 rfl rfl)
theorem dX0_findsMates_93 : decode cX0_findsMates 93 = .ok (.if_icmp .eq 16, 3) := dk_159 0 16 (dk_at dksX0_findsMates_4 0 rfl rfl)
theorem dX0_findsMates_96 : decode cX0_findsMates 96 = .ok (.aload_n 0, 1) := dk_42 (dk_at dksX0_findsMates_4 3 rfl rfl)
theorem dX0_findsMates_97 : decode cX0_findsMates 97 = .ok (.getfield 198, 3) := dk_180 0 198 (dk_at dksX0_findsMates_4 4 rfl rfl)
theorem dX0_findsMates_100 : decode cX0_findsMates 100 = .ok (.iload 6, 2) := dk_21 6 (dk_at dksX0_findsMates_4 7 rfl rfl)
theorem dX0_findsMates_102 : decode cX0_findsMates 102 = .ok (.dup2, 1) := dk_92 (dk_at dksX0_findsMates_4 9 rfl rfl)
theorem dX0_findsMates_103 : decode cX0_findsMates 103 = .ok (.iaload, 1) := dk_46 (dk_at dksX0_findsMates_4 10 rfl rfl)
theorem dX0_findsMates_104 : decode cX0_findsMates 104 = .ok (.iconst 1, 1) := dk_4 (dk_at dksX0_findsMates_4 11 rfl rfl)
theorem dX0_findsMates_105 : decode cX0_findsMates 105 = .ok (.iload_n 3, 1) := dk_29 (dk_at dksX0_findsMates_4 12 rfl rfl)
theorem dX0_findsMates_106 : decode cX0_findsMates 106 = .ok (.ishl, 1) := dk_120 (dk_at dksX0_findsMates_4 13 rfl rfl)
theorem dX0_findsMates_107 : decode cX0_findsMates 107 = .ok (.ior, 1) := dk_128 (dk_at dksX0_findsMates_4 14 rfl rfl)
theorem dX0_findsMates_108 : decode cX0_findsMates 108 = .ok (.iastore, 1) := dk_79 (dk_at dksX0_findsMates_4 15 rfl rfl)
theorem dX0_findsMates_109 : decode cX0_findsMates 109 = .ok (.iload 6, 2) := dk_21 6 (dk_at dksX0_findsMates_4 16 rfl rfl)
theorem dX0_findsMates_111 : decode cX0_findsMates 111 = .ok (.istore_n 2, 1) := dk_61 (dk_at dksX0_findsMates_4 18 rfl rfl)
theorem dX0_findsMates_112 : decode cX0_findsMates 112 = .ok (.iload 6, 2) := dk_21 6 (dk_at dksX0_findsMates_4 19 rfl rfl)
theorem dX0_findsMates_114 : decode cX0_findsMates 114 = .ok (.iconst (-1), 1) := dk_2 (dk_at dksX0_findsMates_4 21 rfl rfl)
theorem dX0_findsMates_115 : decode cX0_findsMates 115 = .ok (.if_icmp .ne 7, 3) := dk_160 0 7 (dk_at dksX0_findsMates_5 0 rfl rfl)
theorem dX0_findsMates_118 : decode cX0_findsMates 118 = .ok (.iconst (-1), 1) := dk_2 (dk_at dksX0_findsMates_5 3 rfl rfl)
theorem dX0_findsMates_119 : decode cX0_findsMates 119 = .ok (.goto 9, 3) := dk_167 0 9 (dk_at dksX0_findsMates_5 4 rfl rfl)
theorem dX0_findsMates_122 : decode cX0_findsMates 122 = .ok (.aload_n 0, 1) := dk_42 (dk_at dksX0_findsMates_5 7 rfl rfl)
theorem dX0_findsMates_123 : decode cX0_findsMates 123 = .ok (.iload 6, 2) := dk_21 6 (dk_at dksX0_findsMates_5 8 rfl rfl)
theorem dX0_findsMates_125 : decode cX0_findsMates 125 = .ok (.invokevirtual 615, 3) := dk_182 2 103 (dk_at dksX0_findsMates_5 10 rfl rfl)
theorem dX0_findsMates_128 : decode cX0_findsMates 128 = .ok (.istore_n 3, 1) := dk_62 (dk_at dksX0_findsMates_5 13 rfl rfl)
theorem dX0_findsMates_129 : decode cX0_findsMates 129 = .ok (.goto (-87), 3) := dk_167 255 169 (dk_at dksX0_findsMates_5 14 rfl rfl)
theorem dX0_findsMates_132 : decode cX0_findsMates 132 = .ok (.iinc 1 1, 3) := dk_132 1 1 (dk_at dksX0_findsMates_5 17 rfl rfl)
theorem dX0_findsMates_135 : decode cX0_findsMates 135 = .ok (.goto (-109), 3) := dk_167 255 147 (dk_at dksX0_findsMates_5 20 rfl rfl)
theorem dX0_findsMates_138 : decode cX0_findsMates 138 = .ok (.iconst 0, 1) := dk_3 (dk_at dksX0_findsMates_5 23 rfl rfl)
theorem dX0_findsMates_139 : decode cX0_findsMates 139 = .ok (.istore_n 1, 1) := dk_60 (dk_at dksX0_findsMates_6 0 rfl rfl)
theorem dX0_findsMates_140 : decode cX0_findsMates 140 = .ok (.iload_n 1, 1) := dk_27 (dk_at dksX0_findsMates_6 1 rfl rfl)
theorem dX0_findsMates_141 : decode cX0_findsMates 141 = .ok (.aload_n 0, 1) := dk_42 (dk_at dksX0_findsMates_6 2 rfl rfl)
theorem dX0_findsMates_142 : decode cX0_findsMates 142 = .ok (.getfield 393, 3) := dk_180 1 137 (dk_at dksX0_findsMates_6 3 rfl rfl)
theorem dX0_findsMates_145 : decode cX0_findsMates 145 = .ok (.if_icmp .ge 31, 3) := dk_162 0 31 (dk_at dksX0_findsMates_6 6 rfl rfl)
theorem dX0_findsMates_148 : decode cX0_findsMates 148 = .ok (.aload_n 0, 1) := dk_42 (dk_at dksX0_findsMates_6 9 rfl rfl)
theorem dX0_findsMates_149 : decode cX0_findsMates 149 = .ok (.getfield 195, 3) := dk_180 0 195 (dk_at dksX0_findsMates_6 10 rfl rfl)
theorem dX0_findsMates_152 : decode cX0_findsMates 152 = .ok (.iload_n 1, 1) := dk_27 (dk_at dksX0_findsMates_6 13 rfl rfl)
theorem dX0_findsMates_153 : decode cX0_findsMates 153 = .ok (.iaload, 1) := dk_46 (dk_at dksX0_findsMates_6 14 rfl rfl)
theorem dX0_findsMates_154 : decode cX0_findsMates 154 = .ok (.iconst (-1), 1) := dk_2 (dk_at dksX0_findsMates_6 15 rfl rfl)
theorem dX0_findsMates_155 : decode cX0_findsMates 155 = .ok (.if_icmp .eq 15, 3) := dk_159 0 15 (dk_at dksX0_findsMates_6 16 rfl rfl)
theorem dX0_findsMates_158 : decode cX0_findsMates 158 = .ok (.aload_n 0, 1) := dk_42 (dk_at dksX0_findsMates_6 19 rfl rfl)
theorem dX0_findsMates_159 : decode cX0_findsMates 159 = .ok (.getfield 192, 3) := dk_180 0 192 (dk_at dksX0_findsMates_6 20 rfl rfl)
theorem dX0_findsMates_162 : decode cX0_findsMates 162 = .ok (.aload_n 0, 1) := dk_42 (dk_at dksX0_findsMates_6 23 rfl rfl)
theorem dX0_findsMates_163 : decode cX0_findsMates 163 = .ok (.getfield 195, 3) := dk_180 0 195 (dk_at dksX0_findsMates_7 0 rfl rfl)
theorem dX0_findsMates_166 : decode cX0_findsMates 166 = .ok (.iload_n 1, 1) := dk_27 (dk_at dksX0_findsMates_7 3 rfl rfl)
theorem dX0_findsMates_167 : decode cX0_findsMates 167 = .ok (.iaload, 1) := dk_46 (dk_at dksX0_findsMates_7 4 rfl rfl)
theorem dX0_findsMates_168 : decode cX0_findsMates 168 = .ok (.iload_n 1, 1) := dk_27 (dk_at dksX0_findsMates_7 5 rfl rfl)
theorem dX0_findsMates_169 : decode cX0_findsMates 169 = .ok (.iastore, 1) := dk_79 (dk_at dksX0_findsMates_7 6 rfl rfl)
theorem dX0_findsMates_170 : decode cX0_findsMates 170 = .ok (.iinc 1 1, 3) := dk_132 1 1 (dk_at dksX0_findsMates_7 7 rfl rfl)
theorem dX0_findsMates_173 : decode cX0_findsMates 173 = .ok (.goto (-33), 3) := dk_167 255 223 (dk_at dksX0_findsMates_7 10 rfl rfl)
theorem dX0_findsMates_176 : decode cX0_findsMates 176 = .ok (.return_, 1) := dk_177 (dk_at dksX0_findsMates_7 13 rfl rfl)
abbrev cX0_likedBy : ByteArray := prog_1_method_83_code
def yX0_likedBy : MethodName := ⟨RX0, "likedBy", "(I)I"⟩
def dkwX0_likedBy_3 : List UInt8 := [167, 255, 192, 28, 172]
abbrev dktX0_likedBy_3 : List UInt8 := dkwX0_likedBy_3 ++ []
def dkwX0_likedBy_2 : List UInt8 := [180, 1, 214, 29, 46, 42, 180, 0, 164, 180, 1, 214, 28, 46, 164, 0, 5, 29, 61, 132, 3, 1]
abbrev dktX0_likedBy_2 : List UInt8 := dkwX0_likedBy_2 ++ dktX0_likedBy_3
def dkwX0_likedBy_1 : List UInt8 := [154, 0, 43, 42, 180, 0, 164, 29, 27, 182, 2, 7, 153, 0, 31, 28, 2, 159, 0, 24, 42, 180, 0, 164]
abbrev dktX0_likedBy_1 : List UInt8 := dkwX0_likedBy_1 ++ dktX0_likedBy_2
def dkwX0_likedBy_0 : List UInt8 := [2, 61, 3, 62, 29, 42, 180, 1, 137, 162, 0, 62, 42, 180, 0, 198, 27, 46, 29, 184, 1, 247]
abbrev dktX0_likedBy_0 : List UInt8 := dkwX0_likedBy_0 ++ dktX0_likedBy_1
theorem dksX0_likedBy_0 : cX0_likedBy.data.toList.drop 0 = dktX0_likedBy_0 := by decide +kernel
theorem dksX0_likedBy_1 : cX0_likedBy.data.toList.drop 22 = dktX0_likedBy_1 := dk_seg dksX0_likedBy_0 22 rfl rfl
theorem dksX0_likedBy_2 : cX0_likedBy.data.toList.drop 46 = dktX0_likedBy_2 := dk_seg dksX0_likedBy_1 24 rfl rfl
theorem dksX0_likedBy_3 : cX0_likedBy.data.toList.drop 68 = dktX0_likedBy_3 := dk_seg dksX0_likedBy_2 22 rfl rfl
theorem dX0_likedBy_0 : decode cX0_likedBy 0 = .ok (.iconst (-1), 1) := dk_2 (dk_at dksX0_likedBy_0 0 rfl rfl)
theorem dX0_likedBy_1 : decode cX0_likedBy 1 = .ok (.istore_n 2, 1) := dk_61 (dk_at dksX0_likedBy_0 1 rfl rfl)
theorem dX0_likedBy_2 : decode cX0_likedBy 2 = .ok (.iconst 0, 1) := dk_3 (dk_at dksX0_likedBy_0 2 rfl rfl)
theorem dX0_likedBy_3 : decode cX0_likedBy 3 = .ok (.istore_n 3, 1) := dk_62 (dk_at dksX0_likedBy_0 3 rfl rfl)
theorem dX0_likedBy_4 : decode cX0_likedBy 4 = .ok (.iload_n 3, 1) := dk_29 (dk_at dksX0_likedBy_0 4 rfl rfl)
theorem dX0_likedBy_5 : decode cX0_likedBy 5 = .ok (.aload_n 0, 1) := dk_42 (dk_at dksX0_likedBy_0 5 rfl rfl)
theorem dX0_likedBy_6 : decode cX0_likedBy 6 = .ok (.getfield 393, 3) := dk_180 1 137 (dk_at dksX0_likedBy_0 6 rfl rfl)
theorem dX0_likedBy_9 : decode cX0_likedBy 9 = .ok (.if_icmp .ge 62, 3) := dk_162 0 62 (dk_at dksX0_likedBy_0 9 rfl rfl)
theorem dX0_likedBy_12 : decode cX0_likedBy 12 = .ok (.aload_n 0, 1) := dk_42 (dk_at dksX0_likedBy_0 12 rfl rfl)
theorem dX0_likedBy_13 : decode cX0_likedBy 13 = .ok (.getfield 198, 3) := dk_180 0 198 (dk_at dksX0_likedBy_0 13 rfl rfl)
theorem dX0_likedBy_16 : decode cX0_likedBy 16 = .ok (.iload_n 1, 1) := dk_27 (dk_at dksX0_likedBy_0 16 rfl rfl)
theorem dX0_likedBy_17 : decode cX0_likedBy 17 = .ok (.iaload, 1) := dk_46 (dk_at dksX0_likedBy_0 17 rfl rfl)
theorem dX0_likedBy_18 : decode cX0_likedBy 18 = .ok (.iload_n 3, 1) := dk_29 (dk_at dksX0_likedBy_0 18 rfl rfl)
theorem dX0_likedBy_19 : decode cX0_likedBy 19 = .ok (.invokestatic 503, 3) := dk_184 1 247 (dk_at dksX0_likedBy_0 19 rfl rfl)
theorem dX0_likedBy_22 : decode cX0_likedBy 22 = .ok (.ifCond .ne 43, 3) := dk_154 0 43 (dk_at dksX0_likedBy_1 0 rfl rfl)
theorem dX0_likedBy_25 : decode cX0_likedBy 25 = .ok (.aload_n 0, 1) := dk_42 (dk_at dksX0_likedBy_1 3 rfl rfl)
theorem dX0_likedBy_26 : decode cX0_likedBy 26 = .ok (.getfield 164, 3) := dk_180 0 164 (dk_at dksX0_likedBy_1 4 rfl rfl)
theorem dX0_likedBy_29 : decode cX0_likedBy 29 = .ok (.iload_n 3, 1) := dk_29 (dk_at dksX0_likedBy_1 7 rfl rfl)
theorem dX0_likedBy_30 : decode cX0_likedBy 30 = .ok (.iload_n 1, 1) := dk_27 (dk_at dksX0_likedBy_1 8 rfl rfl)
theorem dX0_likedBy_31 : decode cX0_likedBy 31 = .ok (.invokevirtual 519, 3) := dk_182 2 7 (dk_at dksX0_likedBy_1 9 rfl rfl)
theorem dX0_likedBy_34 : decode cX0_likedBy 34 = .ok (.ifCond .eq 31, 3) := dk_153 0 31 (dk_at dksX0_likedBy_1 12 rfl rfl)
theorem dX0_likedBy_37 : decode cX0_likedBy 37 = .ok (.iload_n 2, 1) := dk_28 (dk_at dksX0_likedBy_1 15 rfl rfl)
theorem dX0_likedBy_38 : decode cX0_likedBy 38 = .ok (.iconst (-1), 1) := dk_2 (dk_at dksX0_likedBy_1 16 rfl rfl)
theorem dX0_likedBy_39 : decode cX0_likedBy 39 = .ok (.if_icmp .eq 24, 3) := dk_159 0 24 (dk_at dksX0_likedBy_1 17 rfl rfl)
theorem dX0_likedBy_42 : decode cX0_likedBy 42 = .ok (.aload_n 0, 1) := dk_42 (dk_at dksX0_likedBy_1 20 rfl rfl)
theorem dX0_likedBy_43 : decode cX0_likedBy 43 = .ok (.getfield 164, 3) := dk_180 0 164 (dk_at dksX0_likedBy_1 21 rfl rfl)
theorem dX0_likedBy_46 : decode cX0_likedBy 46 = .ok (.getfield 470, 3) := dk_180 1 214 (dk_at dksX0_likedBy_2 0 rfl rfl)
theorem dX0_likedBy_49 : decode cX0_likedBy 49 = .ok (.iload_n 3, 1) := dk_29 (dk_at dksX0_likedBy_2 3 rfl rfl)
theorem dX0_likedBy_50 : decode cX0_likedBy 50 = .ok (.iaload, 1) := dk_46 (dk_at dksX0_likedBy_2 4 rfl rfl)
theorem dX0_likedBy_51 : decode cX0_likedBy 51 = .ok (.aload_n 0, 1) := dk_42 (dk_at dksX0_likedBy_2 5 rfl rfl)
theorem dX0_likedBy_52 : decode cX0_likedBy 52 = .ok (.getfield 164, 3) := dk_180 0 164 (dk_at dksX0_likedBy_2 6 rfl rfl)
theorem dX0_likedBy_55 : decode cX0_likedBy 55 = .ok (.getfield 470, 3) := dk_180 1 214 (dk_at dksX0_likedBy_2 9 rfl rfl)
theorem dX0_likedBy_58 : decode cX0_likedBy 58 = .ok (.iload_n 2, 1) := dk_28 (dk_at dksX0_likedBy_2 12 rfl rfl)
theorem dX0_likedBy_59 : decode cX0_likedBy 59 = .ok (.iaload, 1) := dk_46 (dk_at dksX0_likedBy_2 13 rfl rfl)
theorem dX0_likedBy_60 : decode cX0_likedBy 60 = .ok (.if_icmp .le 5, 3) := dk_164 0 5 (dk_at dksX0_likedBy_2 14 rfl rfl)
theorem dX0_likedBy_63 : decode cX0_likedBy 63 = .ok (.iload_n 3, 1) := dk_29 (dk_at dksX0_likedBy_2 17 rfl rfl)
theorem dX0_likedBy_64 : decode cX0_likedBy 64 = .ok (.istore_n 2, 1) := dk_61 (dk_at dksX0_likedBy_2 18 rfl rfl)
theorem dX0_likedBy_65 : decode cX0_likedBy 65 = .ok (.iinc 3 1, 3) := dk_132 3 1 (dk_at dksX0_likedBy_2 19 rfl rfl)
theorem dX0_likedBy_68 : decode cX0_likedBy 68 = .ok (.goto (-64), 3) := dk_167 255 192 (dk_at dksX0_likedBy_3 0 rfl rfl)
theorem dX0_likedBy_71 : decode cX0_likedBy 71 = .ok (.iload_n 2, 1) := dk_28 (dk_at dksX0_likedBy_3 3 rfl rfl)
theorem dX0_likedBy_72 : decode cX0_likedBy 72 = .ok (.ireturn, 1) := dk_172 (dk_at dksX0_likedBy_3 4 rfl rfl)
abbrev cX0_isRather : ByteArray := prog_1_method_84_code
def yX0_isRather : MethodName := ⟨RX0, "isRather", "(III)Z"⟩
def dkwX0_isRather_2 : List UInt8 := [162, 0, 7, 4, 167, 0, 4, 3, 172]
abbrev dktX0_isRather_2 : List UInt8 := dkwX0_isRather_2 ++ []
def dkwX0_isRather_1 : List UInt8 := [29, 5, 182, 2, 25, 54, 5, 21, 4, 21, 5, 163, 0, 15, 21, 4, 21, 5, 160, 0, 12, 28, 29]
abbrev dktX0_isRather_1 : List UInt8 := dkwX0_isRather_1 ++ dktX0_isRather_2
def dkwX0_isRather_0 : List UInt8 := [29, 2, 160, 0, 5, 4, 172, 42, 180, 0, 164, 27, 28, 5, 182, 2, 25, 54, 4, 42, 180, 0, 164, 27]
abbrev dktX0_isRather_0 : List UInt8 := dkwX0_isRather_0 ++ dktX0_isRather_1
theorem dksX0_isRather_0 : cX0_isRather.data.toList.drop 0 = dktX0_isRather_0 := by decide +kernel
theorem dksX0_isRather_1 : cX0_isRather.data.toList.drop 24 = dktX0_isRather_1 := dk_seg dksX0_isRather_0 24 rfl rfl
theorem dksX0_isRather_2 : cX0_isRather.data.toList.drop 47 = dktX0_isRather_2 := dk_seg dksX0_isRather_1 23 rfl rfl
theorem dX0_isRather_0 : decode cX0_isRather 0 = .ok (.iload_n 3, 1) := dk_29 (dk_at dksX0_isRather_0 0 rfl rfl)
theorem dX0_isRather_1 : decode cX0_isRather 1 = .ok (.iconst (-1), 1) := dk_2 (dk_at dksX0_isRather_0 1 rfl rfl)
theorem dX0_isRather_2 : decode cX0_isRather 2 = .ok (.if_icmp .ne 5, 3) := dk_160 0 5 (dk_at dksX0_isRather_0 2 rfl rfl)
theorem dX0_isRather_5 : decode cX0_isRather 5 = .ok (.iconst 1, 1) := dk_4 (dk_at dksX0_isRather_0 5 rfl rfl)
theorem dX0_isRather_6 : decode cX0_isRather 6 = .ok (.ireturn, 1) := dk_172 (dk_at dksX0_isRather_0 6 rfl rfl)
theorem dX0_isRather_7 : decode cX0_isRather 7 = .ok (.aload_n 0, 1) := dk_42 (dk_at dksX0_isRather_0 7 rfl rfl)
theorem dX0_isRather_8 : decode cX0_isRather 8 = .ok (.getfield 164, 3) := dk_180 0 164 (dk_at dksX0_isRather_0 8 rfl rfl)
theorem dX0_isRather_11 : decode cX0_isRather 11 = .ok (.iload_n 1, 1) := dk_27 (dk_at dksX0_isRather_0 11 rfl rfl)
theorem dX0_isRather_12 : decode cX0_isRather 12 = .ok (.iload_n 2, 1) := dk_28 (dk_at dksX0_isRather_0 12 rfl rfl)
theorem dX0_isRather_13 : decode cX0_isRather 13 = .ok (.iconst 2, 1) := dk_5 (dk_at dksX0_isRather_0 13 rfl rfl)
theorem dX0_isRather_14 : decode cX0_isRather 14 = .ok (.invokevirtual 537, 3) := dk_182 2 25 (dk_at dksX0_isRather_0 14 rfl rfl)
theorem dX0_isRather_17 : decode cX0_isRather 17 = .ok (.istore 4, 2) := dk_54 4 (dk_at dksX0_isRather_0 17 rfl rfl)
theorem dX0_isRather_19 : decode cX0_isRather 19 = .ok (.aload_n 0, 1) := dk_42 (dk_at dksX0_isRather_0 19 rfl rfl)
theorem dX0_isRather_20 : decode cX0_isRather 20 = .ok (.getfield 164, 3) := dk_180 0 164 (dk_at dksX0_isRather_0 20 rfl rfl)
theorem dX0_isRather_23 : decode cX0_isRather 23 = .ok (.iload_n 1, 1) := dk_27 (dk_at dksX0_isRather_0 23 rfl rfl)
theorem dX0_isRather_24 : decode cX0_isRather 24 = .ok (.iload_n 3, 1) := dk_29 (dk_at dksX0_isRather_1 0 rfl rfl)
theorem dX0_isRather_25 : decode cX0_isRather 25 = .ok (.iconst 2, 1) := dk_5 (dk_at dksX0_isRather_1 1 rfl rfl)
theorem dX0_isRather_26 : decode cX0_isRather 26 = .ok (.invokevirtual 537, 3) := dk_182 2 25 (dk_at dksX0_isRather_1 2 rfl rfl)
theorem dX0_isRather_29 : decode cX0_isRather 29 = .ok (.istore 5, 2) := dk_54 5 (dk_at dksX0_isRather_1 5 rfl rfl)
theorem dX0_isRather_31 : decode cX0_isRather 31 = .ok (.iload 4, 2) := dk_21 4 (dk_at dksX0_isRather_1 7 rfl rfl)
theorem dX0_isRather_33 : decode cX0_isRather 33 = .ok (.iload 5, 2) := dk_21 5 (dk_at dksX0_isRather_1 9 rfl rfl)
theorem dX0_isRather_35 : decode cX0_isRather 35 = .ok (.if_icmp .gt 15, 3) := dk_163 0 15 (dk_at dksX0_isRather_1 11 rfl rfl)
theorem dX0_isRather_38 : decode cX0_isRather 38 = .ok (.iload 4, 2) := dk_21 4 (dk_at dksX0_isRather_1 14 rfl rfl)
theorem dX0_isRather_40 : decode cX0_isRather 40 = .ok (.iload 5, 2) := dk_21 5 (dk_at dksX0_isRather_1 16 rfl rfl)
theorem dX0_isRather_42 : decode cX0_isRather 42 = .ok (.if_icmp .ne 12, 3) := dk_160 0 12 (dk_at dksX0_isRather_1 18 rfl rfl)
theorem dX0_isRather_45 : decode cX0_isRather 45 = .ok (.iload_n 2, 1) := dk_28 (dk_at dksX0_isRather_1 21 rfl rfl)
theorem dX0_isRather_46 : decode cX0_isRather 46 = .ok (.iload_n 3, 1) := dk_29 (dk_at dksX0_isRather_1 22 rfl rfl)
theorem dX0_isRather_47 : decode cX0_isRather 47 = .ok (.if_icmp .ge 7, 3) := dk_162 0 7 (dk_at dksX0_isRather_2 0 rfl rfl)
theorem dX0_isRather_50 : decode cX0_isRather 50 = .ok (.iconst 1, 1) := dk_4 (dk_at dksX0_isRather_2 3 rfl rfl)
theorem dX0_isRather_51 : decode cX0_isRather 51 = .ok (.goto 4, 3) := dk_167 0 4 (dk_at dksX0_isRather_2 4 rfl rfl)
theorem dX0_isRather_54 : decode cX0_isRather 54 = .ok (.iconst 0, 1) := dk_3 (dk_at dksX0_isRather_2 7 rfl rfl)
theorem dX0_isRather_55 : decode cX0_isRather 55 = .ok (.ireturn, 1) := dk_172 (dk_at dksX0_isRather_2 8 rfl rfl)
abbrev cX0_at : ByteArray := prog_1_method_87_code
def yX0_at : MethodName := ⟨RX0, "at", "(II)I"⟩
def dkwX0_at_2 : List UInt8 := [182, 2, 113, 42, 180, 0, 192, 27, 46, 172]
abbrev dktX0_at_2 : List UInt8 := dkwX0_at_2 ++ []
def dkwX0_at_1 : List UInt8 := [162, 0, 23, 28, 154, 0, 12, 42, 180, 0, 148, 27, 46, 167, 0, 9, 42, 180, 0, 150, 27, 46, 172, 42]
abbrev dktX0_at_1 : List UInt8 := dkwX0_at_1 ++ dktX0_at_2
def dkwX0_at_0 : List UInt8 := [42, 27, 182, 1, 231, 153, 0, 12, 28, 3, 5, 184, 0, 237, 154, 0, 6, 16, 254, 172, 28, 5]
abbrev dktX0_at_0 : List UInt8 := dkwX0_at_0 ++ dktX0_at_1
theorem dksX0_at_0 : cX0_at.data.toList.drop 0 = dktX0_at_0 := by decide +kernel
theorem dksX0_at_1 : cX0_at.data.toList.drop 22 = dktX0_at_1 := dk_seg dksX0_at_0 22 rfl rfl
theorem dksX0_at_2 : cX0_at.data.toList.drop 46 = dktX0_at_2 := dk_seg dksX0_at_1 24 rfl rfl
theorem dX0_at_0 : decode cX0_at 0 = .ok (.aload_n 0, 1) := dk_42 (dk_at dksX0_at_0 0 rfl rfl)
theorem dX0_at_1 : decode cX0_at 1 = .ok (.iload_n 1, 1) := dk_27 (dk_at dksX0_at_0 1 rfl rfl)
theorem dX0_at_2 : decode cX0_at 2 = .ok (.invokevirtual 487, 3) := dk_182 1 231 (dk_at dksX0_at_0 2 rfl rfl)
theorem dX0_at_5 : decode cX0_at 5 = .ok (.ifCond .eq 12, 3) := dk_153 0 12 (dk_at dksX0_at_0 5 rfl rfl)
theorem dX0_at_8 : decode cX0_at 8 = .ok (.iload_n 2, 1) := dk_28 (dk_at dksX0_at_0 8 rfl rfl)
theorem dX0_at_9 : decode cX0_at 9 = .ok (.iconst 0, 1) := dk_3 (dk_at dksX0_at_0 9 rfl rfl)
theorem dX0_at_10 : decode cX0_at 10 = .ok (.iconst 2, 1) := dk_5 (dk_at dksX0_at_0 10 rfl rfl)
theorem dX0_at_11 : decode cX0_at 11 = .ok (.invokestatic 237, 3) := dk_184 0 237 (dk_at dksX0_at_0 11 rfl rfl)
theorem dX0_at_14 : decode cX0_at 14 = .ok (.ifCond .ne 6, 3) := dk_154 0 6 (dk_at dksX0_at_0 14 rfl rfl)
theorem dX0_at_17 : decode cX0_at 17 = .ok (.bipush (-2), 2) := dk_16 254 (dk_at dksX0_at_0 17 rfl rfl)
theorem dX0_at_19 : decode cX0_at 19 = .ok (.ireturn, 1) := dk_172 (dk_at dksX0_at_0 19 rfl rfl)
theorem dX0_at_20 : decode cX0_at 20 = .ok (.iload_n 2, 1) := dk_28 (dk_at dksX0_at_0 20 rfl rfl)
theorem dX0_at_21 : decode cX0_at 21 = .ok (.iconst 2, 1) := dk_5 (dk_at dksX0_at_0 21 rfl rfl)
theorem dX0_at_22 : decode cX0_at 22 = .ok (.if_icmp .ge 23, 3) := dk_162 0 23 (dk_at dksX0_at_1 0 rfl rfl)
theorem dX0_at_25 : decode cX0_at 25 = .ok (.iload_n 2, 1) := dk_28 (dk_at dksX0_at_1 3 rfl rfl)
theorem dX0_at_26 : decode cX0_at 26 = .ok (.ifCond .ne 12, 3) := dk_154 0 12 (dk_at dksX0_at_1 4 rfl rfl)
theorem dX0_at_29 : decode cX0_at 29 = .ok (.aload_n 0, 1) := dk_42 (dk_at dksX0_at_1 7 rfl rfl)
theorem dX0_at_30 : decode cX0_at 30 = .ok (.getfield 148, 3) := dk_180 0 148 (dk_at dksX0_at_1 8 rfl rfl)
theorem dX0_at_33 : decode cX0_at 33 = .ok (.iload_n 1, 1) := dk_27 (dk_at dksX0_at_1 11 rfl rfl)
theorem dX0_at_34 : decode cX0_at 34 = .ok (.iaload, 1) := dk_46 (dk_at dksX0_at_1 12 rfl rfl)
theorem dX0_at_35 : decode cX0_at 35 = .ok (.goto 9, 3) := dk_167 0 9 (dk_at dksX0_at_1 13 rfl rfl)
theorem dX0_at_38 : decode cX0_at 38 = .ok (.aload_n 0, 1) := dk_42 (dk_at dksX0_at_1 16 rfl rfl)
theorem dX0_at_39 : decode cX0_at 39 = .ok (.getfield 150, 3) := dk_180 0 150 (dk_at dksX0_at_1 17 rfl rfl)
theorem dX0_at_42 : decode cX0_at 42 = .ok (.iload_n 1, 1) := dk_27 (dk_at dksX0_at_1 20 rfl rfl)
theorem dX0_at_43 : decode cX0_at 43 = .ok (.iaload, 1) := dk_46 (dk_at dksX0_at_1 21 rfl rfl)
theorem dX0_at_44 : decode cX0_at 44 = .ok (.ireturn, 1) := dk_172 (dk_at dksX0_at_1 22 rfl rfl)
theorem dX0_at_45 : decode cX0_at 45 = .ok (.aload_n 0, 1) := dk_42 (dk_at dksX0_at_1 23 rfl rfl)
theorem dX0_at_46 : decode cX0_at 46 = .ok (.invokevirtual 625, 3) := dk_182 2 113 (dk_at dksX0_at_2 0 rfl rfl)
theorem dX0_at_49 : decode cX0_at 49 = .ok (.aload_n 0, 1) := dk_42 (dk_at dksX0_at_2 3 rfl rfl)
theorem dX0_at_50 : decode cX0_at 50 = .ok (.getfield 192, 3) := dk_180 0 192 (dk_at dksX0_at_2 4 rfl rfl)
theorem dX0_at_53 : decode cX0_at 53 = .ok (.iload_n 1, 1) := dk_27 (dk_at dksX0_at_2 7 rfl rfl)
theorem dX0_at_54 : decode cX0_at 54 = .ok (.iaload, 1) := dk_46 (dk_at dksX0_at_2 8 rfl rfl)
theorem dX0_at_55 : decode cX0_at 55 = .ok (.ireturn, 1) := dk_172 (dk_at dksX0_at_2 9 rfl rfl)
abbrev cX0_lasts : ByteArray := prog_1_method_88_code
def yX0_lasts : MethodName := ⟨RX0, "lasts", "(II)I"⟩
def dkwX0_lasts_2 : List UInt8 := [154, 0, 6, 21, 4, 172, 45, 27, 28, 182, 2, 120, 132, 4, 1, 167, 255, 228, 2, 172]
abbrev dktX0_lasts_2 : List UInt8 := dkwX0_lasts_2 ++ []
def dkwX0_lasts_1 : List UInt8 := [180, 0, 164, 182, 2, 116, 78, 3, 54, 4, 21, 4, 16, 99, 163, 0, 27, 45, 180, 1, 214, 27, 46]
abbrev dktX0_lasts_1 : List UInt8 := dkwX0_lasts_1 ++ dktX0_lasts_2
def dkwX0_lasts_0 : List UInt8 := [42, 27, 182, 1, 228, 153, 0, 11, 42, 28, 182, 1, 231, 154, 0, 5, 2, 172, 42, 180, 0, 168, 42]
abbrev dktX0_lasts_0 : List UInt8 := dkwX0_lasts_0 ++ dktX0_lasts_1
theorem dksX0_lasts_0 : cX0_lasts.data.toList.drop 0 = dktX0_lasts_0 := by decide +kernel
theorem dksX0_lasts_1 : cX0_lasts.data.toList.drop 23 = dktX0_lasts_1 := dk_seg dksX0_lasts_0 23 rfl rfl
theorem dksX0_lasts_2 : cX0_lasts.data.toList.drop 46 = dktX0_lasts_2 := dk_seg dksX0_lasts_1 23 rfl rfl
theorem dX0_lasts_0 : decode cX0_lasts 0 = .ok (.aload_n 0, 1) := dk_42 (dk_at dksX0_lasts_0 0 rfl rfl)
theorem dX0_lasts_1 : decode cX0_lasts 1 = .ok (.iload_n 1, 1) := dk_27 (dk_at dksX0_lasts_0 1 rfl rfl)
theorem dX0_lasts_2 : decode cX0_lasts 2 = .ok (.invokevirtual 484, 3) := dk_182 1 228 (dk_at dksX0_lasts_0 2 rfl rfl)
theorem dX0_lasts_5 : decode cX0_lasts 5 = .ok (.ifCond .eq 11, 3) := dk_153 0 11 (dk_at dksX0_lasts_0 5 rfl rfl)
theorem dX0_lasts_8 : decode cX0_lasts 8 = .ok (.aload_n 0, 1) := dk_42 (dk_at dksX0_lasts_0 8 rfl rfl)
theorem dX0_lasts_9 : decode cX0_lasts 9 = .ok (.iload_n 2, 1) := dk_28 (dk_at dksX0_lasts_0 9 rfl rfl)
theorem dX0_lasts_10 : decode cX0_lasts 10 = .ok (.invokevirtual 487, 3) := dk_182 1 231 (dk_at dksX0_lasts_0 10 rfl rfl)
theorem dX0_lasts_13 : decode cX0_lasts 13 = .ok (.ifCond .ne 5, 3) := dk_154 0 5 (dk_at dksX0_lasts_0 13 rfl rfl)
theorem dX0_lasts_16 : decode cX0_lasts 16 = .ok (.iconst (-1), 1) := dk_2 (dk_at dksX0_lasts_0 16 rfl rfl)
theorem dX0_lasts_17 : decode cX0_lasts 17 = .ok (.ireturn, 1) := dk_172 (dk_at dksX0_lasts_0 17 rfl rfl)
theorem dX0_lasts_18 : decode cX0_lasts 18 = .ok (.aload_n 0, 1) := dk_42 (dk_at dksX0_lasts_0 18 rfl rfl)
theorem dX0_lasts_19 : decode cX0_lasts 19 = .ok (.getfield 168, 3) := dk_180 0 168 (dk_at dksX0_lasts_0 19 rfl rfl)
theorem dX0_lasts_22 : decode cX0_lasts 22 = .ok (.aload_n 0, 1) := dk_42 (dk_at dksX0_lasts_0 22 rfl rfl)
theorem dX0_lasts_23 : decode cX0_lasts 23 = .ok (.getfield 164, 3) := dk_180 0 164 (dk_at dksX0_lasts_1 0 rfl rfl)
theorem dX0_lasts_26 : decode cX0_lasts 26 = .ok (.invokevirtual 628, 3) := dk_182 2 116 (dk_at dksX0_lasts_1 3 rfl rfl)
theorem dX0_lasts_29 : decode cX0_lasts 29 = .ok (.astore_n 3, 1) := dk_78 (dk_at dksX0_lasts_1 6 rfl rfl)
theorem dX0_lasts_30 : decode cX0_lasts 30 = .ok (.iconst 0, 1) := dk_3 (dk_at dksX0_lasts_1 7 rfl rfl)
theorem dX0_lasts_31 : decode cX0_lasts 31 = .ok (.istore 4, 2) := dk_54 4 (dk_at dksX0_lasts_1 8 rfl rfl)
theorem dX0_lasts_33 : decode cX0_lasts 33 = .ok (.iload 4, 2) := dk_21 4 (dk_at dksX0_lasts_1 10 rfl rfl)
theorem dX0_lasts_35 : decode cX0_lasts 35 = .ok (.bipush 99, 2) := dk_16 99 (dk_at dksX0_lasts_1 12 rfl rfl)
theorem dX0_lasts_37 : decode cX0_lasts 37 = .ok (.if_icmp .gt 27, 3) := dk_163 0 27 (dk_at dksX0_lasts_1 14 rfl rfl)
theorem dX0_lasts_40 : decode cX0_lasts 40 = .ok (.aload_n 3, 1) := dk_45 (dk_at dksX0_lasts_1 17 rfl rfl)
theorem dX0_lasts_41 : decode cX0_lasts 41 = .ok (.getfield 470, 3) := dk_180 1 214 (dk_at dksX0_lasts_1 18 rfl rfl)
theorem dX0_lasts_44 : decode cX0_lasts 44 = .ok (.iload_n 1, 1) := dk_27 (dk_at dksX0_lasts_1 21 rfl rfl)
theorem dX0_lasts_45 : decode cX0_lasts 45 = .ok (.iaload, 1) := dk_46 (dk_at dksX0_lasts_1 22 rfl rfl)
theorem dX0_lasts_46 : decode cX0_lasts 46 = .ok (.ifCond .ne 6, 3) := dk_154 0 6 (dk_at dksX0_lasts_2 0 rfl rfl)
theorem dX0_lasts_49 : decode cX0_lasts 49 = .ok (.iload 4, 2) := dk_21 4 (dk_at dksX0_lasts_2 3 rfl rfl)
theorem dX0_lasts_51 : decode cX0_lasts 51 = .ok (.ireturn, 1) := dk_172 (dk_at dksX0_lasts_2 5 rfl rfl)
theorem dX0_lasts_52 : decode cX0_lasts 52 = .ok (.aload_n 3, 1) := dk_45 (dk_at dksX0_lasts_2 6 rfl rfl)
theorem dX0_lasts_53 : decode cX0_lasts 53 = .ok (.iload_n 1, 1) := dk_27 (dk_at dksX0_lasts_2 7 rfl rfl)
theorem dX0_lasts_54 : decode cX0_lasts 54 = .ok (.iload_n 2, 1) := dk_28 (dk_at dksX0_lasts_2 8 rfl rfl)
theorem dX0_lasts_55 : decode cX0_lasts 55 = .ok (.invokevirtual 632, 3) := dk_182 2 120 (dk_at dksX0_lasts_2 9 rfl rfl)
theorem dX0_lasts_58 : decode cX0_lasts 58 = .ok (.iinc 4 1, 3) := dk_132 4 1 (dk_at dksX0_lasts_2 12 rfl rfl)
theorem dX0_lasts_61 : decode cX0_lasts 61 = .ok (.goto (-28), 3) := dk_167 255 228 (dk_at dksX0_lasts_2 15 rfl rfl)
theorem dX0_lasts_64 : decode cX0_lasts 64 = .ok (.iconst (-1), 1) := dk_2 (dk_at dksX0_lasts_2 18 rfl rfl)
theorem dX0_lasts_65 : decode cX0_lasts 65 = .ok (.ireturn, 1) := dk_172 (dk_at dksX0_lasts_2 19 rfl rfl)
abbrev cX0_runs : ByteArray := prog_1_method_89_code
def yX0_runs : MethodName := ⟨RX0, "runs", "(II)I"⟩
def dkwX0_runs_3 : List UInt8 := [180, 2, 126, 167, 0, 19, 28, 5, 160, 0, 10, 45, 180, 2, 129, 167, 0, 7, 45, 180, 2, 132, 172]
abbrev dktX0_runs_3 : List UInt8 := dkwX0_runs_3 ++ []
def dkwX0_runs_2 : List UInt8 := [87, 132, 4, 1, 167, 255, 242, 28, 154, 0, 10, 45, 180, 2, 123, 167, 0, 31, 28, 4, 160, 0, 10, 45]
abbrev dktX0_runs_2 : List UInt8 := dkwX0_runs_2 ++ dktX0_runs_3
def dkwX0_runs_1 : List UInt8 := [180, 0, 168, 42, 180, 0, 164, 182, 2, 116, 78, 3, 54, 4, 21, 4, 27, 162, 0, 14, 45, 182, 1, 251]
abbrev dktX0_runs_1 : List UInt8 := dkwX0_runs_1 ++ dktX0_runs_2
def dkwX0_runs_0 : List UInt8 := [27, 4, 16, 99, 184, 0, 237, 153, 0, 12, 28, 3, 6, 184, 0, 237, 154, 0, 5, 2, 172, 42]
abbrev dktX0_runs_0 : List UInt8 := dkwX0_runs_0 ++ dktX0_runs_1
theorem dksX0_runs_0 : cX0_runs.data.toList.drop 0 = dktX0_runs_0 := by decide +kernel
theorem dksX0_runs_1 : cX0_runs.data.toList.drop 22 = dktX0_runs_1 := dk_seg dksX0_runs_0 22 rfl rfl
theorem dksX0_runs_2 : cX0_runs.data.toList.drop 46 = dktX0_runs_2 := dk_seg dksX0_runs_1 24 rfl rfl
theorem dksX0_runs_3 : cX0_runs.data.toList.drop 70 = dktX0_runs_3 := dk_seg dksX0_runs_2 24 rfl rfl
theorem dX0_runs_0 : decode cX0_runs 0 = .ok (.iload_n 1, 1) := dk_27 (dk_at dksX0_runs_0 0 rfl rfl)
theorem dX0_runs_1 : decode cX0_runs 1 = .ok (.iconst 1, 1) := dk_4 (dk_at dksX0_runs_0 1 rfl rfl)
theorem dX0_runs_2 : decode cX0_runs 2 = .ok (.bipush 99, 2) := dk_16 99 (dk_at dksX0_runs_0 2 rfl rfl)
theorem dX0_runs_4 : decode cX0_runs 4 = .ok (.invokestatic 237, 3) := dk_184 0 237 (dk_at dksX0_runs_0 4 rfl rfl)
theorem dX0_runs_7 : decode cX0_runs 7 = .ok (.ifCond .eq 12, 3) := dk_153 0 12 (dk_at dksX0_runs_0 7 rfl rfl)
theorem dX0_runs_10 : decode cX0_runs 10 = .ok (.iload_n 2, 1) := dk_28 (dk_at dksX0_runs_0 10 rfl rfl)
theorem dX0_runs_11 : decode cX0_runs 11 = .ok (.iconst 0, 1) := dk_3 (dk_at dksX0_runs_0 11 rfl rfl)
theorem dX0_runs_12 : decode cX0_runs 12 = .ok (.iconst 3, 1) := dk_6 (dk_at dksX0_runs_0 12 rfl rfl)
theorem dX0_runs_13 : decode cX0_runs 13 = .ok (.invokestatic 237, 3) := dk_184 0 237 (dk_at dksX0_runs_0 13 rfl rfl)
theorem dX0_runs_16 : decode cX0_runs 16 = .ok (.ifCond .ne 5, 3) := dk_154 0 5 (dk_at dksX0_runs_0 16 rfl rfl)
theorem dX0_runs_19 : decode cX0_runs 19 = .ok (.iconst (-1), 1) := dk_2 (dk_at dksX0_runs_0 19 rfl rfl)
theorem dX0_runs_20 : decode cX0_runs 20 = .ok (.ireturn, 1) := dk_172 (dk_at dksX0_runs_0 20 rfl rfl)
theorem dX0_runs_21 : decode cX0_runs 21 = .ok (.aload_n 0, 1) := dk_42 (dk_at dksX0_runs_0 21 rfl rfl)
theorem dX0_runs_22 : decode cX0_runs 22 = .ok (.getfield 168, 3) := dk_180 0 168 (dk_at dksX0_runs_1 0 rfl rfl)
theorem dX0_runs_25 : decode cX0_runs 25 = .ok (.aload_n 0, 1) := dk_42 (dk_at dksX0_runs_1 3 rfl rfl)
theorem dX0_runs_26 : decode cX0_runs 26 = .ok (.getfield 164, 3) := dk_180 0 164 (dk_at dksX0_runs_1 4 rfl rfl)
theorem dX0_runs_29 : decode cX0_runs 29 = .ok (.invokevirtual 628, 3) := dk_182 2 116 (dk_at dksX0_runs_1 7 rfl rfl)
theorem dX0_runs_32 : decode cX0_runs 32 = .ok (.astore_n 3, 1) := dk_78 (dk_at dksX0_runs_1 10 rfl rfl)
theorem dX0_runs_33 : decode cX0_runs 33 = .ok (.iconst 0, 1) := dk_3 (dk_at dksX0_runs_1 11 rfl rfl)
theorem dX0_runs_34 : decode cX0_runs 34 = .ok (.istore 4, 2) := dk_54 4 (dk_at dksX0_runs_1 12 rfl rfl)
theorem dX0_runs_36 : decode cX0_runs 36 = .ok (.iload 4, 2) := dk_21 4 (dk_at dksX0_runs_1 14 rfl rfl)
theorem dX0_runs_38 : decode cX0_runs 38 = .ok (.iload_n 1, 1) := dk_27 (dk_at dksX0_runs_1 16 rfl rfl)
theorem dX0_runs_39 : decode cX0_runs 39 = .ok (.if_icmp .ge 14, 3) := dk_162 0 14 (dk_at dksX0_runs_1 17 rfl rfl)
theorem dX0_runs_42 : decode cX0_runs 42 = .ok (.aload_n 3, 1) := dk_45 (dk_at dksX0_runs_1 20 rfl rfl)
theorem dX0_runs_43 : decode cX0_runs 43 = .ok (.invokevirtual 507, 3) := dk_182 1 251 (dk_at dksX0_runs_1 21 rfl rfl)
theorem dX0_runs_46 : decode cX0_runs 46 = .ok (.pop, 1) := dk_87 (dk_at dksX0_runs_2 0 rfl rfl)
theorem dX0_runs_47 : decode cX0_runs 47 = .ok (.iinc 4 1, 3) := dk_132 4 1 (dk_at dksX0_runs_2 1 rfl rfl)
theorem dX0_runs_50 : decode cX0_runs 50 = .ok (.goto (-14), 3) := dk_167 255 242 (dk_at dksX0_runs_2 4 rfl rfl)
theorem dX0_runs_53 : decode cX0_runs 53 = .ok (.iload_n 2, 1) := dk_28 (dk_at dksX0_runs_2 7 rfl rfl)
theorem dX0_runs_54 : decode cX0_runs 54 = .ok (.ifCond .ne 10, 3) := dk_154 0 10 (dk_at dksX0_runs_2 8 rfl rfl)
theorem dX0_runs_57 : decode cX0_runs 57 = .ok (.aload_n 3, 1) := dk_45 (dk_at dksX0_runs_2 11 rfl rfl)
theorem dX0_runs_58 : decode cX0_runs 58 = .ok (.getfield 635, 3) := dk_180 2 123 (dk_at dksX0_runs_2 12 rfl rfl)
theorem dX0_runs_61 : decode cX0_runs 61 = .ok (.goto 31, 3) := dk_167 0 31 (dk_at dksX0_runs_2 15 rfl rfl)
theorem dX0_runs_64 : decode cX0_runs 64 = .ok (.iload_n 2, 1) := dk_28 (dk_at dksX0_runs_2 18 rfl rfl)
theorem dX0_runs_65 : decode cX0_runs 65 = .ok (.iconst 1, 1) := dk_4 (dk_at dksX0_runs_2 19 rfl rfl)
theorem dX0_runs_66 : decode cX0_runs 66 = .ok (.if_icmp .ne 10, 3) := dk_160 0 10 (dk_at dksX0_runs_2 20 rfl rfl)
theorem dX0_runs_69 : decode cX0_runs 69 = .ok (.aload_n 3, 1) := dk_45 (dk_at dksX0_runs_2 23 rfl rfl)
theorem dX0_runs_70 : decode cX0_runs 70 = .ok (.getfield 638, 3) := dk_180 2 126 (dk_at dksX0_runs_3 0 rfl rfl)
theorem dX0_runs_73 : decode cX0_runs 73 = .ok (.goto 19, 3) := dk_167 0 19 (dk_at dksX0_runs_3 3 rfl rfl)
theorem dX0_runs_76 : decode cX0_runs 76 = .ok (.iload_n 2, 1) := dk_28 (dk_at dksX0_runs_3 6 rfl rfl)
theorem dX0_runs_77 : decode cX0_runs 77 = .ok (.iconst 2, 1) := dk_5 (dk_at dksX0_runs_3 7 rfl rfl)
theorem dX0_runs_78 : decode cX0_runs 78 = .ok (.if_icmp .ne 10, 3) := dk_160 0 10 (dk_at dksX0_runs_3 8 rfl rfl)
theorem dX0_runs_81 : decode cX0_runs 81 = .ok (.aload_n 3, 1) := dk_45 (dk_at dksX0_runs_3 11 rfl rfl)
theorem dX0_runs_82 : decode cX0_runs 82 = .ok (.getfield 641, 3) := dk_180 2 129 (dk_at dksX0_runs_3 12 rfl rfl)
theorem dX0_runs_85 : decode cX0_runs 85 = .ok (.goto 7, 3) := dk_167 0 7 (dk_at dksX0_runs_3 15 rfl rfl)
theorem dX0_runs_88 : decode cX0_runs 88 = .ok (.aload_n 3, 1) := dk_45 (dk_at dksX0_runs_3 18 rfl rfl)
theorem dX0_runs_89 : decode cX0_runs 89 = .ok (.getfield 644, 3) := dk_180 2 132 (dk_at dksX0_runs_3 19 rfl rfl)
theorem dX0_runs_92 : decode cX0_runs 92 = .ok (.ireturn, 1) := dk_172 (dk_at dksX0_runs_3 22 rfl rfl)
abbrev cX0_idle : ByteArray := prog_1_method_90_code
def yX0_idle : MethodName := ⟨RX0, "idle", "(I)I"⟩
def dkwX0_idle_3 : List UInt8 := [21, 4, 46, 160, 0, 10, 4, 21, 4, 120, 167, 0, 4, 3, 128, 62, 132, 4, 1, 167, 255, 213, 29, 172]
abbrev dktX0_idle_3 : List UInt8 := dkwX0_idle_3 ++ []
def dkwX0_idle_2 : List UInt8 := [21, 4, 42, 180, 1, 137, 162, 0, 40, 29, 44, 180, 1, 220, 21, 4, 46, 42, 180, 0, 164, 180, 1, 220]
abbrev dktX0_idle_2 : List UInt8 := dkwX0_idle_2 ++ dktX0_idle_3
def dkwX0_idle_1 : List UInt8 := [3, 62, 29, 27, 162, 0, 14, 44, 182, 1, 251, 87, 132, 3, 1, 167, 255, 243, 3, 62, 3, 54, 4]
abbrev dktX0_idle_1 : List UInt8 := dkwX0_idle_1 ++ dktX0_idle_2
def dkwX0_idle_0 : List UInt8 := [27, 4, 16, 99, 184, 0, 237, 154, 0, 5, 2, 172, 42, 180, 0, 168, 42, 180, 0, 164, 182, 2, 116, 77]
abbrev dktX0_idle_0 : List UInt8 := dkwX0_idle_0 ++ dktX0_idle_1
theorem dksX0_idle_0 : cX0_idle.data.toList.drop 0 = dktX0_idle_0 := by decide +kernel
theorem dksX0_idle_1 : cX0_idle.data.toList.drop 24 = dktX0_idle_1 := dk_seg dksX0_idle_0 24 rfl rfl
theorem dksX0_idle_2 : cX0_idle.data.toList.drop 47 = dktX0_idle_2 := dk_seg dksX0_idle_1 23 rfl rfl
theorem dksX0_idle_3 : cX0_idle.data.toList.drop 71 = dktX0_idle_3 := dk_seg dksX0_idle_2 24 rfl rfl
theorem dX0_idle_0 : decode cX0_idle 0 = .ok (.iload_n 1, 1) := dk_27 (dk_at dksX0_idle_0 0 rfl rfl)
theorem dX0_idle_1 : decode cX0_idle 1 = .ok (.iconst 1, 1) := dk_4 (dk_at dksX0_idle_0 1 rfl rfl)
theorem dX0_idle_2 : decode cX0_idle 2 = .ok (.bipush 99, 2) := dk_16 99 (dk_at dksX0_idle_0 2 rfl rfl)
theorem dX0_idle_4 : decode cX0_idle 4 = .ok (.invokestatic 237, 3) := dk_184 0 237 (dk_at dksX0_idle_0 4 rfl rfl)
theorem dX0_idle_7 : decode cX0_idle 7 = .ok (.ifCond .ne 5, 3) := dk_154 0 5 (dk_at dksX0_idle_0 7 rfl rfl)
theorem dX0_idle_10 : decode cX0_idle 10 = .ok (.iconst (-1), 1) := dk_2 (dk_at dksX0_idle_0 10 rfl rfl)
theorem dX0_idle_11 : decode cX0_idle 11 = .ok (.ireturn, 1) := dk_172 (dk_at dksX0_idle_0 11 rfl rfl)
theorem dX0_idle_12 : decode cX0_idle 12 = .ok (.aload_n 0, 1) := dk_42 (dk_at dksX0_idle_0 12 rfl rfl)
theorem dX0_idle_13 : decode cX0_idle 13 = .ok (.getfield 168, 3) := dk_180 0 168 (dk_at dksX0_idle_0 13 rfl rfl)
theorem dX0_idle_16 : decode cX0_idle 16 = .ok (.aload_n 0, 1) := dk_42 (dk_at dksX0_idle_0 16 rfl rfl)
theorem dX0_idle_17 : decode cX0_idle 17 = .ok (.getfield 164, 3) := dk_180 0 164 (dk_at dksX0_idle_0 17 rfl rfl)
theorem dX0_idle_20 : decode cX0_idle 20 = .ok (.invokevirtual 628, 3) := dk_182 2 116 (dk_at dksX0_idle_0 20 rfl rfl)
theorem dX0_idle_23 : decode cX0_idle 23 = .ok (.astore_n 2, 1) := dk_77 (dk_at dksX0_idle_0 23 rfl rfl)
theorem dX0_idle_24 : decode cX0_idle 24 = .ok (.iconst 0, 1) := dk_3 (dk_at dksX0_idle_1 0 rfl rfl)
theorem dX0_idle_25 : decode cX0_idle 25 = .ok (.istore_n 3, 1) := dk_62 (dk_at dksX0_idle_1 1 rfl rfl)
theorem dX0_idle_26 : decode cX0_idle 26 = .ok (.iload_n 3, 1) := dk_29 (dk_at dksX0_idle_1 2 rfl rfl)
theorem dX0_idle_27 : decode cX0_idle 27 = .ok (.iload_n 1, 1) := dk_27 (dk_at dksX0_idle_1 3 rfl rfl)
theorem dX0_idle_28 : decode cX0_idle 28 = .ok (.if_icmp .ge 14, 3) := dk_162 0 14 (dk_at dksX0_idle_1 4 rfl rfl)
theorem dX0_idle_31 : decode cX0_idle 31 = .ok (.aload_n 2, 1) := dk_44 (dk_at dksX0_idle_1 7 rfl rfl)
theorem dX0_idle_32 : decode cX0_idle 32 = .ok (.invokevirtual 507, 3) := dk_182 1 251 (dk_at dksX0_idle_1 8 rfl rfl)
theorem dX0_idle_35 : decode cX0_idle 35 = .ok (.pop, 1) := dk_87 (dk_at dksX0_idle_1 11 rfl rfl)
theorem dX0_idle_36 : decode cX0_idle 36 = .ok (.iinc 3 1, 3) := dk_132 3 1 (dk_at dksX0_idle_1 12 rfl rfl)
theorem dX0_idle_39 : decode cX0_idle 39 = .ok (.goto (-13), 3) := dk_167 255 243 (dk_at dksX0_idle_1 15 rfl rfl)
theorem dX0_idle_42 : decode cX0_idle 42 = .ok (.iconst 0, 1) := dk_3 (dk_at dksX0_idle_1 18 rfl rfl)
theorem dX0_idle_43 : decode cX0_idle 43 = .ok (.istore_n 3, 1) := dk_62 (dk_at dksX0_idle_1 19 rfl rfl)
theorem dX0_idle_44 : decode cX0_idle 44 = .ok (.iconst 0, 1) := dk_3 (dk_at dksX0_idle_1 20 rfl rfl)
theorem dX0_idle_45 : decode cX0_idle 45 = .ok (.istore 4, 2) := dk_54 4 (dk_at dksX0_idle_1 21 rfl rfl)
theorem dX0_idle_47 : decode cX0_idle 47 = .ok (.iload 4, 2) := dk_21 4 (dk_at dksX0_idle_2 0 rfl rfl)
theorem dX0_idle_49 : decode cX0_idle 49 = .ok (.aload_n 0, 1) := dk_42 (dk_at dksX0_idle_2 2 rfl rfl)
theorem dX0_idle_50 : decode cX0_idle 50 = .ok (.getfield 393, 3) := dk_180 1 137 (dk_at dksX0_idle_2 3 rfl rfl)
theorem dX0_idle_53 : decode cX0_idle 53 = .ok (.if_icmp .ge 40, 3) := dk_162 0 40 (dk_at dksX0_idle_2 6 rfl rfl)
theorem dX0_idle_56 : decode cX0_idle 56 = .ok (.iload_n 3, 1) := dk_29 (dk_at dksX0_idle_2 9 rfl rfl)
theorem dX0_idle_57 : decode cX0_idle 57 = .ok (.aload_n 2, 1) := dk_44 (dk_at dksX0_idle_2 10 rfl rfl)
theorem dX0_idle_58 : decode cX0_idle 58 = .ok (.getfield 476, 3) := dk_180 1 220 (dk_at dksX0_idle_2 11 rfl rfl)
theorem dX0_idle_61 : decode cX0_idle 61 = .ok (.iload 4, 2) := dk_21 4 (dk_at dksX0_idle_2 14 rfl rfl)
theorem dX0_idle_63 : decode cX0_idle 63 = .ok (.iaload, 1) := dk_46 (dk_at dksX0_idle_2 16 rfl rfl)
theorem dX0_idle_64 : decode cX0_idle 64 = .ok (.aload_n 0, 1) := dk_42 (dk_at dksX0_idle_2 17 rfl rfl)
theorem dX0_idle_65 : decode cX0_idle 65 = .ok (.getfield 164, 3) := dk_180 0 164 (dk_at dksX0_idle_2 18 rfl rfl)
theorem dX0_idle_68 : decode cX0_idle 68 = .ok (.getfield 476, 3) := dk_180 1 220 (dk_at dksX0_idle_2 21 rfl rfl)
theorem dX0_idle_71 : decode cX0_idle 71 = .ok (.iload 4, 2) := dk_21 4 (dk_at dksX0_idle_3 0 rfl rfl)
theorem dX0_idle_73 : decode cX0_idle 73 = .ok (.iaload, 1) := dk_46 (dk_at dksX0_idle_3 2 rfl rfl)
theorem dX0_idle_74 : decode cX0_idle 74 = .ok (.if_icmp .ne 10, 3) := dk_160 0 10 (dk_at dksX0_idle_3 3 rfl rfl)
theorem dX0_idle_77 : decode cX0_idle 77 = .ok (.iconst 1, 1) := dk_4 (dk_at dksX0_idle_3 6 rfl rfl)
theorem dX0_idle_78 : decode cX0_idle 78 = .ok (.iload 4, 2) := dk_21 4 (dk_at dksX0_idle_3 7 rfl rfl)
theorem dX0_idle_80 : decode cX0_idle 80 = .ok (.ishl, 1) := dk_120 (dk_at dksX0_idle_3 9 rfl rfl)
theorem dX0_idle_81 : decode cX0_idle 81 = .ok (.goto 4, 3) := dk_167 0 4 (dk_at dksX0_idle_3 10 rfl rfl)
theorem dX0_idle_84 : decode cX0_idle 84 = .ok (.iconst 0, 1) := dk_3 (dk_at dksX0_idle_3 13 rfl rfl)
theorem dX0_idle_85 : decode cX0_idle 85 = .ok (.ior, 1) := dk_128 (dk_at dksX0_idle_3 14 rfl rfl)
theorem dX0_idle_86 : decode cX0_idle 86 = .ok (.istore_n 3, 1) := dk_62 (dk_at dksX0_idle_3 15 rfl rfl)
theorem dX0_idle_87 : decode cX0_idle 87 = .ok (.iinc 4 1, 3) := dk_132 4 1 (dk_at dksX0_idle_3 16 rfl rfl)
theorem dX0_idle_90 : decode cX0_idle 90 = .ok (.goto (-43), 3) := dk_167 255 213 (dk_at dksX0_idle_3 19 rfl rfl)
theorem dX0_idle_93 : decode cX0_idle 93 = .ok (.iload_n 3, 1) := dk_29 (dk_at dksX0_idle_3 22 rfl rfl)
theorem dX0_idle_94 : decode cX0_idle 94 = .ok (.ireturn, 1) := dk_172 (dk_at dksX0_idle_3 23 rfl rfl)
abbrev cX0_dull : ByteArray := prog_1_method_91_code
def yX0_dull : MethodName := ⟨RX0, "dull", "(II)I"⟩
def dkwX0_dull_2 : List UInt8 := [154, 0, 6, 21, 4, 172, 45, 182, 1, 251, 87, 132, 4, 1, 167, 255, 230, 2, 172]
abbrev dktX0_dull_2 : List UInt8 := dkwX0_dull_2 ++ []
def dkwX0_dull_1 : List UInt8 := [42, 180, 0, 164, 182, 2, 116, 78, 3, 54, 4, 21, 4, 28, 163, 0, 26, 45, 180, 1, 214, 27, 46]
abbrev dktX0_dull_1 : List UInt8 := dkwX0_dull_1 ++ dktX0_dull_2
def dkwX0_dull_0 : List UInt8 := [42, 27, 182, 1, 228, 153, 0, 13, 28, 3, 16, 99, 184, 0, 237, 154, 0, 5, 2, 172, 42, 180, 0, 168]
abbrev dktX0_dull_0 : List UInt8 := dkwX0_dull_0 ++ dktX0_dull_1
theorem dksX0_dull_0 : cX0_dull.data.toList.drop 0 = dktX0_dull_0 := by decide +kernel
theorem dksX0_dull_1 : cX0_dull.data.toList.drop 24 = dktX0_dull_1 := dk_seg dksX0_dull_0 24 rfl rfl
theorem dksX0_dull_2 : cX0_dull.data.toList.drop 47 = dktX0_dull_2 := dk_seg dksX0_dull_1 23 rfl rfl
theorem dX0_dull_0 : decode cX0_dull 0 = .ok (.aload_n 0, 1) := dk_42 (dk_at dksX0_dull_0 0 rfl rfl)
theorem dX0_dull_1 : decode cX0_dull 1 = .ok (.iload_n 1, 1) := dk_27 (dk_at dksX0_dull_0 1 rfl rfl)
theorem dX0_dull_2 : decode cX0_dull 2 = .ok (.invokevirtual 484, 3) := dk_182 1 228 (dk_at dksX0_dull_0 2 rfl rfl)
theorem dX0_dull_5 : decode cX0_dull 5 = .ok (.ifCond .eq 13, 3) := dk_153 0 13 (dk_at dksX0_dull_0 5 rfl rfl)
theorem dX0_dull_8 : decode cX0_dull 8 = .ok (.iload_n 2, 1) := dk_28 (dk_at dksX0_dull_0 8 rfl rfl)
theorem dX0_dull_9 : decode cX0_dull 9 = .ok (.iconst 0, 1) := dk_3 (dk_at dksX0_dull_0 9 rfl rfl)
theorem dX0_dull_10 : decode cX0_dull 10 = .ok (.bipush 99, 2) := dk_16 99 (dk_at dksX0_dull_0 10 rfl rfl)
theorem dX0_dull_12 : decode cX0_dull 12 = .ok (.invokestatic 237, 3) := dk_184 0 237 (dk_at dksX0_dull_0 12 rfl rfl)
theorem dX0_dull_15 : decode cX0_dull 15 = .ok (.ifCond .ne 5, 3) := dk_154 0 5 (dk_at dksX0_dull_0 15 rfl rfl)
theorem dX0_dull_18 : decode cX0_dull 18 = .ok (.iconst (-1), 1) := dk_2 (dk_at dksX0_dull_0 18 rfl rfl)
theorem dX0_dull_19 : decode cX0_dull 19 = .ok (.ireturn, 1) := dk_172 (dk_at dksX0_dull_0 19 rfl rfl)
theorem dX0_dull_20 : decode cX0_dull 20 = .ok (.aload_n 0, 1) := dk_42 (dk_at dksX0_dull_0 20 rfl rfl)
theorem dX0_dull_21 : decode cX0_dull 21 = .ok (.getfield 168, 3) := dk_180 0 168 (dk_at dksX0_dull_0 21 rfl rfl)
theorem dX0_dull_24 : decode cX0_dull 24 = .ok (.aload_n 0, 1) := dk_42 (dk_at dksX0_dull_1 0 rfl rfl)
theorem dX0_dull_25 : decode cX0_dull 25 = .ok (.getfield 164, 3) := dk_180 0 164 (dk_at dksX0_dull_1 1 rfl rfl)
theorem dX0_dull_28 : decode cX0_dull 28 = .ok (.invokevirtual 628, 3) := dk_182 2 116 (dk_at dksX0_dull_1 4 rfl rfl)
theorem dX0_dull_31 : decode cX0_dull 31 = .ok (.astore_n 3, 1) := dk_78 (dk_at dksX0_dull_1 7 rfl rfl)
theorem dX0_dull_32 : decode cX0_dull 32 = .ok (.iconst 0, 1) := dk_3 (dk_at dksX0_dull_1 8 rfl rfl)
theorem dX0_dull_33 : decode cX0_dull 33 = .ok (.istore 4, 2) := dk_54 4 (dk_at dksX0_dull_1 9 rfl rfl)
theorem dX0_dull_35 : decode cX0_dull 35 = .ok (.iload 4, 2) := dk_21 4 (dk_at dksX0_dull_1 11 rfl rfl)
theorem dX0_dull_37 : decode cX0_dull 37 = .ok (.iload_n 2, 1) := dk_28 (dk_at dksX0_dull_1 13 rfl rfl)
theorem dX0_dull_38 : decode cX0_dull 38 = .ok (.if_icmp .gt 26, 3) := dk_163 0 26 (dk_at dksX0_dull_1 14 rfl rfl)
theorem dX0_dull_41 : decode cX0_dull 41 = .ok (.aload_n 3, 1) := dk_45 (dk_at dksX0_dull_1 17 rfl rfl)
theorem dX0_dull_42 : decode cX0_dull 42 = .ok (.getfield 470, 3) := dk_180 1 214 (dk_at dksX0_dull_1 18 rfl rfl)
theorem dX0_dull_45 : decode cX0_dull 45 = .ok (.iload_n 1, 1) := dk_27 (dk_at dksX0_dull_1 21 rfl rfl)
theorem dX0_dull_46 : decode cX0_dull 46 = .ok (.iaload, 1) := dk_46 (dk_at dksX0_dull_1 22 rfl rfl)
theorem dX0_dull_47 : decode cX0_dull 47 = .ok (.ifCond .ne 6, 3) := dk_154 0 6 (dk_at dksX0_dull_2 0 rfl rfl)
theorem dX0_dull_50 : decode cX0_dull 50 = .ok (.iload 4, 2) := dk_21 4 (dk_at dksX0_dull_2 3 rfl rfl)
theorem dX0_dull_52 : decode cX0_dull 52 = .ok (.ireturn, 1) := dk_172 (dk_at dksX0_dull_2 5 rfl rfl)
theorem dX0_dull_53 : decode cX0_dull 53 = .ok (.aload_n 3, 1) := dk_45 (dk_at dksX0_dull_2 6 rfl rfl)
theorem dX0_dull_54 : decode cX0_dull 54 = .ok (.invokevirtual 507, 3) := dk_182 1 251 (dk_at dksX0_dull_2 7 rfl rfl)
theorem dX0_dull_57 : decode cX0_dull 57 = .ok (.pop, 1) := dk_87 (dk_at dksX0_dull_2 10 rfl rfl)
theorem dX0_dull_58 : decode cX0_dull 58 = .ok (.iinc 4 1, 3) := dk_132 4 1 (dk_at dksX0_dull_2 11 rfl rfl)
theorem dX0_dull_61 : decode cX0_dull 61 = .ok (.goto (-26), 3) := dk_167 255 230 (dk_at dksX0_dull_2 14 rfl rfl)
theorem dX0_dull_64 : decode cX0_dull 64 = .ok (.iconst (-1), 1) := dk_2 (dk_at dksX0_dull_2 17 rfl rfl)
theorem dX0_dull_65 : decode cX0_dull 65 = .ok (.ireturn, 1) := dk_172 (dk_at dksX0_dull_2 18 rfl rfl)
abbrev cX0_loved : ByteArray := prog_1_method_92_code
def yX0_loved : MethodName := ⟨RX0, "loved", "()I"⟩
def dkwX0_loved_3 : List UInt8 := [159, 0, 12, 43, 29, 46, 43, 28, 46, 164, 0, 5, 29, 61, 132, 3, 1, 167, 255, 223, 28, 172]
abbrev dktX0_loved_3 : List UInt8 := dkwX0_loved_3 ++ []
def dkwX0_loved_2 : List UInt8 := [167, 255, 225, 2, 61, 3, 62, 29, 42, 180, 1, 137, 162, 0, 31, 43, 29, 46, 158, 0, 19, 28, 2]
abbrev dktX0_loved_2 : List UInt8 := dkwX0_loved_2 ++ dktX0_loved_3
def dkwX0_loved_1 : List UInt8 := [28, 182, 2, 103, 2, 159, 0, 14, 43, 42, 28, 182, 2, 103, 92, 46, 4, 96, 79, 132, 2, 1]
abbrev dktX0_loved_1 : List UInt8 := dkwX0_loved_1 ++ dktX0_loved_2
def dkwX0_loved_0 : List UInt8 := [16, 8, 188, 10, 76, 42, 180, 0, 198, 3, 184, 0, 224, 3, 61, 28, 42, 180, 1, 140, 162, 0, 29, 42]
abbrev dktX0_loved_0 : List UInt8 := dkwX0_loved_0 ++ dktX0_loved_1
theorem dksX0_loved_0 : cX0_loved.data.toList.drop 0 = dktX0_loved_0 := by decide +kernel
theorem dksX0_loved_1 : cX0_loved.data.toList.drop 24 = dktX0_loved_1 := dk_seg dksX0_loved_0 24 rfl rfl
theorem dksX0_loved_2 : cX0_loved.data.toList.drop 46 = dktX0_loved_2 := dk_seg dksX0_loved_1 22 rfl rfl
theorem dksX0_loved_3 : cX0_loved.data.toList.drop 69 = dktX0_loved_3 := dk_seg dksX0_loved_2 23 rfl rfl
theorem dX0_loved_0 : decode cX0_loved 0 = .ok (.bipush 8, 2) := dk_16 8 (dk_at dksX0_loved_0 0 rfl rfl)
theorem dX0_loved_2 : decode cX0_loved 2 = .ok (.newarray .int, 2) := dk_188_10 (dk_at dksX0_loved_0 2 rfl rfl)
theorem dX0_loved_4 : decode cX0_loved 4 = .ok (.astore_n 1, 1) := dk_76 (dk_at dksX0_loved_0 4 rfl rfl)
theorem dX0_loved_5 : decode cX0_loved 5 = .ok (.aload_n 0, 1) := dk_42 (dk_at dksX0_loved_0 5 rfl rfl)
theorem dX0_loved_6 : decode cX0_loved 6 = .ok (.getfield 198, 3) := dk_180 0 198 (dk_at dksX0_loved_0 6 rfl rfl)
theorem dX0_loved_9 : decode cX0_loved 9 = .ok (.iconst 0, 1) := dk_3 (dk_at dksX0_loved_0 9 rfl rfl)
theorem dX0_loved_10 : decode cX0_loved 10 = .ok (.invokestatic 224, 3) := dk_184 0 224 (dk_at dksX0_loved_0 10 rfl rfl)
theorem dX0_loved_13 : decode cX0_loved 13 = .ok (.iconst 0, 1) := dk_3 (dk_at dksX0_loved_0 13 rfl rfl)
theorem dX0_loved_14 : decode cX0_loved 14 = .ok (.istore_n 2, 1) := dk_61 (dk_at dksX0_loved_0 14 rfl rfl)
theorem dX0_loved_15 : decode cX0_loved 15 = .ok (.iload_n 2, 1) := dk_28 (dk_at dksX0_loved_0 15 rfl rfl)
theorem dX0_loved_16 : decode cX0_loved 16 = .ok (.aload_n 0, 1) := dk_42 (dk_at dksX0_loved_0 16 rfl rfl)
theorem dX0_loved_17 : decode cX0_loved 17 = .ok (.getfield 396, 3) := dk_180 1 140 (dk_at dksX0_loved_0 17 rfl rfl)
theorem dX0_loved_20 : decode cX0_loved 20 = .ok (.if_icmp .ge 29, 3) := dk_162 0 29 (dk_at dksX0_loved_0 20 rfl rfl)
theorem dX0_loved_23 : decode cX0_loved 23 = .ok (.aload_n 0, 1) := dk_42 (dk_at dksX0_loved_0 23 rfl rfl)
theorem dX0_loved_24 : decode cX0_loved 24 = .ok (.iload_n 2, 1) := dk_28 (dk_at dksX0_loved_1 0 rfl rfl)
theorem dX0_loved_25 : decode cX0_loved 25 = .ok (.invokevirtual 615, 3) := dk_182 2 103 (dk_at dksX0_loved_1 1 rfl rfl)
theorem dX0_loved_28 : decode cX0_loved 28 = .ok (.iconst (-1), 1) := dk_2 (dk_at dksX0_loved_1 4 rfl rfl)
theorem dX0_loved_29 : decode cX0_loved 29 = .ok (.if_icmp .eq 14, 3) := dk_159 0 14 (dk_at dksX0_loved_1 5 rfl rfl)
theorem dX0_loved_32 : decode cX0_loved 32 = .ok (.aload_n 1, 1) := dk_43 (dk_at dksX0_loved_1 8 rfl rfl)
theorem dX0_loved_33 : decode cX0_loved 33 = .ok (.aload_n 0, 1) := dk_42 (dk_at dksX0_loved_1 9 rfl rfl)
theorem dX0_loved_34 : decode cX0_loved 34 = .ok (.iload_n 2, 1) := dk_28 (dk_at dksX0_loved_1 10 rfl rfl)
theorem dX0_loved_35 : decode cX0_loved 35 = .ok (.invokevirtual 615, 3) := dk_182 2 103 (dk_at dksX0_loved_1 11 rfl rfl)
theorem dX0_loved_38 : decode cX0_loved 38 = .ok (.dup2, 1) := dk_92 (dk_at dksX0_loved_1 14 rfl rfl)
theorem dX0_loved_39 : decode cX0_loved 39 = .ok (.iaload, 1) := dk_46 (dk_at dksX0_loved_1 15 rfl rfl)
theorem dX0_loved_40 : decode cX0_loved 40 = .ok (.iconst 1, 1) := dk_4 (dk_at dksX0_loved_1 16 rfl rfl)
theorem dX0_loved_41 : decode cX0_loved 41 = .ok (.iadd, 1) := dk_96 (dk_at dksX0_loved_1 17 rfl rfl)
theorem dX0_loved_42 : decode cX0_loved 42 = .ok (.iastore, 1) := dk_79 (dk_at dksX0_loved_1 18 rfl rfl)
theorem dX0_loved_43 : decode cX0_loved 43 = .ok (.iinc 2 1, 3) := dk_132 2 1 (dk_at dksX0_loved_1 19 rfl rfl)
theorem dX0_loved_46 : decode cX0_loved 46 = .ok (.goto (-31), 3) := dk_167 255 225 (dk_at dksX0_loved_2 0 rfl rfl)
theorem dX0_loved_49 : decode cX0_loved 49 = .ok (.iconst (-1), 1) := dk_2 (dk_at dksX0_loved_2 3 rfl rfl)
theorem dX0_loved_50 : decode cX0_loved 50 = .ok (.istore_n 2, 1) := dk_61 (dk_at dksX0_loved_2 4 rfl rfl)
theorem dX0_loved_51 : decode cX0_loved 51 = .ok (.iconst 0, 1) := dk_3 (dk_at dksX0_loved_2 5 rfl rfl)
theorem dX0_loved_52 : decode cX0_loved 52 = .ok (.istore_n 3, 1) := dk_62 (dk_at dksX0_loved_2 6 rfl rfl)
theorem dX0_loved_53 : decode cX0_loved 53 = .ok (.iload_n 3, 1) := dk_29 (dk_at dksX0_loved_2 7 rfl rfl)
theorem dX0_loved_54 : decode cX0_loved 54 = .ok (.aload_n 0, 1) := dk_42 (dk_at dksX0_loved_2 8 rfl rfl)
theorem dX0_loved_55 : decode cX0_loved 55 = .ok (.getfield 393, 3) := dk_180 1 137 (dk_at dksX0_loved_2 9 rfl rfl)
theorem dX0_loved_58 : decode cX0_loved 58 = .ok (.if_icmp .ge 31, 3) := dk_162 0 31 (dk_at dksX0_loved_2 12 rfl rfl)
theorem dX0_loved_61 : decode cX0_loved 61 = .ok (.aload_n 1, 1) := dk_43 (dk_at dksX0_loved_2 15 rfl rfl)
theorem dX0_loved_62 : decode cX0_loved 62 = .ok (.iload_n 3, 1) := dk_29 (dk_at dksX0_loved_2 16 rfl rfl)
theorem dX0_loved_63 : decode cX0_loved 63 = .ok (.iaload, 1) := dk_46 (dk_at dksX0_loved_2 17 rfl rfl)
theorem dX0_loved_64 : decode cX0_loved 64 = .ok (.ifCond .le 19, 3) := dk_158 0 19 (dk_at dksX0_loved_2 18 rfl rfl)
theorem dX0_loved_67 : decode cX0_loved 67 = .ok (.iload_n 2, 1) := dk_28 (dk_at dksX0_loved_2 21 rfl rfl)
theorem dX0_loved_68 : decode cX0_loved 68 = .ok (.iconst (-1), 1) := dk_2 (dk_at dksX0_loved_2 22 rfl rfl)
theorem dX0_loved_69 : decode cX0_loved 69 = .ok (.if_icmp .eq 12, 3) := dk_159 0 12 (dk_at dksX0_loved_3 0 rfl rfl)
theorem dX0_loved_72 : decode cX0_loved 72 = .ok (.aload_n 1, 1) := dk_43 (dk_at dksX0_loved_3 3 rfl rfl)
theorem dX0_loved_73 : decode cX0_loved 73 = .ok (.iload_n 3, 1) := dk_29 (dk_at dksX0_loved_3 4 rfl rfl)
theorem dX0_loved_74 : decode cX0_loved 74 = .ok (.iaload, 1) := dk_46 (dk_at dksX0_loved_3 5 rfl rfl)
theorem dX0_loved_75 : decode cX0_loved 75 = .ok (.aload_n 1, 1) := dk_43 (dk_at dksX0_loved_3 6 rfl rfl)
theorem dX0_loved_76 : decode cX0_loved 76 = .ok (.iload_n 2, 1) := dk_28 (dk_at dksX0_loved_3 7 rfl rfl)
theorem dX0_loved_77 : decode cX0_loved 77 = .ok (.iaload, 1) := dk_46 (dk_at dksX0_loved_3 8 rfl rfl)
theorem dX0_loved_78 : decode cX0_loved 78 = .ok (.if_icmp .le 5, 3) := dk_164 0 5 (dk_at dksX0_loved_3 9 rfl rfl)
theorem dX0_loved_81 : decode cX0_loved 81 = .ok (.iload_n 3, 1) := dk_29 (dk_at dksX0_loved_3 12 rfl rfl)
theorem dX0_loved_82 : decode cX0_loved 82 = .ok (.istore_n 2, 1) := dk_61 (dk_at dksX0_loved_3 13 rfl rfl)
theorem dX0_loved_83 : decode cX0_loved 83 = .ok (.iinc 3 1, 3) := dk_132 3 1 (dk_at dksX0_loved_3 14 rfl rfl)
theorem dX0_loved_86 : decode cX0_loved 86 = .ok (.goto (-33), 3) := dk_167 255 223 (dk_at dksX0_loved_3 17 rfl rfl)
theorem dX0_loved_89 : decode cX0_loved 89 = .ok (.iload_n 2, 1) := dk_28 (dk_at dksX0_loved_3 20 rfl rfl)
theorem dX0_loved_90 : decode cX0_loved 90 = .ok (.ireturn, 1) := dk_172 (dk_at dksX0_loved_3 21 rfl rfl)
abbrev cX0_ready : ByteArray := prog_1_method_93_code
def yX0_ready : MethodName := ⟨RX0, "ready", "()I"⟩
def dkwX0_ready_1 : List UInt8 := [153, 0, 8, 43, 180, 1, 192, 172, 43, 182, 1, 251, 87, 132, 2, 1, 167, 255, 230, 2, 172]
abbrev dktX0_ready_1 : List UInt8 := dkwX0_ready_1 ++ []
def dkwX0_ready_0 : List UInt8 := [42, 180, 0, 168, 42, 180, 0, 164, 182, 2, 116, 76, 3, 61, 28, 16, 99, 163, 0, 26, 43, 182, 2, 135]
abbrev dktX0_ready_0 : List UInt8 := dkwX0_ready_0 ++ dktX0_ready_1
theorem dksX0_ready_0 : cX0_ready.data.toList.drop 0 = dktX0_ready_0 := by decide +kernel
theorem dksX0_ready_1 : cX0_ready.data.toList.drop 24 = dktX0_ready_1 := dk_seg dksX0_ready_0 24 rfl rfl
theorem dX0_ready_0 : decode cX0_ready 0 = .ok (.aload_n 0, 1) := dk_42 (dk_at dksX0_ready_0 0 rfl rfl)
theorem dX0_ready_1 : decode cX0_ready 1 = .ok (.getfield 168, 3) := dk_180 0 168 (dk_at dksX0_ready_0 1 rfl rfl)
theorem dX0_ready_4 : decode cX0_ready 4 = .ok (.aload_n 0, 1) := dk_42 (dk_at dksX0_ready_0 4 rfl rfl)
theorem dX0_ready_5 : decode cX0_ready 5 = .ok (.getfield 164, 3) := dk_180 0 164 (dk_at dksX0_ready_0 5 rfl rfl)
theorem dX0_ready_8 : decode cX0_ready 8 = .ok (.invokevirtual 628, 3) := dk_182 2 116 (dk_at dksX0_ready_0 8 rfl rfl)
theorem dX0_ready_11 : decode cX0_ready 11 = .ok (.astore_n 1, 1) := dk_76 (dk_at dksX0_ready_0 11 rfl rfl)
theorem dX0_ready_12 : decode cX0_ready 12 = .ok (.iconst 0, 1) := dk_3 (dk_at dksX0_ready_0 12 rfl rfl)
theorem dX0_ready_13 : decode cX0_ready 13 = .ok (.istore_n 2, 1) := dk_61 (dk_at dksX0_ready_0 13 rfl rfl)
theorem dX0_ready_14 : decode cX0_ready 14 = .ok (.iload_n 2, 1) := dk_28 (dk_at dksX0_ready_0 14 rfl rfl)
theorem dX0_ready_15 : decode cX0_ready 15 = .ok (.bipush 99, 2) := dk_16 99 (dk_at dksX0_ready_0 15 rfl rfl)
theorem dX0_ready_17 : decode cX0_ready 17 = .ok (.if_icmp .gt 26, 3) := dk_163 0 26 (dk_at dksX0_ready_0 17 rfl rfl)
theorem dX0_ready_20 : decode cX0_ready 20 = .ok (.aload_n 1, 1) := dk_43 (dk_at dksX0_ready_0 20 rfl rfl)
theorem dX0_ready_21 : decode cX0_ready 21 = .ok (.invokevirtual 647, 3) := dk_182 2 135 (dk_at dksX0_ready_0 21 rfl rfl)
theorem dX0_ready_24 : decode cX0_ready 24 = .ok (.ifCond .eq 8, 3) := dk_153 0 8 (dk_at dksX0_ready_1 0 rfl rfl)
theorem dX0_ready_27 : decode cX0_ready 27 = .ok (.aload_n 1, 1) := dk_43 (dk_at dksX0_ready_1 3 rfl rfl)
theorem dX0_ready_28 : decode cX0_ready 28 = .ok (.getfield 448, 3) := dk_180 1 192 (dk_at dksX0_ready_1 4 rfl rfl)
theorem dX0_ready_31 : decode cX0_ready 31 = .ok (.ireturn, 1) := dk_172 (dk_at dksX0_ready_1 7 rfl rfl)
theorem dX0_ready_32 : decode cX0_ready 32 = .ok (.aload_n 1, 1) := dk_43 (dk_at dksX0_ready_1 8 rfl rfl)
theorem dX0_ready_33 : decode cX0_ready 33 = .ok (.invokevirtual 507, 3) := dk_182 1 251 (dk_at dksX0_ready_1 9 rfl rfl)
theorem dX0_ready_36 : decode cX0_ready 36 = .ok (.pop, 1) := dk_87 (dk_at dksX0_ready_1 12 rfl rfl)
theorem dX0_ready_37 : decode cX0_ready 37 = .ok (.iinc 2 1, 3) := dk_132 2 1 (dk_at dksX0_ready_1 13 rfl rfl)
theorem dX0_ready_40 : decode cX0_ready 40 = .ok (.goto (-26), 3) := dk_167 255 230 (dk_at dksX0_ready_1 16 rfl rfl)
theorem dX0_ready_43 : decode cX0_ready 43 = .ok (.iconst (-1), 1) := dk_2 (dk_at dksX0_ready_1 19 rfl rfl)
theorem dX0_ready_44 : decode cX0_ready 44 = .ok (.ireturn, 1) := dk_172 (dk_at dksX0_ready_1 20 rfl rfl)
abbrev cX0_seen : ByteArray := prog_1_method_94_code
def yX0_seen : MethodName := ⟨RX0, "seen", "(II)I"⟩
def dkwX0_seen_3 : List UInt8 := [42, 180, 1, 146, 28, 79, 42, 89, 180, 1, 146, 4, 96, 181, 1, 146, 42, 180, 1, 146, 172]
abbrev dktX0_seen_3 : List UInt8 := dkwX0_seen_3 ++ []
def dkwX0_seen_2 : List UInt8 := [180, 1, 146, 16, 12, 160, 0, 5, 2, 172, 42, 180, 0, 201, 42, 180, 1, 146, 27, 79, 42, 180, 0, 204]
abbrev dktX0_seen_2 : List UInt8 := dkwX0_seen_2 ++ dktX0_seen_3
def dkwX0_seen_1 : List UInt8 := [153, 0, 32, 28, 3, 42, 180, 0, 122, 190, 4, 100, 184, 0, 237, 153, 0, 17, 27, 28, 159, 0, 12, 42]
abbrev dktX0_seen_1 : List UInt8 := dkwX0_seen_1 ++ dktX0_seen_2
def dkwX0_seen_0 : List UInt8 := [27, 2, 160, 0, 10, 42, 3, 181, 1, 146, 3, 172, 27, 3, 42, 180, 0, 122, 190, 4, 100, 184, 0, 237]
abbrev dktX0_seen_0 : List UInt8 := dkwX0_seen_0 ++ dktX0_seen_1
theorem dksX0_seen_0 : cX0_seen.data.toList.drop 0 = dktX0_seen_0 := by decide +kernel
theorem dksX0_seen_1 : cX0_seen.data.toList.drop 24 = dktX0_seen_1 := dk_seg dksX0_seen_0 24 rfl rfl
theorem dksX0_seen_2 : cX0_seen.data.toList.drop 48 = dktX0_seen_2 := dk_seg dksX0_seen_1 24 rfl rfl
theorem dksX0_seen_3 : cX0_seen.data.toList.drop 72 = dktX0_seen_3 := dk_seg dksX0_seen_2 24 rfl rfl
theorem dX0_seen_0 : decode cX0_seen 0 = .ok (.iload_n 1, 1) := dk_27 (dk_at dksX0_seen_0 0 rfl rfl)
theorem dX0_seen_1 : decode cX0_seen 1 = .ok (.iconst (-1), 1) := dk_2 (dk_at dksX0_seen_0 1 rfl rfl)
theorem dX0_seen_2 : decode cX0_seen 2 = .ok (.if_icmp .ne 10, 3) := dk_160 0 10 (dk_at dksX0_seen_0 2 rfl rfl)
theorem dX0_seen_5 : decode cX0_seen 5 = .ok (.aload_n 0, 1) := dk_42 (dk_at dksX0_seen_0 5 rfl rfl)
theorem dX0_seen_6 : decode cX0_seen 6 = .ok (.iconst 0, 1) := dk_3 (dk_at dksX0_seen_0 6 rfl rfl)
theorem dX0_seen_7 : decode cX0_seen 7 = .ok (.putfield 402, 3) := dk_181 1 146 (dk_at dksX0_seen_0 7 rfl rfl)
theorem dX0_seen_10 : decode cX0_seen 10 = .ok (.iconst 0, 1) := dk_3 (dk_at dksX0_seen_0 10 rfl rfl)
theorem dX0_seen_11 : decode cX0_seen 11 = .ok (.ireturn, 1) := dk_172 (dk_at dksX0_seen_0 11 rfl rfl)
theorem dX0_seen_12 : decode cX0_seen 12 = .ok (.iload_n 1, 1) := dk_27 (dk_at dksX0_seen_0 12 rfl rfl)
theorem dX0_seen_13 : decode cX0_seen 13 = .ok (.iconst 0, 1) := dk_3 (dk_at dksX0_seen_0 13 rfl rfl)
theorem dX0_seen_14 : decode cX0_seen 14 = .ok (.aload_n 0, 1) := dk_42 (dk_at dksX0_seen_0 14 rfl rfl)
theorem dX0_seen_15 : decode cX0_seen 15 = .ok (.getfield 122, 3) := dk_180 0 122 (dk_at dksX0_seen_0 15 rfl rfl)
theorem dX0_seen_18 : decode cX0_seen 18 = .ok (.arraylength, 1) := dk_190 (dk_at dksX0_seen_0 18 rfl rfl)
theorem dX0_seen_19 : decode cX0_seen 19 = .ok (.iconst 1, 1) := dk_4 (dk_at dksX0_seen_0 19 rfl rfl)
theorem dX0_seen_20 : decode cX0_seen 20 = .ok (.isub, 1) := dk_100 (dk_at dksX0_seen_0 20 rfl rfl)
theorem dX0_seen_21 : decode cX0_seen 21 = .ok (.invokestatic 237, 3) := dk_184 0 237 (dk_at dksX0_seen_0 21 rfl rfl)
theorem dX0_seen_24 : decode cX0_seen 24 = .ok (.ifCond .eq 32, 3) := dk_153 0 32 (dk_at dksX0_seen_1 0 rfl rfl)
theorem dX0_seen_27 : decode cX0_seen 27 = .ok (.iload_n 2, 1) := dk_28 (dk_at dksX0_seen_1 3 rfl rfl)
theorem dX0_seen_28 : decode cX0_seen 28 = .ok (.iconst 0, 1) := dk_3 (dk_at dksX0_seen_1 4 rfl rfl)
theorem dX0_seen_29 : decode cX0_seen 29 = .ok (.aload_n 0, 1) := dk_42 (dk_at dksX0_seen_1 5 rfl rfl)
theorem dX0_seen_30 : decode cX0_seen 30 = .ok (.getfield 122, 3) := dk_180 0 122 (dk_at dksX0_seen_1 6 rfl rfl)
theorem dX0_seen_33 : decode cX0_seen 33 = .ok (.arraylength, 1) := dk_190 (dk_at dksX0_seen_1 9 rfl rfl)
theorem dX0_seen_34 : decode cX0_seen 34 = .ok (.iconst 1, 1) := dk_4 (dk_at dksX0_seen_1 10 rfl rfl)
theorem dX0_seen_35 : decode cX0_seen 35 = .ok (.isub, 1) := dk_100 (dk_at dksX0_seen_1 11 rfl rfl)
theorem dX0_seen_36 : decode cX0_seen 36 = .ok (.invokestatic 237, 3) := dk_184 0 237 (dk_at dksX0_seen_1 12 rfl rfl)
theorem dX0_seen_39 : decode cX0_seen 39 = .ok (.ifCond .eq 17, 3) := dk_153 0 17 (dk_at dksX0_seen_1 15 rfl rfl)
theorem dX0_seen_42 : decode cX0_seen 42 = .ok (.iload_n 1, 1) := dk_27 (dk_at dksX0_seen_1 18 rfl rfl)
theorem dX0_seen_43 : decode cX0_seen 43 = .ok (.iload_n 2, 1) := dk_28 (dk_at dksX0_seen_1 19 rfl rfl)
theorem dX0_seen_44 : decode cX0_seen 44 = .ok (.if_icmp .eq 12, 3) := dk_159 0 12 (dk_at dksX0_seen_1 20 rfl rfl)
theorem dX0_seen_47 : decode cX0_seen 47 = .ok (.aload_n 0, 1) := dk_42 (dk_at dksX0_seen_1 23 rfl rfl)
theorem dX0_seen_48 : decode cX0_seen 48 = .ok (.getfield 402, 3) := dk_180 1 146 (dk_at dksX0_seen_2 0 rfl rfl)
theorem dX0_seen_51 : decode cX0_seen 51 = .ok (.bipush 12, 2) := dk_16 12 (dk_at dksX0_seen_2 3 rfl rfl)
theorem dX0_seen_53 : decode cX0_seen 53 = .ok (.if_icmp .ne 5, 3) := dk_160 0 5 (dk_at dksX0_seen_2 5 rfl rfl)
theorem dX0_seen_56 : decode cX0_seen 56 = .ok (.iconst (-1), 1) := dk_2 (dk_at dksX0_seen_2 8 rfl rfl)
theorem dX0_seen_57 : decode cX0_seen 57 = .ok (.ireturn, 1) := dk_172 (dk_at dksX0_seen_2 9 rfl rfl)
theorem dX0_seen_58 : decode cX0_seen 58 = .ok (.aload_n 0, 1) := dk_42 (dk_at dksX0_seen_2 10 rfl rfl)
theorem dX0_seen_59 : decode cX0_seen 59 = .ok (.getfield 201, 3) := dk_180 0 201 (dk_at dksX0_seen_2 11 rfl rfl)
theorem dX0_seen_62 : decode cX0_seen 62 = .ok (.aload_n 0, 1) := dk_42 (dk_at dksX0_seen_2 14 rfl rfl)
theorem dX0_seen_63 : decode cX0_seen 63 = .ok (.getfield 402, 3) := dk_180 1 146 (dk_at dksX0_seen_2 15 rfl rfl)
theorem dX0_seen_66 : decode cX0_seen 66 = .ok (.iload_n 1, 1) := dk_27 (dk_at dksX0_seen_2 18 rfl rfl)
theorem dX0_seen_67 : decode cX0_seen 67 = .ok (.iastore, 1) := dk_79 (dk_at dksX0_seen_2 19 rfl rfl)
theorem dX0_seen_68 : decode cX0_seen 68 = .ok (.aload_n 0, 1) := dk_42 (dk_at dksX0_seen_2 20 rfl rfl)
theorem dX0_seen_69 : decode cX0_seen 69 = .ok (.getfield 204, 3) := dk_180 0 204 (dk_at dksX0_seen_2 21 rfl rfl)
theorem dX0_seen_72 : decode cX0_seen 72 = .ok (.aload_n 0, 1) := dk_42 (dk_at dksX0_seen_3 0 rfl rfl)
theorem dX0_seen_73 : decode cX0_seen 73 = .ok (.getfield 402, 3) := dk_180 1 146 (dk_at dksX0_seen_3 1 rfl rfl)
theorem dX0_seen_76 : decode cX0_seen 76 = .ok (.iload_n 2, 1) := dk_28 (dk_at dksX0_seen_3 4 rfl rfl)
theorem dX0_seen_77 : decode cX0_seen 77 = .ok (.iastore, 1) := dk_79 (dk_at dksX0_seen_3 5 rfl rfl)
theorem dX0_seen_78 : decode cX0_seen 78 = .ok (.aload_n 0, 1) := dk_42 (dk_at dksX0_seen_3 6 rfl rfl)
theorem dX0_seen_79 : decode cX0_seen 79 = .ok (.dup, 1) := dk_89 (dk_at dksX0_seen_3 7 rfl rfl)
theorem dX0_seen_80 : decode cX0_seen 80 = .ok (.getfield 402, 3) := dk_180 1 146 (dk_at dksX0_seen_3 8 rfl rfl)
theorem dX0_seen_83 : decode cX0_seen 83 = .ok (.iconst 1, 1) := dk_4 (dk_at dksX0_seen_3 11 rfl rfl)
theorem dX0_seen_84 : decode cX0_seen 84 = .ok (.iadd, 1) := dk_96 (dk_at dksX0_seen_3 12 rfl rfl)
theorem dX0_seen_85 : decode cX0_seen 85 = .ok (.putfield 402, 3) := dk_181 1 146 (dk_at dksX0_seen_3 13 rfl rfl)
theorem dX0_seen_88 : decode cX0_seen 88 = .ok (.aload_n 0, 1) := dk_42 (dk_at dksX0_seen_3 16 rfl rfl)
theorem dX0_seen_89 : decode cX0_seen 89 = .ok (.getfield 402, 3) := dk_180 1 146 (dk_at dksX0_seen_3 17 rfl rfl)
theorem dX0_seen_92 : decode cX0_seen 92 = .ok (.ireturn, 1) := dk_172 (dk_at dksX0_seen_3 20 rfl rfl)
abbrev cX0_orders : ByteArray := prog_1_method_97_code
def yX0_orders : MethodName := ⟨RX0, "orders", "(I)I"⟩
def dkwX0_orders_4 : List UInt8 := [167, 255, 229, 29, 4, 21, 4, 120, 128, 62, 132, 5, 1, 167, 255, 204, 21, 4, 172]
abbrev dktX0_orders_4 : List UInt8 := dkwX0_orders_4 ++ []
def dkwX0_orders_3 : List UInt8 := [182, 2, 139, 153, 0, 17, 42, 180, 0, 207, 29, 4, 21, 4, 120, 128, 46, 154, 0, 9, 132, 4, 1]
abbrev dktX0_orders_3 : List UInt8 := dkwX0_orders_3 ++ dktX0_orders_4
def dkwX0_orders_2 : List UInt8 := [2, 54, 4, 3, 54, 5, 21, 5, 27, 16, 10, 100, 163, 0, 49, 3, 54, 4, 42, 21, 4, 29]
abbrev dktX0_orders_2 : List UInt8 := dkwX0_orders_2 ++ dktX0_orders_3
def dkwX0_orders_1 : List UInt8 := [182, 2, 142, 61, 27, 153, 0, 7, 28, 154, 0, 13, 27, 154, 0, 7, 28, 167, 0, 4, 2, 172, 3, 62]
abbrev dktX0_orders_1 : List UInt8 := dkwX0_orders_1 ++ dktX0_orders_2
def dkwX0_orders_0 : List UInt8 := [27, 153, 0, 22, 27, 16, 10, 16, 9, 42, 180, 0, 122, 190, 96, 184, 0, 237, 154, 0, 5, 2, 172, 42]
abbrev dktX0_orders_0 : List UInt8 := dkwX0_orders_0 ++ dktX0_orders_1
theorem dksX0_orders_0 : cX0_orders.data.toList.drop 0 = dktX0_orders_0 := by decide +kernel
theorem dksX0_orders_1 : cX0_orders.data.toList.drop 24 = dktX0_orders_1 := dk_seg dksX0_orders_0 24 rfl rfl
theorem dksX0_orders_2 : cX0_orders.data.toList.drop 48 = dktX0_orders_2 := dk_seg dksX0_orders_1 24 rfl rfl
theorem dksX0_orders_3 : cX0_orders.data.toList.drop 70 = dktX0_orders_3 := dk_seg dksX0_orders_2 22 rfl rfl
theorem dksX0_orders_4 : cX0_orders.data.toList.drop 93 = dktX0_orders_4 := dk_seg dksX0_orders_3 23 rfl rfl
theorem dX0_orders_0 : decode cX0_orders 0 = .ok (.iload_n 1, 1) := dk_27 (dk_at dksX0_orders_0 0 rfl rfl)
theorem dX0_orders_1 : decode cX0_orders 1 = .ok (.ifCond .eq 22, 3) := dk_153 0 22 (dk_at dksX0_orders_0 1 rfl rfl)
theorem dX0_orders_4 : decode cX0_orders 4 = .ok (.iload_n 1, 1) := dk_27 (dk_at dksX0_orders_0 4 rfl rfl)
theorem dX0_orders_5 : decode cX0_orders 5 = .ok (.bipush 10, 2) := dk_16 10 (dk_at dksX0_orders_0 5 rfl rfl)
theorem dX0_orders_7 : decode cX0_orders 7 = .ok (.bipush 9, 2) := dk_16 9 (dk_at dksX0_orders_0 7 rfl rfl)
theorem dX0_orders_9 : decode cX0_orders 9 = .ok (.aload_n 0, 1) := dk_42 (dk_at dksX0_orders_0 9 rfl rfl)
theorem dX0_orders_10 : decode cX0_orders 10 = .ok (.getfield 122, 3) := dk_180 0 122 (dk_at dksX0_orders_0 10 rfl rfl)
theorem dX0_orders_13 : decode cX0_orders 13 = .ok (.arraylength, 1) := dk_190 (dk_at dksX0_orders_0 13 rfl rfl)
theorem dX0_orders_14 : decode cX0_orders 14 = .ok (.iadd, 1) := dk_96 (dk_at dksX0_orders_0 14 rfl rfl)
theorem dX0_orders_15 : decode cX0_orders 15 = .ok (.invokestatic 237, 3) := dk_184 0 237 (dk_at dksX0_orders_0 15 rfl rfl)
theorem dX0_orders_18 : decode cX0_orders 18 = .ok (.ifCond .ne 5, 3) := dk_154 0 5 (dk_at dksX0_orders_0 18 rfl rfl)
theorem dX0_orders_21 : decode cX0_orders 21 = .ok (.iconst (-1), 1) := dk_2 (dk_at dksX0_orders_0 21 rfl rfl)
theorem dX0_orders_22 : decode cX0_orders 22 = .ok (.ireturn, 1) := dk_172 (dk_at dksX0_orders_0 22 rfl rfl)
theorem dX0_orders_23 : decode cX0_orders 23 = .ok (.aload_n 0, 1) := dk_42 (dk_at dksX0_orders_0 23 rfl rfl)
theorem dX0_orders_24 : decode cX0_orders 24 = .ok (.invokevirtual 654, 3) := dk_182 2 142 (dk_at dksX0_orders_1 0 rfl rfl)
theorem dX0_orders_27 : decode cX0_orders 27 = .ok (.istore_n 2, 1) := dk_61 (dk_at dksX0_orders_1 3 rfl rfl)
theorem dX0_orders_28 : decode cX0_orders 28 = .ok (.iload_n 1, 1) := dk_27 (dk_at dksX0_orders_1 4 rfl rfl)
theorem dX0_orders_29 : decode cX0_orders 29 = .ok (.ifCond .eq 7, 3) := dk_153 0 7 (dk_at dksX0_orders_1 5 rfl rfl)
theorem dX0_orders_32 : decode cX0_orders 32 = .ok (.iload_n 2, 1) := dk_28 (dk_at dksX0_orders_1 8 rfl rfl)
theorem dX0_orders_33 : decode cX0_orders 33 = .ok (.ifCond .ne 13, 3) := dk_154 0 13 (dk_at dksX0_orders_1 9 rfl rfl)
theorem dX0_orders_36 : decode cX0_orders 36 = .ok (.iload_n 1, 1) := dk_27 (dk_at dksX0_orders_1 12 rfl rfl)
theorem dX0_orders_37 : decode cX0_orders 37 = .ok (.ifCond .ne 7, 3) := dk_154 0 7 (dk_at dksX0_orders_1 13 rfl rfl)
theorem dX0_orders_40 : decode cX0_orders 40 = .ok (.iload_n 2, 1) := dk_28 (dk_at dksX0_orders_1 16 rfl rfl)
theorem dX0_orders_41 : decode cX0_orders 41 = .ok (.goto 4, 3) := dk_167 0 4 (dk_at dksX0_orders_1 17 rfl rfl)
theorem dX0_orders_44 : decode cX0_orders 44 = .ok (.iconst (-1), 1) := dk_2 (dk_at dksX0_orders_1 20 rfl rfl)
theorem dX0_orders_45 : decode cX0_orders 45 = .ok (.ireturn, 1) := dk_172 (dk_at dksX0_orders_1 21 rfl rfl)
theorem dX0_orders_46 : decode cX0_orders 46 = .ok (.iconst 0, 1) := dk_3 (dk_at dksX0_orders_1 22 rfl rfl)
theorem dX0_orders_47 : decode cX0_orders 47 = .ok (.istore_n 3, 1) := dk_62 (dk_at dksX0_orders_1 23 rfl rfl)
theorem dX0_orders_48 : decode cX0_orders 48 = .ok (.iconst (-1), 1) := dk_2 (dk_at dksX0_orders_2 0 rfl rfl)
theorem dX0_orders_49 : decode cX0_orders 49 = .ok (.istore 4, 2) := dk_54 4 (dk_at dksX0_orders_2 1 rfl rfl)
theorem dX0_orders_51 : decode cX0_orders 51 = .ok (.iconst 0, 1) := dk_3 (dk_at dksX0_orders_2 3 rfl rfl)
theorem dX0_orders_52 : decode cX0_orders 52 = .ok (.istore 5, 2) := dk_54 5 (dk_at dksX0_orders_2 4 rfl rfl)
theorem dX0_orders_54 : decode cX0_orders 54 = .ok (.iload 5, 2) := dk_21 5 (dk_at dksX0_orders_2 6 rfl rfl)
theorem dX0_orders_56 : decode cX0_orders 56 = .ok (.iload_n 1, 1) := dk_27 (dk_at dksX0_orders_2 8 rfl rfl)
theorem dX0_orders_57 : decode cX0_orders 57 = .ok (.bipush 10, 2) := dk_16 10 (dk_at dksX0_orders_2 9 rfl rfl)
theorem dX0_orders_59 : decode cX0_orders 59 = .ok (.isub, 1) := dk_100 (dk_at dksX0_orders_2 11 rfl rfl)
theorem dX0_orders_60 : decode cX0_orders 60 = .ok (.if_icmp .gt 49, 3) := dk_163 0 49 (dk_at dksX0_orders_2 12 rfl rfl)
theorem dX0_orders_63 : decode cX0_orders 63 = .ok (.iconst 0, 1) := dk_3 (dk_at dksX0_orders_2 15 rfl rfl)
theorem dX0_orders_64 : decode cX0_orders 64 = .ok (.istore 4, 2) := dk_54 4 (dk_at dksX0_orders_2 16 rfl rfl)
theorem dX0_orders_66 : decode cX0_orders 66 = .ok (.aload_n 0, 1) := dk_42 (dk_at dksX0_orders_2 18 rfl rfl)
theorem dX0_orders_67 : decode cX0_orders 67 = .ok (.iload 4, 2) := dk_21 4 (dk_at dksX0_orders_2 19 rfl rfl)
theorem dX0_orders_69 : decode cX0_orders 69 = .ok (.iload_n 3, 1) := dk_29 (dk_at dksX0_orders_2 21 rfl rfl)
theorem dX0_orders_70 : decode cX0_orders 70 = .ok (.invokevirtual 651, 3) := dk_182 2 139 (dk_at dksX0_orders_3 0 rfl rfl)
theorem dX0_orders_73 : decode cX0_orders 73 = .ok (.ifCond .eq 17, 3) := dk_153 0 17 (dk_at dksX0_orders_3 3 rfl rfl)
theorem dX0_orders_76 : decode cX0_orders 76 = .ok (.aload_n 0, 1) := dk_42 (dk_at dksX0_orders_3 6 rfl rfl)
theorem dX0_orders_77 : decode cX0_orders 77 = .ok (.getfield 207, 3) := dk_180 0 207 (dk_at dksX0_orders_3 7 rfl rfl)
theorem dX0_orders_80 : decode cX0_orders 80 = .ok (.iload_n 3, 1) := dk_29 (dk_at dksX0_orders_3 10 rfl rfl)
theorem dX0_orders_81 : decode cX0_orders 81 = .ok (.iconst 1, 1) := dk_4 (dk_at dksX0_orders_3 11 rfl rfl)
theorem dX0_orders_82 : decode cX0_orders 82 = .ok (.iload 4, 2) := dk_21 4 (dk_at dksX0_orders_3 12 rfl rfl)
theorem dX0_orders_84 : decode cX0_orders 84 = .ok (.ishl, 1) := dk_120 (dk_at dksX0_orders_3 14 rfl rfl)
theorem dX0_orders_85 : decode cX0_orders 85 = .ok (.ior, 1) := dk_128 (dk_at dksX0_orders_3 15 rfl rfl)
theorem dX0_orders_86 : decode cX0_orders 86 = .ok (.iaload, 1) := dk_46 (dk_at dksX0_orders_3 16 rfl rfl)
theorem dX0_orders_87 : decode cX0_orders 87 = .ok (.ifCond .ne 9, 3) := dk_154 0 9 (dk_at dksX0_orders_3 17 rfl rfl)
theorem dX0_orders_90 : decode cX0_orders 90 = .ok (.iinc 4 1, 3) := dk_132 4 1 (dk_at dksX0_orders_3 20 rfl rfl)
theorem dX0_orders_93 : decode cX0_orders 93 = .ok (.goto (-27), 3) := dk_167 255 229 (dk_at dksX0_orders_4 0 rfl rfl)
theorem dX0_orders_96 : decode cX0_orders 96 = .ok (.iload_n 3, 1) := dk_29 (dk_at dksX0_orders_4 3 rfl rfl)
theorem dX0_orders_97 : decode cX0_orders 97 = .ok (.iconst 1, 1) := dk_4 (dk_at dksX0_orders_4 4 rfl rfl)
theorem dX0_orders_98 : decode cX0_orders 98 = .ok (.iload 4, 2) := dk_21 4 (dk_at dksX0_orders_4 5 rfl rfl)
theorem dX0_orders_100 : decode cX0_orders 100 = .ok (.ishl, 1) := dk_120 (dk_at dksX0_orders_4 7 rfl rfl)
theorem dX0_orders_101 : decode cX0_orders 101 = .ok (.ior, 1) := dk_128 (dk_at dksX0_orders_4 8 rfl rfl)
theorem dX0_orders_102 : decode cX0_orders 102 = .ok (.istore_n 3, 1) := dk_62 (dk_at dksX0_orders_4 9 rfl rfl)
theorem dX0_orders_103 : decode cX0_orders 103 = .ok (.iinc 5 1, 3) := dk_132 5 1 (dk_at dksX0_orders_4 10 rfl rfl)
theorem dX0_orders_106 : decode cX0_orders 106 = .ok (.goto (-52), 3) := dk_167 255 204 (dk_at dksX0_orders_4 13 rfl rfl)
theorem dX0_orders_109 : decode cX0_orders 109 = .ok (.iload 4, 2) := dk_21 4 (dk_at dksX0_orders_4 16 rfl rfl)
theorem dX0_orders_111 : decode cX0_orders 111 = .ok (.ireturn, 1) := dk_172 (dk_at dksX0_orders_4 18 rfl rfl)
abbrev cX0_findsOrders : ByteArray := prog_1_method_96_code
def yX0_findsOrders : MethodName := ⟨RX0, "findsOrders", "()I"⟩
def dkwX0_findsOrders_3 : List UInt8 := [79, 132, 3, 1, 167, 255, 216, 132, 2, 255, 167, 255, 188, 42, 180, 0, 207, 3, 46, 172]
abbrev dktX0_findsOrders_3 : List UInt8 := dkwX0_findsOrders_3 ++ []
def dkwX0_findsOrders_2 : List UInt8 := [182, 2, 139, 153, 0, 22, 42, 180, 0, 207, 28, 92, 46, 42, 180, 0, 207, 28, 4, 29, 120, 128, 46, 96]
abbrev dktX0_findsOrders_2 : List UInt8 := dkwX0_findsOrders_2 ++ dktX0_findsOrders_3
def dkwX0_findsOrders_1 : List UInt8 := [160, 0, 7, 4, 167, 0, 4, 3, 79, 3, 62, 29, 42, 180, 0, 122, 190, 162, 0, 37, 42, 29, 28]
abbrev dktX0_findsOrders_1 : List UInt8 := dkwX0_findsOrders_1 ++ dktX0_findsOrders_2
def dkwX0_findsOrders_0 : List UInt8 := [4, 42, 180, 0, 122, 190, 120, 4, 100, 60, 27, 61, 28, 155, 0, 70, 42, 180, 0, 207, 28, 28, 27]
abbrev dktX0_findsOrders_0 : List UInt8 := dkwX0_findsOrders_0 ++ dktX0_findsOrders_1
theorem dksX0_findsOrders_0 : cX0_findsOrders.data.toList.drop 0 = dktX0_findsOrders_0 := by decide +kernel
theorem dksX0_findsOrders_1 : cX0_findsOrders.data.toList.drop 23 = dktX0_findsOrders_1 := dk_seg dksX0_findsOrders_0 23 rfl rfl
theorem dksX0_findsOrders_2 : cX0_findsOrders.data.toList.drop 46 = dktX0_findsOrders_2 := dk_seg dksX0_findsOrders_1 23 rfl rfl
theorem dksX0_findsOrders_3 : cX0_findsOrders.data.toList.drop 70 = dktX0_findsOrders_3 := dk_seg dksX0_findsOrders_2 24 rfl rfl
theorem dX0_findsOrders_0 : decode cX0_findsOrders 0 = .ok (.iconst 1, 1) := dk_4 (dk_at dksX0_findsOrders_0 0 rfl rfl)
theorem dX0_findsOrders_1 : decode cX0_findsOrders 1 = .ok (.aload_n 0, 1) := dk_42 (dk_at dksX0_findsOrders_0 1 rfl rfl)
theorem dX0_findsOrders_2 : decode cX0_findsOrders 2 = .ok (.getfield 122, 3) := dk_180 0 122 (dk_at dksX0_findsOrders_0 2 rfl rfl)
theorem dX0_findsOrders_5 : decode cX0_findsOrders 5 = .ok (.arraylength, 1) := dk_190 (dk_at dksX0_findsOrders_0 5 rfl rfl)
theorem dX0_findsOrders_6 : decode cX0_findsOrders 6 = .ok (.ishl, 1) := dk_120 (dk_at dksX0_findsOrders_0 6 rfl rfl)
theorem dX0_findsOrders_7 : decode cX0_findsOrders 7 = .ok (.iconst 1, 1) := dk_4 (dk_at dksX0_findsOrders_0 7 rfl rfl)
theorem dX0_findsOrders_8 : decode cX0_findsOrders 8 = .ok (.isub, 1) := dk_100 (dk_at dksX0_findsOrders_0 8 rfl rfl)
theorem dX0_findsOrders_9 : decode cX0_findsOrders 9 = .ok (.istore_n 1, 1) := dk_60 (dk_at dksX0_findsOrders_0 9 rfl rfl)
theorem dX0_findsOrders_10 : decode cX0_findsOrders 10 = .ok (.iload_n 1, 1) := dk_27 (dk_at dksX0_findsOrders_0 10 rfl rfl)
theorem dX0_findsOrders_11 : decode cX0_findsOrders 11 = .ok (.istore_n 2, 1) := dk_61 (dk_at dksX0_findsOrders_0 11 rfl rfl)
theorem dX0_findsOrders_12 : decode cX0_findsOrders 12 = .ok (.iload_n 2, 1) := dk_28 (dk_at dksX0_findsOrders_0 12 rfl rfl)
theorem dX0_findsOrders_13 : decode cX0_findsOrders 13 = .ok (.ifCond .lt 70, 3) := dk_155 0 70 (dk_at dksX0_findsOrders_0 13 rfl rfl)
theorem dX0_findsOrders_16 : decode cX0_findsOrders 16 = .ok (.aload_n 0, 1) := dk_42 (dk_at dksX0_findsOrders_0 16 rfl rfl)
theorem dX0_findsOrders_17 : decode cX0_findsOrders 17 = .ok (.getfield 207, 3) := dk_180 0 207 (dk_at dksX0_findsOrders_0 17 rfl rfl)
theorem dX0_findsOrders_20 : decode cX0_findsOrders 20 = .ok (.iload_n 2, 1) := dk_28 (dk_at dksX0_findsOrders_0 20 rfl rfl)
theorem dX0_findsOrders_21 : decode cX0_findsOrders 21 = .ok (.iload_n 2, 1) := dk_28 (dk_at dksX0_findsOrders_0 21 rfl rfl)
theorem dX0_findsOrders_22 : decode cX0_findsOrders 22 = .ok (.iload_n 1, 1) := dk_27 (dk_at dksX0_findsOrders_0 22 rfl rfl)
theorem dX0_findsOrders_23 : decode cX0_findsOrders 23 = .ok (.if_icmp .ne 7, 3) := dk_160 0 7 (dk_at dksX0_findsOrders_1 0 rfl rfl)
theorem dX0_findsOrders_26 : decode cX0_findsOrders 26 = .ok (.iconst 1, 1) := dk_4 (dk_at dksX0_findsOrders_1 3 rfl rfl)
theorem dX0_findsOrders_27 : decode cX0_findsOrders 27 = .ok (.goto 4, 3) := dk_167 0 4 (dk_at dksX0_findsOrders_1 4 rfl rfl)
theorem dX0_findsOrders_30 : decode cX0_findsOrders 30 = .ok (.iconst 0, 1) := dk_3 (dk_at dksX0_findsOrders_1 7 rfl rfl)
theorem dX0_findsOrders_31 : decode cX0_findsOrders 31 = .ok (.iastore, 1) := dk_79 (dk_at dksX0_findsOrders_1 8 rfl rfl)
theorem dX0_findsOrders_32 : decode cX0_findsOrders 32 = .ok (.iconst 0, 1) := dk_3 (dk_at dksX0_findsOrders_1 9 rfl rfl)
theorem dX0_findsOrders_33 : decode cX0_findsOrders 33 = .ok (.istore_n 3, 1) := dk_62 (dk_at dksX0_findsOrders_1 10 rfl rfl)
theorem dX0_findsOrders_34 : decode cX0_findsOrders 34 = .ok (.iload_n 3, 1) := dk_29 (dk_at dksX0_findsOrders_1 11 rfl rfl)
theorem dX0_findsOrders_35 : decode cX0_findsOrders 35 = .ok (.aload_n 0, 1) := dk_42 (dk_at dksX0_findsOrders_1 12 rfl rfl)
theorem dX0_findsOrders_36 : decode cX0_findsOrders 36 = .ok (.getfield 122, 3) := dk_180 0 122 (dk_at dksX0_findsOrders_1 13 rfl rfl)
theorem dX0_findsOrders_39 : decode cX0_findsOrders 39 = .ok (.arraylength, 1) := dk_190 (dk_at dksX0_findsOrders_1 16 rfl rfl)
theorem dX0_findsOrders_40 : decode cX0_findsOrders 40 = .ok (.if_icmp .ge 37, 3) := dk_162 0 37 (dk_at dksX0_findsOrders_1 17 rfl rfl)
theorem dX0_findsOrders_43 : decode cX0_findsOrders 43 = .ok (.aload_n 0, 1) := dk_42 (dk_at dksX0_findsOrders_1 20 rfl rfl)
theorem dX0_findsOrders_44 : decode cX0_findsOrders 44 = .ok (.iload_n 3, 1) := dk_29 (dk_at dksX0_findsOrders_1 21 rfl rfl)
theorem dX0_findsOrders_45 : decode cX0_findsOrders 45 = .ok (.iload_n 2, 1) := dk_28 (dk_at dksX0_findsOrders_1 22 rfl rfl)
theorem dX0_findsOrders_46 : decode cX0_findsOrders 46 = .ok (.invokevirtual 651, 3) := dk_182 2 139 (dk_at dksX0_findsOrders_2 0 rfl rfl)
theorem dX0_findsOrders_49 : decode cX0_findsOrders 49 = .ok (.ifCond .eq 22, 3) := dk_153 0 22 (dk_at dksX0_findsOrders_2 3 rfl rfl)
theorem dX0_findsOrders_52 : decode cX0_findsOrders 52 = .ok (.aload_n 0, 1) := dk_42 (dk_at dksX0_findsOrders_2 6 rfl rfl)
theorem dX0_findsOrders_53 : decode cX0_findsOrders 53 = .ok (.getfield 207, 3) := dk_180 0 207 (dk_at dksX0_findsOrders_2 7 rfl rfl)
theorem dX0_findsOrders_56 : decode cX0_findsOrders 56 = .ok (.iload_n 2, 1) := dk_28 (dk_at dksX0_findsOrders_2 10 rfl rfl)
theorem dX0_findsOrders_57 : decode cX0_findsOrders 57 = .ok (.dup2, 1) := dk_92 (dk_at dksX0_findsOrders_2 11 rfl rfl)
theorem dX0_findsOrders_58 : decode cX0_findsOrders 58 = .ok (.iaload, 1) := dk_46 (dk_at dksX0_findsOrders_2 12 rfl rfl)
theorem dX0_findsOrders_59 : decode cX0_findsOrders 59 = .ok (.aload_n 0, 1) := dk_42 (dk_at dksX0_findsOrders_2 13 rfl rfl)
theorem dX0_findsOrders_60 : decode cX0_findsOrders 60 = .ok (.getfield 207, 3) := dk_180 0 207 (dk_at dksX0_findsOrders_2 14 rfl rfl)
theorem dX0_findsOrders_63 : decode cX0_findsOrders 63 = .ok (.iload_n 2, 1) := dk_28 (dk_at dksX0_findsOrders_2 17 rfl rfl)
theorem dX0_findsOrders_64 : decode cX0_findsOrders 64 = .ok (.iconst 1, 1) := dk_4 (dk_at dksX0_findsOrders_2 18 rfl rfl)
theorem dX0_findsOrders_65 : decode cX0_findsOrders 65 = .ok (.iload_n 3, 1) := dk_29 (dk_at dksX0_findsOrders_2 19 rfl rfl)
theorem dX0_findsOrders_66 : decode cX0_findsOrders 66 = .ok (.ishl, 1) := dk_120 (dk_at dksX0_findsOrders_2 20 rfl rfl)
theorem dX0_findsOrders_67 : decode cX0_findsOrders 67 = .ok (.ior, 1) := dk_128 (dk_at dksX0_findsOrders_2 21 rfl rfl)
theorem dX0_findsOrders_68 : decode cX0_findsOrders 68 = .ok (.iaload, 1) := dk_46 (dk_at dksX0_findsOrders_2 22 rfl rfl)
theorem dX0_findsOrders_69 : decode cX0_findsOrders 69 = .ok (.iadd, 1) := dk_96 (dk_at dksX0_findsOrders_2 23 rfl rfl)
theorem dX0_findsOrders_70 : decode cX0_findsOrders 70 = .ok (.iastore, 1) := dk_79 (dk_at dksX0_findsOrders_3 0 rfl rfl)
theorem dX0_findsOrders_71 : decode cX0_findsOrders 71 = .ok (.iinc 3 1, 3) := dk_132 3 1 (dk_at dksX0_findsOrders_3 1 rfl rfl)
theorem dX0_findsOrders_74 : decode cX0_findsOrders 74 = .ok (.goto (-40), 3) := dk_167 255 216 (dk_at dksX0_findsOrders_3 4 rfl rfl)
theorem dX0_findsOrders_77 : decode cX0_findsOrders 77 = .ok (.iinc 2 (-1), 3) := dk_132 2 255 (dk_at dksX0_findsOrders_3 7 rfl rfl)
theorem dX0_findsOrders_80 : decode cX0_findsOrders 80 = .ok (.goto (-68), 3) := dk_167 255 188 (dk_at dksX0_findsOrders_3 10 rfl rfl)
theorem dX0_findsOrders_83 : decode cX0_findsOrders 83 = .ok (.aload_n 0, 1) := dk_42 (dk_at dksX0_findsOrders_3 13 rfl rfl)
theorem dX0_findsOrders_84 : decode cX0_findsOrders 84 = .ok (.getfield 207, 3) := dk_180 0 207 (dk_at dksX0_findsOrders_3 14 rfl rfl)
theorem dX0_findsOrders_87 : decode cX0_findsOrders 87 = .ok (.iconst 0, 1) := dk_3 (dk_at dksX0_findsOrders_3 17 rfl rfl)
theorem dX0_findsOrders_88 : decode cX0_findsOrders 88 = .ok (.iaload, 1) := dk_46 (dk_at dksX0_findsOrders_3 18 rfl rfl)
theorem dX0_findsOrders_89 : decode cX0_findsOrders 89 = .ok (.ireturn, 1) := dk_172 (dk_at dksX0_findsOrders_3 19 rfl rfl)
abbrev cX0_canBeNext : ByteArray := prog_1_method_95_code
def yX0_canBeNext : MethodName := ⟨RX0, "canBeNext", "(II)Z"⟩
def dkwX0_canBeNext_2 : List UInt8 := [180, 0, 201, 29, 46, 184, 1, 247, 154, 0, 5, 3, 172, 132, 3, 1, 167, 255, 220, 4, 172]
abbrev dktX0_canBeNext_2 : List UInt8 := dkwX0_canBeNext_2 ++ []
def dkwX0_canBeNext_1 : List UInt8 := [3, 172, 3, 62, 29, 42, 180, 1, 146, 162, 0, 34, 42, 180, 0, 204, 29, 46, 27, 160, 0, 18, 28, 42]
abbrev dktX0_canBeNext_1 : List UInt8 := dkwX0_canBeNext_1 ++ dktX0_canBeNext_2
def dkwX0_canBeNext_0 : List UInt8 := [28, 27, 184, 1, 247, 154, 0, 19, 42, 180, 0, 122, 27, 50, 182, 2, 17, 28, 2, 130, 126, 153, 0, 5]
abbrev dktX0_canBeNext_0 : List UInt8 := dkwX0_canBeNext_0 ++ dktX0_canBeNext_1
theorem dksX0_canBeNext_0 : cX0_canBeNext.data.toList.drop 0 = dktX0_canBeNext_0 := by decide +kernel
theorem dksX0_canBeNext_1 : cX0_canBeNext.data.toList.drop 24 = dktX0_canBeNext_1 := dk_seg dksX0_canBeNext_0 24 rfl rfl
theorem dksX0_canBeNext_2 : cX0_canBeNext.data.toList.drop 48 = dktX0_canBeNext_2 := dk_seg dksX0_canBeNext_1 24 rfl rfl
theorem dX0_canBeNext_0 : decode cX0_canBeNext 0 = .ok (.iload_n 2, 1) := dk_28 (dk_at dksX0_canBeNext_0 0 rfl rfl)
theorem dX0_canBeNext_1 : decode cX0_canBeNext 1 = .ok (.iload_n 1, 1) := dk_27 (dk_at dksX0_canBeNext_0 1 rfl rfl)
theorem dX0_canBeNext_2 : decode cX0_canBeNext 2 = .ok (.invokestatic 503, 3) := dk_184 1 247 (dk_at dksX0_canBeNext_0 2 rfl rfl)
theorem dX0_canBeNext_5 : decode cX0_canBeNext 5 = .ok (.ifCond .ne 19, 3) := dk_154 0 19 (dk_at dksX0_canBeNext_0 5 rfl rfl)
theorem dX0_canBeNext_8 : decode cX0_canBeNext 8 = .ok (.aload_n 0, 1) := dk_42 (dk_at dksX0_canBeNext_0 8 rfl rfl)
theorem dX0_canBeNext_9 : decode cX0_canBeNext 9 = .ok (.getfield 122, 3) := dk_180 0 122 (dk_at dksX0_canBeNext_0 9 rfl rfl)
theorem dX0_canBeNext_12 : decode cX0_canBeNext 12 = .ok (.iload_n 1, 1) := dk_27 (dk_at dksX0_canBeNext_0 12 rfl rfl)
theorem dX0_canBeNext_13 : decode cX0_canBeNext 13 = .ok (.aaload, 1) := dk_50 (dk_at dksX0_canBeNext_0 13 rfl rfl)
theorem dX0_canBeNext_14 : decode cX0_canBeNext 14 = .ok (.invokevirtual 529, 3) := dk_182 2 17 (dk_at dksX0_canBeNext_0 14 rfl rfl)
theorem dX0_canBeNext_17 : decode cX0_canBeNext 17 = .ok (.iload_n 2, 1) := dk_28 (dk_at dksX0_canBeNext_0 17 rfl rfl)
theorem dX0_canBeNext_18 : decode cX0_canBeNext 18 = .ok (.iconst (-1), 1) := dk_2 (dk_at dksX0_canBeNext_0 18 rfl rfl)
theorem dX0_canBeNext_19 : decode cX0_canBeNext 19 = .ok (.ixor, 1) := dk_130 (dk_at dksX0_canBeNext_0 19 rfl rfl)
theorem dX0_canBeNext_20 : decode cX0_canBeNext 20 = .ok (.iand, 1) := dk_126 (dk_at dksX0_canBeNext_0 20 rfl rfl)
theorem dX0_canBeNext_21 : decode cX0_canBeNext 21 = .ok (.ifCond .eq 5, 3) := dk_153 0 5 (dk_at dksX0_canBeNext_0 21 rfl rfl)
theorem dX0_canBeNext_24 : decode cX0_canBeNext 24 = .ok (.iconst 0, 1) := dk_3 (dk_at dksX0_canBeNext_1 0 rfl rfl)
theorem dX0_canBeNext_25 : decode cX0_canBeNext 25 = .ok (.ireturn, 1) := dk_172 (dk_at dksX0_canBeNext_1 1 rfl rfl)
theorem dX0_canBeNext_26 : decode cX0_canBeNext 26 = .ok (.iconst 0, 1) := dk_3 (dk_at dksX0_canBeNext_1 2 rfl rfl)
theorem dX0_canBeNext_27 : decode cX0_canBeNext 27 = .ok (.istore_n 3, 1) := dk_62 (dk_at dksX0_canBeNext_1 3 rfl rfl)
theorem dX0_canBeNext_28 : decode cX0_canBeNext 28 = .ok (.iload_n 3, 1) := dk_29 (dk_at dksX0_canBeNext_1 4 rfl rfl)
theorem dX0_canBeNext_29 : decode cX0_canBeNext 29 = .ok (.aload_n 0, 1) := dk_42 (dk_at dksX0_canBeNext_1 5 rfl rfl)
theorem dX0_canBeNext_30 : decode cX0_canBeNext 30 = .ok (.getfield 402, 3) := dk_180 1 146 (dk_at dksX0_canBeNext_1 6 rfl rfl)
theorem dX0_canBeNext_33 : decode cX0_canBeNext 33 = .ok (.if_icmp .ge 34, 3) := dk_162 0 34 (dk_at dksX0_canBeNext_1 9 rfl rfl)
theorem dX0_canBeNext_36 : decode cX0_canBeNext 36 = .ok (.aload_n 0, 1) := dk_42 (dk_at dksX0_canBeNext_1 12 rfl rfl)
theorem dX0_canBeNext_37 : decode cX0_canBeNext 37 = .ok (.getfield 204, 3) := dk_180 0 204 (dk_at dksX0_canBeNext_1 13 rfl rfl)
theorem dX0_canBeNext_40 : decode cX0_canBeNext 40 = .ok (.iload_n 3, 1) := dk_29 (dk_at dksX0_canBeNext_1 16 rfl rfl)
theorem dX0_canBeNext_41 : decode cX0_canBeNext 41 = .ok (.iaload, 1) := dk_46 (dk_at dksX0_canBeNext_1 17 rfl rfl)
theorem dX0_canBeNext_42 : decode cX0_canBeNext 42 = .ok (.iload_n 1, 1) := dk_27 (dk_at dksX0_canBeNext_1 18 rfl rfl)
theorem dX0_canBeNext_43 : decode cX0_canBeNext 43 = .ok (.if_icmp .ne 18, 3) := dk_160 0 18 (dk_at dksX0_canBeNext_1 19 rfl rfl)
theorem dX0_canBeNext_46 : decode cX0_canBeNext 46 = .ok (.iload_n 2, 1) := dk_28 (dk_at dksX0_canBeNext_1 22 rfl rfl)
theorem dX0_canBeNext_47 : decode cX0_canBeNext 47 = .ok (.aload_n 0, 1) := dk_42 (dk_at dksX0_canBeNext_1 23 rfl rfl)
theorem dX0_canBeNext_48 : decode cX0_canBeNext 48 = .ok (.getfield 201, 3) := dk_180 0 201 (dk_at dksX0_canBeNext_2 0 rfl rfl)
theorem dX0_canBeNext_51 : decode cX0_canBeNext 51 = .ok (.iload_n 3, 1) := dk_29 (dk_at dksX0_canBeNext_2 3 rfl rfl)
theorem dX0_canBeNext_52 : decode cX0_canBeNext 52 = .ok (.iaload, 1) := dk_46 (dk_at dksX0_canBeNext_2 4 rfl rfl)
theorem dX0_canBeNext_53 : decode cX0_canBeNext 53 = .ok (.invokestatic 503, 3) := dk_184 1 247 (dk_at dksX0_canBeNext_2 5 rfl rfl)
theorem dX0_canBeNext_56 : decode cX0_canBeNext 56 = .ok (.ifCond .ne 5, 3) := dk_154 0 5 (dk_at dksX0_canBeNext_2 8 rfl rfl)
theorem dX0_canBeNext_59 : decode cX0_canBeNext 59 = .ok (.iconst 0, 1) := dk_3 (dk_at dksX0_canBeNext_2 11 rfl rfl)
theorem dX0_canBeNext_60 : decode cX0_canBeNext 60 = .ok (.ireturn, 1) := dk_172 (dk_at dksX0_canBeNext_2 12 rfl rfl)
theorem dX0_canBeNext_61 : decode cX0_canBeNext 61 = .ok (.iinc 3 1, 3) := dk_132 3 1 (dk_at dksX0_canBeNext_2 13 rfl rfl)
theorem dX0_canBeNext_64 : decode cX0_canBeNext 64 = .ok (.goto (-36), 3) := dk_167 255 220 (dk_at dksX0_canBeNext_2 16 rfl rfl)
theorem dX0_canBeNext_67 : decode cX0_canBeNext 67 = .ok (.iconst 1, 1) := dk_4 (dk_at dksX0_canBeNext_2 19 rfl rfl)
theorem dX0_canBeNext_68 : decode cX0_canBeNext 68 = .ok (.ireturn, 1) := dk_172 (dk_at dksX0_canBeNext_2 20 rfl rfl)
abbrev cX0_image : ByteArray := prog_1_method_100_code
def yX0_image : MethodName := ⟨RX0, "image", "(Z)Z"⟩
def dkwX0_image_1 : List UInt8 := [42, 182, 2, 168, 4, 172]
abbrev dktX0_image_1 : List UInt8 := dkwX0_image_1 ++ []
def dkwX0_image_0 : List UInt8 := [27, 154, 0, 12, 42, 180, 2, 149, 199, 0, 5, 3, 172, 27, 153, 0, 10, 42, 182, 2, 165, 167, 0, 7]
abbrev dktX0_image_0 : List UInt8 := dkwX0_image_0 ++ dktX0_image_1
theorem dksX0_image_0 : cX0_image.data.toList.drop 0 = dktX0_image_0 := by decide +kernel
theorem dksX0_image_1 : cX0_image.data.toList.drop 24 = dktX0_image_1 := dk_seg dksX0_image_0 24 rfl rfl
theorem dX0_image_0 : decode cX0_image 0 = .ok (.iload_n 1, 1) := dk_27 (dk_at dksX0_image_0 0 rfl rfl)
theorem dX0_image_1 : decode cX0_image 1 = .ok (.ifCond .ne 12, 3) := dk_154 0 12 (dk_at dksX0_image_0 1 rfl rfl)
theorem dX0_image_4 : decode cX0_image 4 = .ok (.aload_n 0, 1) := dk_42 (dk_at dksX0_image_0 4 rfl rfl)
theorem dX0_image_5 : decode cX0_image 5 = .ok (.getfield 661, 3) := dk_180 2 149 (dk_at dksX0_image_0 5 rfl rfl)
theorem dX0_image_8 : decode cX0_image 8 = .ok (.ifnonnull 5, 3) := dk_199 0 5 (dk_at dksX0_image_0 8 rfl rfl)
theorem dX0_image_11 : decode cX0_image 11 = .ok (.iconst 0, 1) := dk_3 (dk_at dksX0_image_0 11 rfl rfl)
theorem dX0_image_12 : decode cX0_image 12 = .ok (.ireturn, 1) := dk_172 (dk_at dksX0_image_0 12 rfl rfl)
theorem dX0_image_13 : decode cX0_image 13 = .ok (.iload_n 1, 1) := dk_27 (dk_at dksX0_image_0 13 rfl rfl)
theorem dX0_image_14 : decode cX0_image 14 = .ok (.ifCond .eq 10, 3) := dk_153 0 10 (dk_at dksX0_image_0 14 rfl rfl)
theorem dX0_image_17 : decode cX0_image 17 = .ok (.aload_n 0, 1) := dk_42 (dk_at dksX0_image_0 17 rfl rfl)
theorem dX0_image_18 : decode cX0_image 18 = .ok (.invokevirtual 677, 3) := dk_182 2 165 (dk_at dksX0_image_0 18 rfl rfl)
theorem dX0_image_21 : decode cX0_image 21 = .ok (.goto 7, 3) := dk_167 0 7 (dk_at dksX0_image_0 21 rfl rfl)
theorem dX0_image_24 : decode cX0_image 24 = .ok (.aload_n 0, 1) := dk_42 (dk_at dksX0_image_1 0 rfl rfl)
theorem dX0_image_25 : decode cX0_image 25 = .ok (.invokevirtual 680, 3) := dk_182 2 168 (dk_at dksX0_image_1 1 rfl rfl)
theorem dX0_image_28 : decode cX0_image 28 = .ok (.iconst 1, 1) := dk_4 (dk_at dksX0_image_1 4 rfl rfl)
theorem dX0_image_29 : decode cX0_image 29 = .ok (.ireturn, 1) := dk_172 (dk_at dksX0_image_1 5 rfl rfl)
abbrev cX0_takesAll : ByteArray := prog_1_method_98_code
def yX0_takesAll : MethodName := ⟨RX0, "takesAll", "()V"⟩
def dkwX0_takesAll_5 : List UInt8 := [42, 180, 0, 218, 7, 42, 180, 1, 146, 79, 177]
abbrev dktX0_takesAll_5 : List UInt8 := dkwX0_takesAll_5 ++ []
def dkwX0_takesAll_4 : List UInt8 := [180, 1, 140, 79, 42, 180, 0, 218, 5, 42, 180, 1, 234, 79, 42, 180, 0, 218, 6, 42, 180, 0, 153, 79]
abbrev dktX0_takesAll_4 : List UInt8 := dkwX0_takesAll_4 ++ dktX0_takesAll_5
def dkwX0_takesAll_3 : List UInt8 := [42, 42, 180, 0, 128, 181, 2, 158, 42, 180, 0, 218, 3, 42, 180, 1, 137, 79, 42, 180, 0, 218, 4, 42]
abbrev dktX0_takesAll_3 : List UInt8 := dkwX0_takesAll_3 ++ dktX0_takesAll_4
def dkwX0_takesAll_2 : List UInt8 := [42, 42, 180, 0, 113, 181, 2, 149, 42, 42, 180, 0, 117, 181, 2, 152, 42, 42, 180, 0, 122, 181, 2, 155]
abbrev dktX0_takesAll_2 : List UInt8 := dkwX0_takesAll_2 ++ dktX0_takesAll_3
def dkwX0_takesAll_1 : List UInt8 := [182, 2, 145, 192, 0, 210, 83, 132, 1, 1, 167, 255, 226, 42, 180, 0, 171, 42, 180, 0, 164, 182, 1, 201]
abbrev dktX0_takesAll_1 : List UInt8 := dkwX0_takesAll_1 ++ dktX0_takesAll_2
def dkwX0_takesAll_0 : List UInt8 := [3, 60, 27, 42, 180, 0, 211, 190, 162, 0, 27, 42, 180, 0, 215, 27, 42, 180, 0, 211, 27, 50]
abbrev dktX0_takesAll_0 : List UInt8 := dkwX0_takesAll_0 ++ dktX0_takesAll_1
theorem dksX0_takesAll_0 : cX0_takesAll.data.toList.drop 0 = dktX0_takesAll_0 := by decide +kernel
theorem dksX0_takesAll_1 : cX0_takesAll.data.toList.drop 22 = dktX0_takesAll_1 := dk_seg dksX0_takesAll_0 22 rfl rfl
theorem dksX0_takesAll_2 : cX0_takesAll.data.toList.drop 46 = dktX0_takesAll_2 := dk_seg dksX0_takesAll_1 24 rfl rfl
theorem dksX0_takesAll_3 : cX0_takesAll.data.toList.drop 70 = dktX0_takesAll_3 := dk_seg dksX0_takesAll_2 24 rfl rfl
theorem dksX0_takesAll_4 : cX0_takesAll.data.toList.drop 94 = dktX0_takesAll_4 := dk_seg dksX0_takesAll_3 24 rfl rfl
theorem dksX0_takesAll_5 : cX0_takesAll.data.toList.drop 118 = dktX0_takesAll_5 := dk_seg dksX0_takesAll_4 24 rfl rfl
theorem dX0_takesAll_0 : decode cX0_takesAll 0 = .ok (.iconst 0, 1) := dk_3 (dk_at dksX0_takesAll_0 0 rfl rfl)
theorem dX0_takesAll_1 : decode cX0_takesAll 1 = .ok (.istore_n 1, 1) := dk_60 (dk_at dksX0_takesAll_0 1 rfl rfl)
theorem dX0_takesAll_2 : decode cX0_takesAll 2 = .ok (.iload_n 1, 1) := dk_27 (dk_at dksX0_takesAll_0 2 rfl rfl)
theorem dX0_takesAll_3 : decode cX0_takesAll 3 = .ok (.aload_n 0, 1) := dk_42 (dk_at dksX0_takesAll_0 3 rfl rfl)
theorem dX0_takesAll_4 : decode cX0_takesAll 4 = .ok (.getfield 211, 3) := dk_180 0 211 (dk_at dksX0_takesAll_0 4 rfl rfl)
theorem dX0_takesAll_7 : decode cX0_takesAll 7 = .ok (.arraylength, 1) := dk_190 (dk_at dksX0_takesAll_0 7 rfl rfl)
theorem dX0_takesAll_8 : decode cX0_takesAll 8 = .ok (.if_icmp .ge 27, 3) := dk_162 0 27 (dk_at dksX0_takesAll_0 8 rfl rfl)
theorem dX0_takesAll_11 : decode cX0_takesAll 11 = .ok (.aload_n 0, 1) := dk_42 (dk_at dksX0_takesAll_0 11 rfl rfl)
theorem dX0_takesAll_12 : decode cX0_takesAll 12 = .ok (.getfield 215, 3) := dk_180 0 215 (dk_at dksX0_takesAll_0 12 rfl rfl)
theorem dX0_takesAll_15 : decode cX0_takesAll 15 = .ok (.iload_n 1, 1) := dk_27 (dk_at dksX0_takesAll_0 15 rfl rfl)
theorem dX0_takesAll_16 : decode cX0_takesAll 16 = .ok (.aload_n 0, 1) := dk_42 (dk_at dksX0_takesAll_0 16 rfl rfl)
theorem dX0_takesAll_17 : decode cX0_takesAll 17 = .ok (.getfield 211, 3) := dk_180 0 211 (dk_at dksX0_takesAll_0 17 rfl rfl)
theorem dX0_takesAll_20 : decode cX0_takesAll 20 = .ok (.iload_n 1, 1) := dk_27 (dk_at dksX0_takesAll_0 20 rfl rfl)
theorem dX0_takesAll_21 : decode cX0_takesAll 21 = .ok (.aaload, 1) := dk_50 (dk_at dksX0_takesAll_0 21 rfl rfl)
theorem dX0_takesAll_22 : decode cX0_takesAll 22 = .ok (.invokevirtual 657, 3) := dk_182 2 145 (dk_at dksX0_takesAll_1 0 rfl rfl)
theorem dX0_takesAll_25 : decode cX0_takesAll 25 = .ok (.checkcast 210, 3) := dk_192 0 210 (dk_at dksX0_takesAll_1 3 rfl rfl)
theorem dX0_takesAll_28 : decode cX0_takesAll 28 = .ok (.aastore, 1) := dk_83 (dk_at dksX0_takesAll_1 6 rfl rfl)
theorem dX0_takesAll_29 : decode cX0_takesAll 29 = .ok (.iinc 1 1, 3) := dk_132 1 1 (dk_at dksX0_takesAll_1 7 rfl rfl)
theorem dX0_takesAll_32 : decode cX0_takesAll 32 = .ok (.goto (-30), 3) := dk_167 255 226 (dk_at dksX0_takesAll_1 10 rfl rfl)
theorem dX0_takesAll_35 : decode cX0_takesAll 35 = .ok (.aload_n 0, 1) := dk_42 (dk_at dksX0_takesAll_1 13 rfl rfl)
theorem dX0_takesAll_36 : decode cX0_takesAll 36 = .ok (.getfield 171, 3) := dk_180 0 171 (dk_at dksX0_takesAll_1 14 rfl rfl)
theorem dX0_takesAll_39 : decode cX0_takesAll 39 = .ok (.aload_n 0, 1) := dk_42 (dk_at dksX0_takesAll_1 17 rfl rfl)
theorem dX0_takesAll_40 : decode cX0_takesAll 40 = .ok (.getfield 164, 3) := dk_180 0 164 (dk_at dksX0_takesAll_1 18 rfl rfl)
theorem dX0_takesAll_43 : decode cX0_takesAll 43 = .ok (.invokevirtual 457, 3) := dk_182 1 201 (dk_at dksX0_takesAll_1 21 rfl rfl)
theorem dX0_takesAll_46 : decode cX0_takesAll 46 = .ok (.aload_n 0, 1) := dk_42 (dk_at dksX0_takesAll_2 0 rfl rfl)
theorem dX0_takesAll_47 : decode cX0_takesAll 47 = .ok (.aload_n 0, 1) := dk_42 (dk_at dksX0_takesAll_2 1 rfl rfl)
theorem dX0_takesAll_48 : decode cX0_takesAll 48 = .ok (.getfield 113, 3) := dk_180 0 113 (dk_at dksX0_takesAll_2 2 rfl rfl)
theorem dX0_takesAll_51 : decode cX0_takesAll 51 = .ok (.putfield 661, 3) := dk_181 2 149 (dk_at dksX0_takesAll_2 5 rfl rfl)
theorem dX0_takesAll_54 : decode cX0_takesAll 54 = .ok (.aload_n 0, 1) := dk_42 (dk_at dksX0_takesAll_2 8 rfl rfl)
theorem dX0_takesAll_55 : decode cX0_takesAll 55 = .ok (.aload_n 0, 1) := dk_42 (dk_at dksX0_takesAll_2 9 rfl rfl)
theorem dX0_takesAll_56 : decode cX0_takesAll 56 = .ok (.getfield 117, 3) := dk_180 0 117 (dk_at dksX0_takesAll_2 10 rfl rfl)
theorem dX0_takesAll_59 : decode cX0_takesAll 59 = .ok (.putfield 664, 3) := dk_181 2 152 (dk_at dksX0_takesAll_2 13 rfl rfl)
theorem dX0_takesAll_62 : decode cX0_takesAll 62 = .ok (.aload_n 0, 1) := dk_42 (dk_at dksX0_takesAll_2 16 rfl rfl)
theorem dX0_takesAll_63 : decode cX0_takesAll 63 = .ok (.aload_n 0, 1) := dk_42 (dk_at dksX0_takesAll_2 17 rfl rfl)
theorem dX0_takesAll_64 : decode cX0_takesAll 64 = .ok (.getfield 122, 3) := dk_180 0 122 (dk_at dksX0_takesAll_2 18 rfl rfl)
theorem dX0_takesAll_67 : decode cX0_takesAll 67 = .ok (.putfield 667, 3) := dk_181 2 155 (dk_at dksX0_takesAll_2 21 rfl rfl)
theorem dX0_takesAll_70 : decode cX0_takesAll 70 = .ok (.aload_n 0, 1) := dk_42 (dk_at dksX0_takesAll_3 0 rfl rfl)
theorem dX0_takesAll_71 : decode cX0_takesAll 71 = .ok (.aload_n 0, 1) := dk_42 (dk_at dksX0_takesAll_3 1 rfl rfl)
theorem dX0_takesAll_72 : decode cX0_takesAll 72 = .ok (.getfield 128, 3) := dk_180 0 128 (dk_at dksX0_takesAll_3 2 rfl rfl)
theorem dX0_takesAll_75 : decode cX0_takesAll 75 = .ok (.putfield 670, 3) := dk_181 2 158 (dk_at dksX0_takesAll_3 5 rfl rfl)
theorem dX0_takesAll_78 : decode cX0_takesAll 78 = .ok (.aload_n 0, 1) := dk_42 (dk_at dksX0_takesAll_3 8 rfl rfl)
theorem dX0_takesAll_79 : decode cX0_takesAll 79 = .ok (.getfield 218, 3) := dk_180 0 218 (dk_at dksX0_takesAll_3 9 rfl rfl)
theorem dX0_takesAll_82 : decode cX0_takesAll 82 = .ok (.iconst 0, 1) := dk_3 (dk_at dksX0_takesAll_3 12 rfl rfl)
theorem dX0_takesAll_83 : decode cX0_takesAll 83 = .ok (.aload_n 0, 1) := dk_42 (dk_at dksX0_takesAll_3 13 rfl rfl)
theorem dX0_takesAll_84 : decode cX0_takesAll 84 = .ok (.getfield 393, 3) := dk_180 1 137 (dk_at dksX0_takesAll_3 14 rfl rfl)
theorem dX0_takesAll_87 : decode cX0_takesAll 87 = .ok (.iastore, 1) := dk_79 (dk_at dksX0_takesAll_3 17 rfl rfl)
theorem dX0_takesAll_88 : decode cX0_takesAll 88 = .ok (.aload_n 0, 1) := dk_42 (dk_at dksX0_takesAll_3 18 rfl rfl)
theorem dX0_takesAll_89 : decode cX0_takesAll 89 = .ok (.getfield 218, 3) := dk_180 0 218 (dk_at dksX0_takesAll_3 19 rfl rfl)
theorem dX0_takesAll_92 : decode cX0_takesAll 92 = .ok (.iconst 1, 1) := dk_4 (dk_at dksX0_takesAll_3 22 rfl rfl)
theorem dX0_takesAll_93 : decode cX0_takesAll 93 = .ok (.aload_n 0, 1) := dk_42 (dk_at dksX0_takesAll_3 23 rfl rfl)
theorem dX0_takesAll_94 : decode cX0_takesAll 94 = .ok (.getfield 396, 3) := dk_180 1 140 (dk_at dksX0_takesAll_4 0 rfl rfl)
theorem dX0_takesAll_97 : decode cX0_takesAll 97 = .ok (.iastore, 1) := dk_79 (dk_at dksX0_takesAll_4 3 rfl rfl)
theorem dX0_takesAll_98 : decode cX0_takesAll 98 = .ok (.aload_n 0, 1) := dk_42 (dk_at dksX0_takesAll_4 4 rfl rfl)
theorem dX0_takesAll_99 : decode cX0_takesAll 99 = .ok (.getfield 218, 3) := dk_180 0 218 (dk_at dksX0_takesAll_4 5 rfl rfl)
theorem dX0_takesAll_102 : decode cX0_takesAll 102 = .ok (.iconst 2, 1) := dk_5 (dk_at dksX0_takesAll_4 8 rfl rfl)
theorem dX0_takesAll_103 : decode cX0_takesAll 103 = .ok (.aload_n 0, 1) := dk_42 (dk_at dksX0_takesAll_4 9 rfl rfl)
theorem dX0_takesAll_104 : decode cX0_takesAll 104 = .ok (.getfield 490, 3) := dk_180 1 234 (dk_at dksX0_takesAll_4 10 rfl rfl)
theorem dX0_takesAll_107 : decode cX0_takesAll 107 = .ok (.iastore, 1) := dk_79 (dk_at dksX0_takesAll_4 13 rfl rfl)
theorem dX0_takesAll_108 : decode cX0_takesAll 108 = .ok (.aload_n 0, 1) := dk_42 (dk_at dksX0_takesAll_4 14 rfl rfl)
theorem dX0_takesAll_109 : decode cX0_takesAll 109 = .ok (.getfield 218, 3) := dk_180 0 218 (dk_at dksX0_takesAll_4 15 rfl rfl)
theorem dX0_takesAll_112 : decode cX0_takesAll 112 = .ok (.iconst 3, 1) := dk_6 (dk_at dksX0_takesAll_4 18 rfl rfl)
theorem dX0_takesAll_113 : decode cX0_takesAll 113 = .ok (.aload_n 0, 1) := dk_42 (dk_at dksX0_takesAll_4 19 rfl rfl)
theorem dX0_takesAll_114 : decode cX0_takesAll 114 = .ok (.getfield 153, 3) := dk_180 0 153 (dk_at dksX0_takesAll_4 20 rfl rfl)
theorem dX0_takesAll_117 : decode cX0_takesAll 117 = .ok (.iastore, 1) := dk_79 (dk_at dksX0_takesAll_4 23 rfl rfl)
theorem dX0_takesAll_118 : decode cX0_takesAll 118 = .ok (.aload_n 0, 1) := dk_42 (dk_at dksX0_takesAll_5 0 rfl rfl)
theorem dX0_takesAll_119 : decode cX0_takesAll 119 = .ok (.getfield 218, 3) := dk_180 0 218 (dk_at dksX0_takesAll_5 1 rfl rfl)
theorem dX0_takesAll_122 : decode cX0_takesAll 122 = .ok (.iconst 4, 1) := dk_7 (dk_at dksX0_takesAll_5 4 rfl rfl)
theorem dX0_takesAll_123 : decode cX0_takesAll 123 = .ok (.aload_n 0, 1) := dk_42 (dk_at dksX0_takesAll_5 5 rfl rfl)
theorem dX0_takesAll_124 : decode cX0_takesAll 124 = .ok (.getfield 402, 3) := dk_180 1 146 (dk_at dksX0_takesAll_5 6 rfl rfl)
theorem dX0_takesAll_127 : decode cX0_takesAll 127 = .ok (.iastore, 1) := dk_79 (dk_at dksX0_takesAll_5 9 rfl rfl)
theorem dX0_takesAll_128 : decode cX0_takesAll 128 = .ok (.return_, 1) := dk_177 (dk_at dksX0_takesAll_5 10 rfl rfl)
abbrev cX0_goesBack : ByteArray := prog_1_method_99_code
def yX0_goesBack : MethodName := ⟨RX0, "goesBack", "()V"⟩
def dkwX0_goesBack_5 : List UInt8 := [42, 180, 0, 218, 7, 46, 181, 1, 146, 42, 3, 181, 1, 152, 177]
abbrev dktX0_goesBack_5 : List UInt8 := dkwX0_goesBack_5 ++ []
def dkwX0_goesBack_4 : List UInt8 := [181, 1, 140, 42, 42, 180, 0, 218, 5, 46, 181, 1, 234, 42, 42, 180, 0, 218, 6, 46, 181, 0, 153, 42]
abbrev dktX0_goesBack_4 : List UInt8 := dkwX0_goesBack_4 ++ dktX0_goesBack_5
def dkwX0_goesBack_3 : List UInt8 := [180, 2, 158, 181, 0, 128, 42, 42, 180, 0, 218, 3, 46, 181, 1, 137, 42, 42, 180, 0, 218, 4, 46]
abbrev dktX0_goesBack_3 : List UInt8 := dkwX0_goesBack_3 ++ dktX0_goesBack_4
def dkwX0_goesBack_2 : List UInt8 := [180, 2, 149, 181, 0, 113, 42, 42, 180, 2, 152, 181, 0, 117, 42, 42, 180, 2, 155, 181, 0, 122, 42, 42]
abbrev dktX0_goesBack_2 : List UInt8 := dkwX0_goesBack_2 ++ dktX0_goesBack_3
def dkwX0_goesBack_1 : List UInt8 := [184, 2, 161, 132, 1, 1, 167, 255, 229, 42, 180, 0, 164, 42, 180, 0, 171, 182, 1, 201, 42, 42]
abbrev dktX0_goesBack_1 : List UInt8 := dkwX0_goesBack_1 ++ dktX0_goesBack_2
def dkwX0_goesBack_0 : List UInt8 := [3, 60, 27, 42, 180, 0, 211, 190, 162, 0, 24, 42, 180, 0, 215, 27, 50, 42, 180, 0, 211, 27, 50]
abbrev dktX0_goesBack_0 : List UInt8 := dkwX0_goesBack_0 ++ dktX0_goesBack_1
theorem dksX0_goesBack_0 : cX0_goesBack.data.toList.drop 0 = dktX0_goesBack_0 := by decide +kernel
theorem dksX0_goesBack_1 : cX0_goesBack.data.toList.drop 23 = dktX0_goesBack_1 := dk_seg dksX0_goesBack_0 23 rfl rfl
theorem dksX0_goesBack_2 : cX0_goesBack.data.toList.drop 45 = dktX0_goesBack_2 := dk_seg dksX0_goesBack_1 22 rfl rfl
theorem dksX0_goesBack_3 : cX0_goesBack.data.toList.drop 69 = dktX0_goesBack_3 := dk_seg dksX0_goesBack_2 24 rfl rfl
theorem dksX0_goesBack_4 : cX0_goesBack.data.toList.drop 92 = dktX0_goesBack_4 := dk_seg dksX0_goesBack_3 23 rfl rfl
theorem dksX0_goesBack_5 : cX0_goesBack.data.toList.drop 116 = dktX0_goesBack_5 := dk_seg dksX0_goesBack_4 24 rfl rfl
theorem dX0_goesBack_0 : decode cX0_goesBack 0 = .ok (.iconst 0, 1) := dk_3 (dk_at dksX0_goesBack_0 0 rfl rfl)
theorem dX0_goesBack_1 : decode cX0_goesBack 1 = .ok (.istore_n 1, 1) := dk_60 (dk_at dksX0_goesBack_0 1 rfl rfl)
theorem dX0_goesBack_2 : decode cX0_goesBack 2 = .ok (.iload_n 1, 1) := dk_27 (dk_at dksX0_goesBack_0 2 rfl rfl)
theorem dX0_goesBack_3 : decode cX0_goesBack 3 = .ok (.aload_n 0, 1) := dk_42 (dk_at dksX0_goesBack_0 3 rfl rfl)
theorem dX0_goesBack_4 : decode cX0_goesBack 4 = .ok (.getfield 211, 3) := dk_180 0 211 (dk_at dksX0_goesBack_0 4 rfl rfl)
theorem dX0_goesBack_7 : decode cX0_goesBack 7 = .ok (.arraylength, 1) := dk_190 (dk_at dksX0_goesBack_0 7 rfl rfl)
theorem dX0_goesBack_8 : decode cX0_goesBack 8 = .ok (.if_icmp .ge 24, 3) := dk_162 0 24 (dk_at dksX0_goesBack_0 8 rfl rfl)
theorem dX0_goesBack_11 : decode cX0_goesBack 11 = .ok (.aload_n 0, 1) := dk_42 (dk_at dksX0_goesBack_0 11 rfl rfl)
theorem dX0_goesBack_12 : decode cX0_goesBack 12 = .ok (.getfield 215, 3) := dk_180 0 215 (dk_at dksX0_goesBack_0 12 rfl rfl)
theorem dX0_goesBack_15 : decode cX0_goesBack 15 = .ok (.iload_n 1, 1) := dk_27 (dk_at dksX0_goesBack_0 15 rfl rfl)
theorem dX0_goesBack_16 : decode cX0_goesBack 16 = .ok (.aaload, 1) := dk_50 (dk_at dksX0_goesBack_0 16 rfl rfl)
theorem dX0_goesBack_17 : decode cX0_goesBack 17 = .ok (.aload_n 0, 1) := dk_42 (dk_at dksX0_goesBack_0 17 rfl rfl)
theorem dX0_goesBack_18 : decode cX0_goesBack 18 = .ok (.getfield 211, 3) := dk_180 0 211 (dk_at dksX0_goesBack_0 18 rfl rfl)
theorem dX0_goesBack_21 : decode cX0_goesBack 21 = .ok (.iload_n 1, 1) := dk_27 (dk_at dksX0_goesBack_0 21 rfl rfl)
theorem dX0_goesBack_22 : decode cX0_goesBack 22 = .ok (.aaload, 1) := dk_50 (dk_at dksX0_goesBack_0 22 rfl rfl)
theorem dX0_goesBack_23 : decode cX0_goesBack 23 = .ok (.invokestatic 673, 3) := dk_184 2 161 (dk_at dksX0_goesBack_1 0 rfl rfl)
theorem dX0_goesBack_26 : decode cX0_goesBack 26 = .ok (.iinc 1 1, 3) := dk_132 1 1 (dk_at dksX0_goesBack_1 3 rfl rfl)
theorem dX0_goesBack_29 : decode cX0_goesBack 29 = .ok (.goto (-27), 3) := dk_167 255 229 (dk_at dksX0_goesBack_1 6 rfl rfl)
theorem dX0_goesBack_32 : decode cX0_goesBack 32 = .ok (.aload_n 0, 1) := dk_42 (dk_at dksX0_goesBack_1 9 rfl rfl)
theorem dX0_goesBack_33 : decode cX0_goesBack 33 = .ok (.getfield 164, 3) := dk_180 0 164 (dk_at dksX0_goesBack_1 10 rfl rfl)
theorem dX0_goesBack_36 : decode cX0_goesBack 36 = .ok (.aload_n 0, 1) := dk_42 (dk_at dksX0_goesBack_1 13 rfl rfl)
theorem dX0_goesBack_37 : decode cX0_goesBack 37 = .ok (.getfield 171, 3) := dk_180 0 171 (dk_at dksX0_goesBack_1 14 rfl rfl)
theorem dX0_goesBack_40 : decode cX0_goesBack 40 = .ok (.invokevirtual 457, 3) := dk_182 1 201 (dk_at dksX0_goesBack_1 17 rfl rfl)
theorem dX0_goesBack_43 : decode cX0_goesBack 43 = .ok (.aload_n 0, 1) := dk_42 (dk_at dksX0_goesBack_1 20 rfl rfl)
theorem dX0_goesBack_44 : decode cX0_goesBack 44 = .ok (.aload_n 0, 1) := dk_42 (dk_at dksX0_goesBack_1 21 rfl rfl)
theorem dX0_goesBack_45 : decode cX0_goesBack 45 = .ok (.getfield 661, 3) := dk_180 2 149 (dk_at dksX0_goesBack_2 0 rfl rfl)
theorem dX0_goesBack_48 : decode cX0_goesBack 48 = .ok (.putfield 113, 3) := dk_181 0 113 (dk_at dksX0_goesBack_2 3 rfl rfl)
theorem dX0_goesBack_51 : decode cX0_goesBack 51 = .ok (.aload_n 0, 1) := dk_42 (dk_at dksX0_goesBack_2 6 rfl rfl)
theorem dX0_goesBack_52 : decode cX0_goesBack 52 = .ok (.aload_n 0, 1) := dk_42 (dk_at dksX0_goesBack_2 7 rfl rfl)
theorem dX0_goesBack_53 : decode cX0_goesBack 53 = .ok (.getfield 664, 3) := dk_180 2 152 (dk_at dksX0_goesBack_2 8 rfl rfl)
theorem dX0_goesBack_56 : decode cX0_goesBack 56 = .ok (.putfield 117, 3) := dk_181 0 117 (dk_at dksX0_goesBack_2 11 rfl rfl)
theorem dX0_goesBack_59 : decode cX0_goesBack 59 = .ok (.aload_n 0, 1) := dk_42 (dk_at dksX0_goesBack_2 14 rfl rfl)
theorem dX0_goesBack_60 : decode cX0_goesBack 60 = .ok (.aload_n 0, 1) := dk_42 (dk_at dksX0_goesBack_2 15 rfl rfl)
theorem dX0_goesBack_61 : decode cX0_goesBack 61 = .ok (.getfield 667, 3) := dk_180 2 155 (dk_at dksX0_goesBack_2 16 rfl rfl)
theorem dX0_goesBack_64 : decode cX0_goesBack 64 = .ok (.putfield 122, 3) := dk_181 0 122 (dk_at dksX0_goesBack_2 19 rfl rfl)
theorem dX0_goesBack_67 : decode cX0_goesBack 67 = .ok (.aload_n 0, 1) := dk_42 (dk_at dksX0_goesBack_2 22 rfl rfl)
theorem dX0_goesBack_68 : decode cX0_goesBack 68 = .ok (.aload_n 0, 1) := dk_42 (dk_at dksX0_goesBack_2 23 rfl rfl)
theorem dX0_goesBack_69 : decode cX0_goesBack 69 = .ok (.getfield 670, 3) := dk_180 2 158 (dk_at dksX0_goesBack_3 0 rfl rfl)
theorem dX0_goesBack_72 : decode cX0_goesBack 72 = .ok (.putfield 128, 3) := dk_181 0 128 (dk_at dksX0_goesBack_3 3 rfl rfl)
theorem dX0_goesBack_75 : decode cX0_goesBack 75 = .ok (.aload_n 0, 1) := dk_42 (dk_at dksX0_goesBack_3 6 rfl rfl)
theorem dX0_goesBack_76 : decode cX0_goesBack 76 = .ok (.aload_n 0, 1) := dk_42 (dk_at dksX0_goesBack_3 7 rfl rfl)
theorem dX0_goesBack_77 : decode cX0_goesBack 77 = .ok (.getfield 218, 3) := dk_180 0 218 (dk_at dksX0_goesBack_3 8 rfl rfl)
theorem dX0_goesBack_80 : decode cX0_goesBack 80 = .ok (.iconst 0, 1) := dk_3 (dk_at dksX0_goesBack_3 11 rfl rfl)
theorem dX0_goesBack_81 : decode cX0_goesBack 81 = .ok (.iaload, 1) := dk_46 (dk_at dksX0_goesBack_3 12 rfl rfl)
theorem dX0_goesBack_82 : decode cX0_goesBack 82 = .ok (.putfield 393, 3) := dk_181 1 137 (dk_at dksX0_goesBack_3 13 rfl rfl)
theorem dX0_goesBack_85 : decode cX0_goesBack 85 = .ok (.aload_n 0, 1) := dk_42 (dk_at dksX0_goesBack_3 16 rfl rfl)
theorem dX0_goesBack_86 : decode cX0_goesBack 86 = .ok (.aload_n 0, 1) := dk_42 (dk_at dksX0_goesBack_3 17 rfl rfl)
theorem dX0_goesBack_87 : decode cX0_goesBack 87 = .ok (.getfield 218, 3) := dk_180 0 218 (dk_at dksX0_goesBack_3 18 rfl rfl)
theorem dX0_goesBack_90 : decode cX0_goesBack 90 = .ok (.iconst 1, 1) := dk_4 (dk_at dksX0_goesBack_3 21 rfl rfl)
theorem dX0_goesBack_91 : decode cX0_goesBack 91 = .ok (.iaload, 1) := dk_46 (dk_at dksX0_goesBack_3 22 rfl rfl)
theorem dX0_goesBack_92 : decode cX0_goesBack 92 = .ok (.putfield 396, 3) := dk_181 1 140 (dk_at dksX0_goesBack_4 0 rfl rfl)
theorem dX0_goesBack_95 : decode cX0_goesBack 95 = .ok (.aload_n 0, 1) := dk_42 (dk_at dksX0_goesBack_4 3 rfl rfl)
theorem dX0_goesBack_96 : decode cX0_goesBack 96 = .ok (.aload_n 0, 1) := dk_42 (dk_at dksX0_goesBack_4 4 rfl rfl)
theorem dX0_goesBack_97 : decode cX0_goesBack 97 = .ok (.getfield 218, 3) := dk_180 0 218 (dk_at dksX0_goesBack_4 5 rfl rfl)
theorem dX0_goesBack_100 : decode cX0_goesBack 100 = .ok (.iconst 2, 1) := dk_5 (dk_at dksX0_goesBack_4 8 rfl rfl)
theorem dX0_goesBack_101 : decode cX0_goesBack 101 = .ok (.iaload, 1) := dk_46 (dk_at dksX0_goesBack_4 9 rfl rfl)
theorem dX0_goesBack_102 : decode cX0_goesBack 102 = .ok (.putfield 490, 3) := dk_181 1 234 (dk_at dksX0_goesBack_4 10 rfl rfl)
theorem dX0_goesBack_105 : decode cX0_goesBack 105 = .ok (.aload_n 0, 1) := dk_42 (dk_at dksX0_goesBack_4 13 rfl rfl)
theorem dX0_goesBack_106 : decode cX0_goesBack 106 = .ok (.aload_n 0, 1) := dk_42 (dk_at dksX0_goesBack_4 14 rfl rfl)
theorem dX0_goesBack_107 : decode cX0_goesBack 107 = .ok (.getfield 218, 3) := dk_180 0 218 (dk_at dksX0_goesBack_4 15 rfl rfl)
theorem dX0_goesBack_110 : decode cX0_goesBack 110 = .ok (.iconst 3, 1) := dk_6 (dk_at dksX0_goesBack_4 18 rfl rfl)
theorem dX0_goesBack_111 : decode cX0_goesBack 111 = .ok (.iaload, 1) := dk_46 (dk_at dksX0_goesBack_4 19 rfl rfl)
theorem dX0_goesBack_112 : decode cX0_goesBack 112 = .ok (.putfield 153, 3) := dk_181 0 153 (dk_at dksX0_goesBack_4 20 rfl rfl)
theorem dX0_goesBack_115 : decode cX0_goesBack 115 = .ok (.aload_n 0, 1) := dk_42 (dk_at dksX0_goesBack_4 23 rfl rfl)
theorem dX0_goesBack_116 : decode cX0_goesBack 116 = .ok (.aload_n 0, 1) := dk_42 (dk_at dksX0_goesBack_5 0 rfl rfl)
theorem dX0_goesBack_117 : decode cX0_goesBack 117 = .ok (.getfield 218, 3) := dk_180 0 218 (dk_at dksX0_goesBack_5 1 rfl rfl)
theorem dX0_goesBack_120 : decode cX0_goesBack 120 = .ok (.iconst 4, 1) := dk_7 (dk_at dksX0_goesBack_5 4 rfl rfl)
theorem dX0_goesBack_121 : decode cX0_goesBack 121 = .ok (.iaload, 1) := dk_46 (dk_at dksX0_goesBack_5 5 rfl rfl)
theorem dX0_goesBack_122 : decode cX0_goesBack 122 = .ok (.putfield 402, 3) := dk_181 1 146 (dk_at dksX0_goesBack_5 6 rfl rfl)
theorem dX0_goesBack_125 : decode cX0_goesBack 125 = .ok (.aload_n 0, 1) := dk_42 (dk_at dksX0_goesBack_5 9 rfl rfl)
theorem dX0_goesBack_126 : decode cX0_goesBack 126 = .ok (.iconst 0, 1) := dk_3 (dk_at dksX0_goesBack_5 10 rfl rfl)
theorem dX0_goesBack_127 : decode cX0_goesBack 127 = .ok (.putfield 408, 3) := dk_181 1 152 (dk_at dksX0_goesBack_5 11 rfl rfl)
theorem dX0_goesBack_130 : decode cX0_goesBack 130 = .ok (.return_, 1) := dk_177 (dk_at dksX0_goesBack_5 14 rfl rfl)
abbrev cX0_look : ByteArray := prog_1_method_101_code
def yX0_look : MethodName := ⟨RX0, "look", "(I)I"⟩
def dkwX0_look_6 : List UInt8 := [180, 1, 152, 172, 42, 180, 1, 146, 172, 42, 180, 1, 234, 172, 42, 180, 0, 153, 172, 2, 172]
abbrev dktX0_look_6 : List UInt8 := dkwX0_look_6 ++ []
def dkwX0_look_5 : List UInt8 := [42, 180, 0, 113, 180, 1, 112, 172, 42, 180, 0, 117, 180, 1, 112, 172, 42, 180, 0, 128, 190, 172, 42]
abbrev dktX0_look_5 : List UInt8 := dkwX0_look_5 ++ dktX0_look_6
def dkwX0_look_4 : List UInt8 := [42, 180, 0, 164, 180, 1, 244, 172, 42, 180, 0, 164, 180, 1, 189, 172, 42, 180, 0, 164, 180, 1, 205, 172]
abbrev dktX0_look_4 : List UInt8 := dkwX0_look_4 ++ dktX0_look_5
def dkwX0_look_3 : List UInt8 := [42, 180, 1, 137, 172, 42, 180, 1, 140, 172, 42, 180, 0, 122, 190, 172, 42, 180, 0, 164, 180, 1, 192, 172]
abbrev dktX0_look_3 : List UInt8 := dkwX0_look_3 ++ dktX0_look_4
def dkwX0_look_2 : List UInt8 := [170, 0, 0, 0, 0, 0, 161, 0, 0, 0, 0, 0, 0, 0, 13, 0, 0, 0, 71, 0, 0, 0, 76, 0, 0, 0, 81, 0, 0, 0, 87, 0, 0, 0, 95, 0, 0, 0, 103, 0, 0, 0, 111, 0, 0, 0, 119, 0, 0, 0, 127, 0, 0, 0, 135, 0, 0, 0, 141, 0, 0, 0, 146, 0, 0, 0, 151, 0, 0, 0, 156]
abbrev dktX0_look_2 : List UInt8 := dkwX0_look_2 ++ dktX0_look_3
def dkwX0_look_1 : List UInt8 := [27]
abbrev dktX0_look_1 : List UInt8 := dkwX0_look_1 ++ dktX0_look_2
def dkwX0_look_0 : List UInt8 := [27, 16, 20, 16, 23, 184, 0, 237, 153, 0, 16, 42, 180, 0, 164, 180, 0, 221, 27, 16, 20, 100, 46, 172]
abbrev dktX0_look_0 : List UInt8 := dkwX0_look_0 ++ dktX0_look_1
theorem dksX0_look_0 : cX0_look.data.toList.drop 0 = dktX0_look_0 := by decide +kernel
theorem dksX0_look_1 : cX0_look.data.toList.drop 24 = dktX0_look_1 := dk_seg dksX0_look_0 24 rfl rfl
theorem dksX0_look_2 : cX0_look.data.toList.drop 25 = dktX0_look_2 := dk_seg dksX0_look_1 1 rfl rfl
theorem dksX0_look_3 : cX0_look.data.toList.drop 96 = dktX0_look_3 := dk_seg dksX0_look_2 71 rfl rfl
theorem dksX0_look_4 : cX0_look.data.toList.drop 120 = dktX0_look_4 := dk_seg dksX0_look_3 24 rfl rfl
theorem dksX0_look_5 : cX0_look.data.toList.drop 144 = dktX0_look_5 := dk_seg dksX0_look_4 24 rfl rfl
theorem dksX0_look_6 : cX0_look.data.toList.drop 167 = dktX0_look_6 := dk_seg dksX0_look_5 23 rfl rfl
theorem dX0_look_0 : decode cX0_look 0 = .ok (.iload_n 1, 1) := dk_27 (dk_at dksX0_look_0 0 rfl rfl)
theorem dX0_look_1 : decode cX0_look 1 = .ok (.bipush 20, 2) := dk_16 20 (dk_at dksX0_look_0 1 rfl rfl)
theorem dX0_look_3 : decode cX0_look 3 = .ok (.bipush 23, 2) := dk_16 23 (dk_at dksX0_look_0 3 rfl rfl)
theorem dX0_look_5 : decode cX0_look 5 = .ok (.invokestatic 237, 3) := dk_184 0 237 (dk_at dksX0_look_0 5 rfl rfl)
theorem dX0_look_8 : decode cX0_look 8 = .ok (.ifCond .eq 16, 3) := dk_153 0 16 (dk_at dksX0_look_0 8 rfl rfl)
theorem dX0_look_11 : decode cX0_look 11 = .ok (.aload_n 0, 1) := dk_42 (dk_at dksX0_look_0 11 rfl rfl)
theorem dX0_look_12 : decode cX0_look 12 = .ok (.getfield 164, 3) := dk_180 0 164 (dk_at dksX0_look_0 12 rfl rfl)
theorem dX0_look_15 : decode cX0_look 15 = .ok (.getfield 221, 3) := dk_180 0 221 (dk_at dksX0_look_0 15 rfl rfl)
theorem dX0_look_18 : decode cX0_look 18 = .ok (.iload_n 1, 1) := dk_27 (dk_at dksX0_look_0 18 rfl rfl)
theorem dX0_look_19 : decode cX0_look 19 = .ok (.bipush 20, 2) := dk_16 20 (dk_at dksX0_look_0 19 rfl rfl)
theorem dX0_look_21 : decode cX0_look 21 = .ok (.isub, 1) := dk_100 (dk_at dksX0_look_0 21 rfl rfl)
theorem dX0_look_22 : decode cX0_look 22 = .ok (.iaload, 1) := dk_46 (dk_at dksX0_look_0 22 rfl rfl)
theorem dX0_look_23 : decode cX0_look 23 = .ok (.ireturn, 1) := dk_172 (dk_at dksX0_look_0 23 rfl rfl)
theorem dX0_look_24 : decode cX0_look 24 = .ok (.iload_n 1, 1) := dk_27 (dk_at dksX0_look_1 0 rfl rfl)
theorem dX0_look_25 : decode cX0_look 25 = .ok (.tableswitch 161 0 13 #[71, 76, 81, 87, 95, 103, 111, 119, 127, 135, 141, 146, 151, 156], 71) := by decide +kernel
theorem dX0_look_96 : decode cX0_look 96 = .ok (.aload_n 0, 1) := dk_42 (dk_at dksX0_look_3 0 rfl rfl)
theorem dX0_look_97 : decode cX0_look 97 = .ok (.getfield 393, 3) := dk_180 1 137 (dk_at dksX0_look_3 1 rfl rfl)
theorem dX0_look_100 : decode cX0_look 100 = .ok (.ireturn, 1) := dk_172 (dk_at dksX0_look_3 4 rfl rfl)
theorem dX0_look_101 : decode cX0_look 101 = .ok (.aload_n 0, 1) := dk_42 (dk_at dksX0_look_3 5 rfl rfl)
theorem dX0_look_102 : decode cX0_look 102 = .ok (.getfield 396, 3) := dk_180 1 140 (dk_at dksX0_look_3 6 rfl rfl)
theorem dX0_look_105 : decode cX0_look 105 = .ok (.ireturn, 1) := dk_172 (dk_at dksX0_look_3 9 rfl rfl)
theorem dX0_look_106 : decode cX0_look 106 = .ok (.aload_n 0, 1) := dk_42 (dk_at dksX0_look_3 10 rfl rfl)
theorem dX0_look_107 : decode cX0_look 107 = .ok (.getfield 122, 3) := dk_180 0 122 (dk_at dksX0_look_3 11 rfl rfl)
theorem dX0_look_110 : decode cX0_look 110 = .ok (.arraylength, 1) := dk_190 (dk_at dksX0_look_3 14 rfl rfl)
theorem dX0_look_111 : decode cX0_look 111 = .ok (.ireturn, 1) := dk_172 (dk_at dksX0_look_3 15 rfl rfl)
theorem dX0_look_112 : decode cX0_look 112 = .ok (.aload_n 0, 1) := dk_42 (dk_at dksX0_look_3 16 rfl rfl)
theorem dX0_look_113 : decode cX0_look 113 = .ok (.getfield 164, 3) := dk_180 0 164 (dk_at dksX0_look_3 17 rfl rfl)
theorem dX0_look_116 : decode cX0_look 116 = .ok (.getfield 448, 3) := dk_180 1 192 (dk_at dksX0_look_3 20 rfl rfl)
theorem dX0_look_119 : decode cX0_look 119 = .ok (.ireturn, 1) := dk_172 (dk_at dksX0_look_3 23 rfl rfl)
theorem dX0_look_120 : decode cX0_look 120 = .ok (.aload_n 0, 1) := dk_42 (dk_at dksX0_look_4 0 rfl rfl)
theorem dX0_look_121 : decode cX0_look 121 = .ok (.getfield 164, 3) := dk_180 0 164 (dk_at dksX0_look_4 1 rfl rfl)
theorem dX0_look_124 : decode cX0_look 124 = .ok (.getfield 500, 3) := dk_180 1 244 (dk_at dksX0_look_4 4 rfl rfl)
theorem dX0_look_127 : decode cX0_look 127 = .ok (.ireturn, 1) := dk_172 (dk_at dksX0_look_4 7 rfl rfl)
theorem dX0_look_128 : decode cX0_look 128 = .ok (.aload_n 0, 1) := dk_42 (dk_at dksX0_look_4 8 rfl rfl)
theorem dX0_look_129 : decode cX0_look 129 = .ok (.getfield 164, 3) := dk_180 0 164 (dk_at dksX0_look_4 9 rfl rfl)
theorem dX0_look_132 : decode cX0_look 132 = .ok (.getfield 445, 3) := dk_180 1 189 (dk_at dksX0_look_4 12 rfl rfl)
theorem dX0_look_135 : decode cX0_look 135 = .ok (.ireturn, 1) := dk_172 (dk_at dksX0_look_4 15 rfl rfl)
theorem dX0_look_136 : decode cX0_look 136 = .ok (.aload_n 0, 1) := dk_42 (dk_at dksX0_look_4 16 rfl rfl)
theorem dX0_look_137 : decode cX0_look 137 = .ok (.getfield 164, 3) := dk_180 0 164 (dk_at dksX0_look_4 17 rfl rfl)
theorem dX0_look_140 : decode cX0_look 140 = .ok (.getfield 461, 3) := dk_180 1 205 (dk_at dksX0_look_4 20 rfl rfl)
theorem dX0_look_143 : decode cX0_look 143 = .ok (.ireturn, 1) := dk_172 (dk_at dksX0_look_4 23 rfl rfl)
theorem dX0_look_144 : decode cX0_look 144 = .ok (.aload_n 0, 1) := dk_42 (dk_at dksX0_look_5 0 rfl rfl)
theorem dX0_look_145 : decode cX0_look 145 = .ok (.getfield 113, 3) := dk_180 0 113 (dk_at dksX0_look_5 1 rfl rfl)
theorem dX0_look_148 : decode cX0_look 148 = .ok (.getfield 368, 3) := dk_180 1 112 (dk_at dksX0_look_5 4 rfl rfl)
theorem dX0_look_151 : decode cX0_look 151 = .ok (.ireturn, 1) := dk_172 (dk_at dksX0_look_5 7 rfl rfl)
theorem dX0_look_152 : decode cX0_look 152 = .ok (.aload_n 0, 1) := dk_42 (dk_at dksX0_look_5 8 rfl rfl)
theorem dX0_look_153 : decode cX0_look 153 = .ok (.getfield 117, 3) := dk_180 0 117 (dk_at dksX0_look_5 9 rfl rfl)
theorem dX0_look_156 : decode cX0_look 156 = .ok (.getfield 368, 3) := dk_180 1 112 (dk_at dksX0_look_5 12 rfl rfl)
theorem dX0_look_159 : decode cX0_look 159 = .ok (.ireturn, 1) := dk_172 (dk_at dksX0_look_5 15 rfl rfl)
theorem dX0_look_160 : decode cX0_look 160 = .ok (.aload_n 0, 1) := dk_42 (dk_at dksX0_look_5 16 rfl rfl)
theorem dX0_look_161 : decode cX0_look 161 = .ok (.getfield 128, 3) := dk_180 0 128 (dk_at dksX0_look_5 17 rfl rfl)
theorem dX0_look_164 : decode cX0_look 164 = .ok (.arraylength, 1) := dk_190 (dk_at dksX0_look_5 20 rfl rfl)
theorem dX0_look_165 : decode cX0_look 165 = .ok (.ireturn, 1) := dk_172 (dk_at dksX0_look_5 21 rfl rfl)
theorem dX0_look_166 : decode cX0_look 166 = .ok (.aload_n 0, 1) := dk_42 (dk_at dksX0_look_5 22 rfl rfl)
theorem dX0_look_167 : decode cX0_look 167 = .ok (.getfield 408, 3) := dk_180 1 152 (dk_at dksX0_look_6 0 rfl rfl)
theorem dX0_look_170 : decode cX0_look 170 = .ok (.ireturn, 1) := dk_172 (dk_at dksX0_look_6 3 rfl rfl)
theorem dX0_look_171 : decode cX0_look 171 = .ok (.aload_n 0, 1) := dk_42 (dk_at dksX0_look_6 4 rfl rfl)
theorem dX0_look_172 : decode cX0_look 172 = .ok (.getfield 402, 3) := dk_180 1 146 (dk_at dksX0_look_6 5 rfl rfl)
theorem dX0_look_175 : decode cX0_look 175 = .ok (.ireturn, 1) := dk_172 (dk_at dksX0_look_6 8 rfl rfl)
theorem dX0_look_176 : decode cX0_look 176 = .ok (.aload_n 0, 1) := dk_42 (dk_at dksX0_look_6 9 rfl rfl)
theorem dX0_look_177 : decode cX0_look 177 = .ok (.getfield 490, 3) := dk_180 1 234 (dk_at dksX0_look_6 10 rfl rfl)
theorem dX0_look_180 : decode cX0_look 180 = .ok (.ireturn, 1) := dk_172 (dk_at dksX0_look_6 13 rfl rfl)
theorem dX0_look_181 : decode cX0_look 181 = .ok (.aload_n 0, 1) := dk_42 (dk_at dksX0_look_6 14 rfl rfl)
theorem dX0_look_182 : decode cX0_look 182 = .ok (.getfield 153, 3) := dk_180 0 153 (dk_at dksX0_look_6 15 rfl rfl)
theorem dX0_look_185 : decode cX0_look 185 = .ok (.ireturn, 1) := dk_172 (dk_at dksX0_look_6 18 rfl rfl)
theorem dX0_look_186 : decode cX0_look 186 = .ok (.iconst (-1), 1) := dk_2 (dk_at dksX0_look_6 19 rfl rfl)
theorem dX0_look_187 : decode cX0_look 187 = .ok (.ireturn, 1) := dk_172 (dk_at dksX0_look_6 20 rfl rfl)
theorem q154 : (Jvm.Cond.initialized "ToolUnion") ∈ lw_all := lw_g (lw_at lw_m1 1 rfl) rfl
theorem q181 : (Jvm.Cond.instantiable "ToolUnion" (58 : Nat)) ∈ lw_all := lw_g (lw_at lw_m1 28 rfl) rfl
theorem q183 : (Jvm.Cond.instanceMethod ({ cls := "ToolUnion", name := "<init>", desc := "()V" } : Jvm.MethodName)) ∈ lw_all := lw_g (lw_at lw_m1 30 rfl) rfl
theorem q184 : (Jvm.Cond.code ({ cls := "ToolUnion", name := "<init>", desc := "()V" } : Jvm.MethodName) prog_1_method_5_code (1 : Nat) (Option.none : Option Jvm.ClassFile.FieldType)) ∈ lw_all := lw_g (lw_at lw_m1 31 rfl) rfl
theorem q185 : (Jvm.Cond.methodLink "ToolUnion" (16 : Nat) ({ cls := "java/lang/Object", name := "<init>", desc := "()V" } : Jvm.MethodName)) ∈ lw_all := lw_g (lw_at lw_m1 32 rfl) rfl
theorem q188 : (Jvm.Cond.classLink "ToolUnion" (28 : Nat) "[Ljava/lang/String;") ∈ lw_all := lw_g (lw_at lw_m1 35 rfl) rfl
theorem q191 : (Jvm.Cond.classLink "ToolUnion" (30 : Nat) "java/lang/String") ∈ lw_all := lw_g (lw_at lw_m1 38 rfl) rfl
theorem q192 : (Jvm.Cond.stringRef "ToolUnion" (32 : Nat) "will") ∈ lw_tbl := lw_at lw_m1 39 rfl
theorem q193 : (Jvm.Cond.stringRef "ToolUnion" (34 : Nat) "wont") ∈ lw_tbl := lw_at lw_m1 40 rfl
theorem q194 : (Jvm.Cond.stringRef "ToolUnion" (36 : Nat) "wear") ∈ lw_tbl := lw_at lw_m1 41 rfl
theorem q195 : (Jvm.Cond.stringRef "ToolUnion" (38 : Nat) "mood") ∈ lw_tbl := lw_at lw_m1 42 rfl
theorem q196 : (Jvm.Cond.stringRef "ToolUnion" (40 : Nat) "like") ∈ lw_tbl := lw_at lw_m1 43 rfl
theorem q197 : (Jvm.Cond.stringRef "ToolUnion" (42 : Nat) "work") ∈ lw_tbl := lw_at lw_m1 44 rfl
theorem q198 : (Jvm.Cond.stringRef "ToolUnion" (44 : Nat) "takes") ∈ lw_tbl := lw_at lw_m1 45 rfl
theorem q199 : (Jvm.Cond.stringRef "ToolUnion" (46 : Nat) "after") ∈ lw_tbl := lw_at lw_m1 46 rfl
theorem q200 : (Jvm.Cond.stringRef "ToolUnion" (48 : Nat) "tool") ∈ lw_tbl := lw_at lw_m1 47 rfl
theorem q201 : (Jvm.Cond.stringRef "ToolUnion" (50 : Nat) "man") ∈ lw_tbl := lw_at lw_m1 48 rfl
theorem q202 : (Jvm.Cond.stringRef "ToolUnion" (52 : Nat) "from") ∈ lw_tbl := lw_at lw_m1 49 rfl
theorem q203 : (Jvm.Cond.stringRef "ToolUnion" (54 : Nat) "for") ∈ lw_tbl := lw_at lw_m1 50 rfl
theorem q204 : (Jvm.Cond.stringRef "ToolUnion" (60 : Nat) "skill") ∈ lw_tbl := lw_at lw_m1 51 rfl
theorem q205 : (Jvm.Cond.stringRef "ToolUnion" (62 : Nat) "edge") ∈ lw_tbl := lw_at lw_m1 52 rfl
theorem q206 : (Jvm.Cond.stringRef "ToolUnion" (64 : Nat) "moods") ∈ lw_tbl := lw_at lw_m1 53 rfl
theorem q207 : (Jvm.Cond.stringRef "ToolUnion" (66 : Nat) "today") ∈ lw_tbl := lw_at lw_m1 54 rfl
theorem q208 : (Jvm.Cond.stringRef "ToolUnion" (68 : Nat) "kind") ∈ lw_tbl := lw_at lw_m1 55 rfl
theorem q209 : (Jvm.Cond.stringRef "ToolUnion" (70 : Nat) "same") ∈ lw_tbl := lw_at lw_m1 56 rfl
theorem q210 : (Jvm.Cond.stringRef "ToolUnion" (72 : Nat) "branch") ∈ lw_tbl := lw_at lw_m1 57 rfl
theorem q211 : (Jvm.Cond.stringRef "ToolUnion" (74 : Nat) "bell") ∈ lw_tbl := lw_at lw_m1 58 rfl
theorem q212 : (Jvm.Cond.stringRef "ToolUnion" (76 : Nat) "weekday") ∈ lw_tbl := lw_at lw_m1 59 rfl
theorem q213 : (Jvm.Cond.stringRef "ToolUnion" (78 : Nat) "served") ∈ lw_tbl := lw_at lw_m1 60 rfl
theorem q214 : (Jvm.Cond.stringRef "ToolUnion" (83 : Nat) "when") ∈ lw_tbl := lw_at lw_m1 61 rfl
theorem q215 : (Jvm.Cond.stringRef "ToolUnion" (85 : Nat) "or") ∈ lw_tbl := lw_at lw_m1 62 rfl
theorem q216 : (Jvm.Cond.stringRef "ToolUnion" (87 : Nat) "and") ∈ lw_tbl := lw_at lw_m1 63 rfl
theorem q217 : (Jvm.Cond.stringRef "ToolUnion" (89 : Nat) "not") ∈ lw_tbl := lw_at lw_m1 64 rfl
theorem q218 : (Jvm.Cond.classLink "ToolUnion" (110 : Nat) "ToolUnion$Text") ∈ lw_all := lw_g (lw_at lw_m1 65 rfl) rfl
theorem q220 : (Jvm.Cond.methodLinkNest "ToolUnion" (112 : Nat) ({ cls := "ToolUnion$Text", name := "<init>", desc := "()V" } : Jvm.MethodName) "ToolUnion") ∈ lw_tbl := lw_at lw_m1 67 rfl
theorem q228 : (Jvm.Cond.fieldLink "ToolUnion" (371 : Nat) "ToolUnion$Text" "word" "[I") ∈ lw_all := lw_g (lw_at lw_m1 75 rfl) rfl
theorem q231 : (Jvm.Cond.fieldLink "ToolUnion" (374 : Nat) "ToolUnion$Text" "worth" "[LToolUnion$Term;") ∈ lw_all := lw_g (lw_at lw_m1 78 rfl) rfl
theorem q234 : (Jvm.Cond.fieldLink "ToolUnion" (378 : Nat) "ToolUnion$Text" "when" "[LToolUnion$Term;") ∈ lw_all := lw_g (lw_at lw_m1 81 rfl) rfl
theorem q237 : (Jvm.Cond.fieldLink "ToolUnion" (368 : Nat) "ToolUnion$Text" "many" "I") ∈ lw_all := lw_g (lw_at lw_m1 84 rfl) rfl
theorem q249 : (Jvm.Cond.classLink "ToolUnion" (120 : Nat) "ToolUnion$Work") ∈ lw_all := lw_g (lw_at lw_m1 96 rfl) rfl
theorem q251 : (Jvm.Cond.classLink "ToolUnion" (126 : Nat) "ToolUnion$Turn") ∈ lw_all := lw_g (lw_at lw_m1 98 rfl) rfl
theorem q253 : (Jvm.Cond.classLink "ToolUnion" (159 : Nat) "ToolUnion$Yard") ∈ lw_all := lw_g (lw_at lw_m1 100 rfl) rfl
theorem q255 : (Jvm.Cond.methodLinkNest "ToolUnion" (161 : Nat) ({ cls := "ToolUnion$Yard", name := "<init>", desc := "(LToolUnion;)V" } : Jvm.MethodName) "ToolUnion") ∈ lw_tbl := lw_at lw_m1 102 rfl
theorem q260 : (Jvm.Cond.fieldLink "ToolUnion" (470 : Nat) "ToolUnion$Yard" "edge" "[I") ∈ lw_all := lw_g (lw_at lw_m1 107 rfl) rfl
theorem q262 : (Jvm.Cond.fieldLink "ToolUnion" (472 : Nat) "ToolUnion$Yard" "mood" "[I") ∈ lw_all := lw_g (lw_at lw_m1 109 rfl) rfl
theorem q264 : (Jvm.Cond.fieldLink "ToolUnion" (474 : Nat) "ToolUnion$Yard" "today" "[I") ∈ lw_all := lw_g (lw_at lw_m1 111 rfl) rfl
theorem q266 : (Jvm.Cond.fieldLink "ToolUnion" (476 : Nat) "ToolUnion$Yard" "served" "[I") ∈ lw_all := lw_g (lw_at lw_m1 113 rfl) rfl
theorem q268 : (Jvm.Cond.fieldLink "ToolUnion" (221 : Nat) "ToolUnion$Yard" "may" "[I") ∈ lw_all := lw_g (lw_at lw_m1 115 rfl) rfl
theorem q270 : (Jvm.Cond.fieldLink "ToolUnion" (405 : Nat) "ToolUnion$Yard" "done" "[I") ∈ lw_all := lw_g (lw_at lw_m1 117 rfl) rfl
theorem q272 : (Jvm.Cond.fieldLink "ToolUnion" (448 : Nat) "ToolUnion$Yard" "hour" "I") ∈ lw_all := lw_g (lw_at lw_m1 119 rfl) rfl
theorem q274 : (Jvm.Cond.fieldLink "ToolUnion" (500 : Nat) "ToolUnion$Yard" "strikes" "I") ∈ lw_all := lw_g (lw_at lw_m1 121 rfl) rfl
theorem q276 : (Jvm.Cond.fieldLink "ToolUnion" (461 : Nat) "ToolUnion$Yard" "state" "I") ∈ lw_all := lw_g (lw_at lw_m1 123 rfl) rfl
theorem q278 : (Jvm.Cond.fieldLink "ToolUnion" (445 : Nat) "ToolUnion$Yard" "bookMany" "I") ∈ lw_all := lw_g (lw_at lw_m1 125 rfl) rfl
theorem q281 : (Jvm.Cond.fieldLink "ToolUnion" (638 : Nat) "ToolUnion$Yard" "refused" "I") ∈ lw_all := lw_g (lw_at lw_m1 128 rfl) rfl
theorem q283 : (Jvm.Cond.fieldLink "ToolUnion" (641 : Nat) "ToolUnion$Yard" "firstHour" "I") ∈ lw_all := lw_g (lw_at lw_m1 130 rfl) rfl
theorem q285 : (Jvm.Cond.fieldLink "ToolUnion" (644 : Nat) "ToolUnion$Yard" "firstLine" "I") ∈ lw_all := lw_g (lw_at lw_m1 132 rfl) rfl
theorem q287 : (Jvm.Cond.fieldLink "ToolUnion" (635 : Nat) "ToolUnion$Yard" "worked" "I") ∈ lw_all := lw_g (lw_at lw_m1 134 rfl) rfl
theorem q323 : (Jvm.Cond.constant "ToolUnion" (188 : Nat) (65536 : Int32)) ∈ lw_all := lw_g (lw_at lw_m1 170 rfl) rfl
theorem q324 : (Jvm.Cond.classLink "ToolUnion" (210 : Nat) "[I") ∈ lw_all := lw_g (lw_at lw_m1 171 rfl) rfl
theorem q326 : (Jvm.Cond.methodLink "ToolUnion" (224 : Nat) ({ cls := "java/util/Arrays", name := "fill", desc := "([II)V" } : Jvm.MethodName)) ∈ lw_all := lw_g (lw_at lw_m1 173 rfl) rfl
theorem q329 : (Jvm.Cond.fieldLink "ToolUnion" (24 : Nat) "ToolUnion" "tape" "[B") ∈ lw_all := lw_g (lw_at lw_m1 176 rfl) rfl
theorem q330 : (Jvm.Cond.fieldLink "ToolUnion" (230 : Nat) "ToolUnion" "taped" "I") ∈ lw_all := lw_g (lw_at lw_m1 177 rfl) rfl
theorem q331 : (Jvm.Cond.fieldLink "ToolUnion" (56 : Nat) "ToolUnion" "firstWords" "[[Ljava/lang/String;") ∈ lw_all := lw_g (lw_at lw_m1 178 rfl) rfl
theorem q332 : (Jvm.Cond.fieldLink "ToolUnion" (80 : Nat) "ToolUnion" "lawAsked" "[Ljava/lang/String;") ∈ lw_all := lw_g (lw_at lw_m1 179 rfl) rfl
theorem q333 : (Jvm.Cond.fieldLink "ToolUnion" (91 : Nat) "ToolUnion" "others" "[Ljava/lang/String;") ∈ lw_all := lw_g (lw_at lw_m1 180 rfl) rfl
theorem q334 : (Jvm.Cond.fieldLink "ToolUnion" (94 : Nat) "ToolUnion" "nothing" "[Ljava/lang/String;") ∈ lw_all := lw_g (lw_at lw_m1 181 rfl) rfl
theorem q335 : (Jvm.Cond.fieldLink "ToolUnion" (97 : Nat) "ToolUnion" "words" "[Ljava/lang/String;") ∈ lw_all := lw_g (lw_at lw_m1 182 rfl) rfl
theorem q336 : (Jvm.Cond.fieldLink "ToolUnion" (100 : Nat) "ToolUnion" "asked" "[Ljava/lang/String;") ∈ lw_all := lw_g (lw_at lw_m1 183 rfl) rfl
theorem q337 : (Jvm.Cond.fieldLink "ToolUnion" (103 : Nat) "ToolUnion" "joins" "[Ljava/lang/String;") ∈ lw_all := lw_g (lw_at lw_m1 184 rfl) rfl
theorem q338 : (Jvm.Cond.fieldLink "ToolUnion" (258 : Nat) "ToolUnion" "token" "LToolUnion$Token;") ∈ lw_all := lw_g (lw_at lw_m1 185 rfl) rfl
theorem q339 : (Jvm.Cond.fieldLink "ToolUnion" (245 : Nat) "ToolUnion" "spot" "I") ∈ lw_all := lw_g (lw_at lw_m1 186 rfl) rfl
theorem q340 : (Jvm.Cond.fieldLink "ToolUnion" (248 : Nat) "ToolUnion" "from" "I") ∈ lw_all := lw_g (lw_at lw_m1 187 rfl) rfl
theorem q341 : (Jvm.Cond.fieldLink "ToolUnion" (274 : Nat) "ToolUnion" "value" "I") ∈ lw_all := lw_g (lw_at lw_m1 188 rfl) rfl
theorem q342 : (Jvm.Cond.fieldLink "ToolUnion" (338 : Nat) "ToolUnion" "open" "I") ∈ lw_all := lw_g (lw_at lw_m1 189 rfl) rfl
theorem q343 : (Jvm.Cond.fieldLink "ToolUnion" (434 : Nat) "ToolUnion" "faultKind" "I") ∈ lw_all := lw_g (lw_at lw_m1 190 rfl) rfl
theorem q344 : (Jvm.Cond.fieldLink "ToolUnion" (106 : Nat) "ToolUnion" "faultPlace" "I") ∈ lw_all := lw_g (lw_at lw_m1 191 rfl) rfl
theorem q345 : (Jvm.Cond.fieldLink "ToolUnion" (113 : Nat) "ToolUnion" "serving" "LToolUnion$Text;") ∈ lw_all := lw_g (lw_at lw_m1 192 rfl) rfl
theorem q347 : (Jvm.Cond.fieldLink "ToolUnion" (117 : Nat) "ToolUnion" "edges" "LToolUnion$Text;") ∈ lw_all := lw_g (lw_at lw_m1 194 rfl) rfl
theorem q349 : (Jvm.Cond.fieldLink "ToolUnion" (122 : Nat) "ToolUnion" "hull" "[LToolUnion$Work;") ∈ lw_all := lw_g (lw_at lw_m1 196 rfl) rfl
theorem q351 : (Jvm.Cond.fieldLink "ToolUnion" (128 : Nat) "ToolUnion" "rota" "[LToolUnion$Turn;") ∈ lw_all := lw_g (lw_at lw_m1 198 rfl) rfl
theorem q354 : (Jvm.Cond.fieldLink "ToolUnion" (132 : Nat) "ToolUnion" "kindOf" "[I") ∈ lw_all := lw_g (lw_at lw_m1 201 rfl) rfl
theorem q356 : (Jvm.Cond.fieldLink "ToolUnion" (136 : Nat) "ToolUnion" "branchOf" "[I") ∈ lw_all := lw_g (lw_at lw_m1 203 rfl) rfl
theorem q358 : (Jvm.Cond.fieldLink "ToolUnion" (139 : Nat) "ToolUnion" "toolLeft" "[I") ∈ lw_all := lw_g (lw_at lw_m1 205 rfl) rfl
theorem q359 : (Jvm.Cond.fieldLink "ToolUnion" (142 : Nat) "ToolUnion" "votes" "[I") ∈ lw_all := lw_g (lw_at lw_m1 206 rfl) rfl
theorem q360 : (Jvm.Cond.fieldLink "ToolUnion" (145 : Nat) "ToolUnion" "off" "[I") ∈ lw_all := lw_g (lw_at lw_m1 207 rfl) rfl
theorem q363 : (Jvm.Cond.fieldLink "ToolUnion" (148 : Nat) "ToolUnion" "skill" "[I") ∈ lw_all := lw_g (lw_at lw_m1 210 rfl) rfl
theorem q365 : (Jvm.Cond.fieldLink "ToolUnion" (150 : Nat) "ToolUnion" "manLeft" "[I") ∈ lw_all := lw_g (lw_at lw_m1 212 rfl) rfl
theorem q367 : (Jvm.Cond.fieldLink "ToolUnion" (393 : Nat) "ToolUnion" "tools" "I") ∈ lw_all := lw_g (lw_at lw_m1 214 rfl) rfl
theorem q368 : (Jvm.Cond.fieldLink "ToolUnion" (396 : Nat) "ToolUnion" "men" "I") ∈ lw_all := lw_g (lw_at lw_m1 215 rfl) rfl
theorem q370 : (Jvm.Cond.fieldLink "ToolUnion" (490 : Nat) "ToolUnion" "rust" "I") ∈ lw_all := lw_g (lw_at lw_m1 217 rfl) rfl
theorem q371 : (Jvm.Cond.fieldLink "ToolUnion" (153 : Nat) "ToolUnion" "quota" "I") ∈ lw_all := lw_g (lw_at lw_m1 218 rfl) rfl
theorem q373 : (Jvm.Cond.fieldLink "ToolUnion" (156 : Nat) "ToolUnion" "lawHas" "[I") ∈ lw_all := lw_g (lw_at lw_m1 220 rfl) rfl
theorem q374 : (Jvm.Cond.fieldLink "ToolUnion" (164 : Nat) "ToolUnion" "yard" "LToolUnion$Yard;") ∈ lw_all := lw_g (lw_at lw_m1 221 rfl) rfl
theorem q375 : (Jvm.Cond.fieldLink "ToolUnion" (168 : Nat) "ToolUnion" "thought" "LToolUnion$Yard;") ∈ lw_all := lw_g (lw_at lw_m1 222 rfl) rfl
theorem q376 : (Jvm.Cond.fieldLink "ToolUnion" (171 : Nat) "ToolUnion" "kept" "LToolUnion$Yard;") ∈ lw_all := lw_g (lw_at lw_m1 223 rfl) rfl
theorem q377 : (Jvm.Cond.fieldLink "ToolUnion" (174 : Nat) "ToolUnion" "book" "[I") ∈ lw_all := lw_g (lw_at lw_m1 224 rfl) rfl
theorem q378 : (Jvm.Cond.fieldLink "ToolUnion" (177 : Nat) "ToolUnion" "ahead" "[LToolUnion$Yard;") ∈ lw_all := lw_g (lw_at lw_m1 225 rfl) rfl
theorem q379 : (Jvm.Cond.fieldLink "ToolUnion" (408 : Nat) "ToolUnion" "undoable" "I") ∈ lw_all := lw_g (lw_at lw_m1 226 rfl) rfl
theorem q380 : (Jvm.Cond.fieldLink "ToolUnion" (510 : Nat) "ToolUnion" "handMany" "I") ∈ lw_all := lw_g (lw_at lw_m1 227 rfl) rfl
theorem q381 : (Jvm.Cond.fieldLink "ToolUnion" (513 : Nat) "ToolUnion" "handTool" "I") ∈ lw_all := lw_g (lw_at lw_m1 228 rfl) rfl
theorem q382 : (Jvm.Cond.fieldLink "ToolUnion" (516 : Nat) "ToolUnion" "handMan" "I") ∈ lw_all := lw_g (lw_at lw_m1 229 rfl) rfl
theorem q383 : (Jvm.Cond.fieldLink "ToolUnion" (181 : Nat) "ToolUnion" "canServe" "[Z") ∈ lw_all := lw_g (lw_at lw_m1 230 rfl) rfl
theorem q384 : (Jvm.Cond.fieldLink "ToolUnion" (185 : Nat) "ToolUnion" "canBe" "[Z") ∈ lw_all := lw_g (lw_at lw_m1 231 rfl) rfl
theorem q385 : (Jvm.Cond.fieldLink "ToolUnion" (189 : Nat) "ToolUnion" "far" "[B") ∈ lw_all := lw_g (lw_at lw_m1 232 rfl) rfl
theorem q386 : (Jvm.Cond.fieldLink "ToolUnion" (192 : Nat) "ToolUnion" "mateOf" "[I") ∈ lw_all := lw_g (lw_at lw_m1 233 rfl) rfl
theorem q387 : (Jvm.Cond.fieldLink "ToolUnion" (195 : Nat) "ToolUnion" "holds" "[I") ∈ lw_all := lw_g (lw_at lw_m1 234 rfl) rfl
theorem q388 : (Jvm.Cond.fieldLink "ToolUnion" (198 : Nat) "ToolUnion" "refusedBy" "[I") ∈ lw_all := lw_g (lw_at lw_m1 235 rfl) rfl
theorem q389 : (Jvm.Cond.fieldLink "ToolUnion" (201 : Nat) "ToolUnion" "seenAhead" "[I") ∈ lw_all := lw_g (lw_at lw_m1 236 rfl) rfl
theorem q390 : (Jvm.Cond.fieldLink "ToolUnion" (204 : Nat) "ToolUnion" "seenBehind" "[I") ∈ lw_all := lw_g (lw_at lw_m1 237 rfl) rfl
theorem q391 : (Jvm.Cond.fieldLink "ToolUnion" (207 : Nat) "ToolUnion" "ordersFrom" "[I") ∈ lw_all := lw_g (lw_at lw_m1 238 rfl) rfl
theorem q392 : (Jvm.Cond.fieldLink "ToolUnion" (402 : Nat) "ToolUnion" "seenMany" "I") ∈ lw_all := lw_g (lw_at lw_m1 239 rfl) rfl
theorem q393 : (Jvm.Cond.fieldLink "ToolUnion" (211 : Nat) "ToolUnion" "rows" "[[I") ∈ lw_all := lw_g (lw_at lw_m2 0 rfl) rfl
theorem q394 : (Jvm.Cond.fieldLink "ToolUnion" (215 : Nat) "ToolUnion" "keptRows" "[[I") ∈ lw_all := lw_g (lw_at lw_m2 1 rfl) rfl
theorem q395 : (Jvm.Cond.fieldLink "ToolUnion" (218 : Nat) "ToolUnion" "keptOther" "[I") ∈ lw_all := lw_g (lw_at lw_m2 2 rfl) rfl
theorem q396 : (Jvm.Cond.fieldLink "ToolUnion" (661 : Nat) "ToolUnion" "keptServing" "LToolUnion$Text;") ∈ lw_all := lw_g (lw_at lw_m2 3 rfl) rfl
theorem q397 : (Jvm.Cond.fieldLink "ToolUnion" (664 : Nat) "ToolUnion" "keptEdges" "LToolUnion$Text;") ∈ lw_all := lw_g (lw_at lw_m2 4 rfl) rfl
theorem q398 : (Jvm.Cond.fieldLink "ToolUnion" (667 : Nat) "ToolUnion" "keptHull" "[LToolUnion$Work;") ∈ lw_all := lw_g (lw_at lw_m2 5 rfl) rfl
theorem q399 : (Jvm.Cond.fieldLink "ToolUnion" (670 : Nat) "ToolUnion" "keptRota" "[LToolUnion$Turn;") ∈ lw_all := lw_g (lw_at lw_m2 6 rfl) rfl
theorem q400 : (Jvm.Cond.laysFinal "ToolUnion" "ToolUnion" "tape" "[B") ∈ lw_all := lw_g (lw_at lw_m2 7 rfl) rfl
theorem q401 : (Jvm.Cond.soleField "ToolUnion" "tape") ∈ lw_all := lw_g (lw_at lw_m2 8 rfl) rfl
theorem q402 : (Jvm.Cond.lays "ToolUnion" "ToolUnion" "taped" "I") ∈ lw_all := lw_g (lw_at lw_m2 9 rfl) rfl
theorem q403 : (Jvm.Cond.soleField "ToolUnion" "taped") ∈ lw_all := lw_g (lw_at lw_m2 10 rfl) rfl
theorem q404 : (Jvm.Cond.laysFinal "ToolUnion" "ToolUnion" "firstWords" "[[Ljava/lang/String;") ∈ lw_all := lw_g (lw_at lw_m2 11 rfl) rfl
theorem q405 : (Jvm.Cond.soleField "ToolUnion" "firstWords") ∈ lw_all := lw_g (lw_at lw_m2 12 rfl) rfl
theorem q406 : (Jvm.Cond.laysFinal "ToolUnion" "ToolUnion" "lawAsked" "[Ljava/lang/String;") ∈ lw_all := lw_g (lw_at lw_m2 13 rfl) rfl
theorem q407 : (Jvm.Cond.soleField "ToolUnion" "lawAsked") ∈ lw_all := lw_g (lw_at lw_m2 14 rfl) rfl
theorem q408 : (Jvm.Cond.laysFinal "ToolUnion" "ToolUnion" "others" "[Ljava/lang/String;") ∈ lw_all := lw_g (lw_at lw_m2 15 rfl) rfl
theorem q409 : (Jvm.Cond.soleField "ToolUnion" "others") ∈ lw_all := lw_g (lw_at lw_m2 16 rfl) rfl
theorem q410 : (Jvm.Cond.laysFinal "ToolUnion" "ToolUnion" "nothing" "[Ljava/lang/String;") ∈ lw_all := lw_g (lw_at lw_m2 17 rfl) rfl
theorem q411 : (Jvm.Cond.soleField "ToolUnion" "nothing") ∈ lw_all := lw_g (lw_at lw_m2 18 rfl) rfl
theorem q412 : (Jvm.Cond.lays "ToolUnion" "ToolUnion" "words" "[Ljava/lang/String;") ∈ lw_all := lw_g (lw_at lw_m2 19 rfl) rfl
theorem q413 : (Jvm.Cond.soleField "ToolUnion" "words") ∈ lw_all := lw_g (lw_at lw_m2 20 rfl) rfl
theorem q414 : (Jvm.Cond.lays "ToolUnion" "ToolUnion" "asked" "[Ljava/lang/String;") ∈ lw_all := lw_g (lw_at lw_m2 21 rfl) rfl
theorem q415 : (Jvm.Cond.soleField "ToolUnion" "asked") ∈ lw_all := lw_g (lw_at lw_m2 22 rfl) rfl
theorem q416 : (Jvm.Cond.lays "ToolUnion" "ToolUnion" "joins" "[Ljava/lang/String;") ∈ lw_all := lw_g (lw_at lw_m2 23 rfl) rfl
theorem q417 : (Jvm.Cond.soleField "ToolUnion" "joins") ∈ lw_all := lw_g (lw_at lw_m2 24 rfl) rfl
theorem q418 : (Jvm.Cond.lays "ToolUnion" "ToolUnion" "token" "LToolUnion$Token;") ∈ lw_all := lw_g (lw_at lw_m2 25 rfl) rfl
theorem q419 : (Jvm.Cond.soleField "ToolUnion" "token") ∈ lw_all := lw_g (lw_at lw_m2 26 rfl) rfl
theorem q420 : (Jvm.Cond.lays "ToolUnion" "ToolUnion" "spot" "I") ∈ lw_all := lw_g (lw_at lw_m2 27 rfl) rfl
theorem q421 : (Jvm.Cond.soleField "ToolUnion" "spot") ∈ lw_all := lw_g (lw_at lw_m2 28 rfl) rfl
theorem q422 : (Jvm.Cond.lays "ToolUnion" "ToolUnion" "from" "I") ∈ lw_all := lw_g (lw_at lw_m2 29 rfl) rfl
theorem q423 : (Jvm.Cond.soleField "ToolUnion" "from") ∈ lw_all := lw_g (lw_at lw_m2 30 rfl) rfl
theorem q424 : (Jvm.Cond.lays "ToolUnion" "ToolUnion" "value" "I") ∈ lw_all := lw_g (lw_at lw_m2 31 rfl) rfl
theorem q425 : (Jvm.Cond.soleField "ToolUnion" "value") ∈ lw_all := lw_g (lw_at lw_m2 32 rfl) rfl
theorem q426 : (Jvm.Cond.lays "ToolUnion" "ToolUnion" "open" "I") ∈ lw_all := lw_g (lw_at lw_m2 33 rfl) rfl
theorem q427 : (Jvm.Cond.soleField "ToolUnion" "open") ∈ lw_all := lw_g (lw_at lw_m2 34 rfl) rfl
theorem q428 : (Jvm.Cond.lays "ToolUnion" "ToolUnion" "faultKind" "I") ∈ lw_all := lw_g (lw_at lw_m2 35 rfl) rfl
theorem q429 : (Jvm.Cond.soleField "ToolUnion" "faultKind") ∈ lw_all := lw_g (lw_at lw_m2 36 rfl) rfl
theorem q430 : (Jvm.Cond.lays "ToolUnion" "ToolUnion" "faultPlace" "I") ∈ lw_all := lw_g (lw_at lw_m2 37 rfl) rfl
theorem q431 : (Jvm.Cond.soleField "ToolUnion" "faultPlace") ∈ lw_all := lw_g (lw_at lw_m2 38 rfl) rfl
theorem q432 : (Jvm.Cond.lays "ToolUnion" "ToolUnion" "serving" "LToolUnion$Text;") ∈ lw_all := lw_g (lw_at lw_m2 39 rfl) rfl
theorem q433 : (Jvm.Cond.soleField "ToolUnion" "serving") ∈ lw_all := lw_g (lw_at lw_m2 40 rfl) rfl
theorem q434 : (Jvm.Cond.lays "ToolUnion" "ToolUnion" "edges" "LToolUnion$Text;") ∈ lw_all := lw_g (lw_at lw_m2 41 rfl) rfl
theorem q435 : (Jvm.Cond.soleField "ToolUnion" "edges") ∈ lw_all := lw_g (lw_at lw_m2 42 rfl) rfl
theorem q436 : (Jvm.Cond.lays "ToolUnion" "ToolUnion" "hull" "[LToolUnion$Work;") ∈ lw_all := lw_g (lw_at lw_m2 43 rfl) rfl
theorem q437 : (Jvm.Cond.soleField "ToolUnion" "hull") ∈ lw_all := lw_g (lw_at lw_m2 44 rfl) rfl
theorem q438 : (Jvm.Cond.lays "ToolUnion" "ToolUnion" "rota" "[LToolUnion$Turn;") ∈ lw_all := lw_g (lw_at lw_m2 45 rfl) rfl
theorem q439 : (Jvm.Cond.soleField "ToolUnion" "rota") ∈ lw_all := lw_g (lw_at lw_m2 46 rfl) rfl
theorem q440 : (Jvm.Cond.laysFinal "ToolUnion" "ToolUnion" "kindOf" "[I") ∈ lw_all := lw_g (lw_at lw_m2 47 rfl) rfl
theorem q441 : (Jvm.Cond.soleField "ToolUnion" "kindOf") ∈ lw_all := lw_g (lw_at lw_m2 48 rfl) rfl
theorem q442 : (Jvm.Cond.laysFinal "ToolUnion" "ToolUnion" "branchOf" "[I") ∈ lw_all := lw_g (lw_at lw_m2 49 rfl) rfl
theorem q443 : (Jvm.Cond.soleField "ToolUnion" "branchOf") ∈ lw_all := lw_g (lw_at lw_m2 50 rfl) rfl
theorem q444 : (Jvm.Cond.laysFinal "ToolUnion" "ToolUnion" "toolLeft" "[I") ∈ lw_all := lw_g (lw_at lw_m2 51 rfl) rfl
theorem q445 : (Jvm.Cond.soleField "ToolUnion" "toolLeft") ∈ lw_all := lw_g (lw_at lw_m2 52 rfl) rfl
theorem q446 : (Jvm.Cond.laysFinal "ToolUnion" "ToolUnion" "votes" "[I") ∈ lw_all := lw_g (lw_at lw_m2 53 rfl) rfl
theorem q447 : (Jvm.Cond.soleField "ToolUnion" "votes") ∈ lw_all := lw_g (lw_at lw_m2 54 rfl) rfl
theorem q448 : (Jvm.Cond.laysFinal "ToolUnion" "ToolUnion" "off" "[I") ∈ lw_all := lw_g (lw_at lw_m2 55 rfl) rfl
theorem q449 : (Jvm.Cond.soleField "ToolUnion" "off") ∈ lw_all := lw_g (lw_at lw_m2 56 rfl) rfl
theorem q450 : (Jvm.Cond.laysFinal "ToolUnion" "ToolUnion" "skill" "[I") ∈ lw_all := lw_g (lw_at lw_m2 57 rfl) rfl
theorem q451 : (Jvm.Cond.soleField "ToolUnion" "skill") ∈ lw_all := lw_g (lw_at lw_m2 58 rfl) rfl
theorem q452 : (Jvm.Cond.laysFinal "ToolUnion" "ToolUnion" "manLeft" "[I") ∈ lw_all := lw_g (lw_at lw_m2 59 rfl) rfl
theorem q453 : (Jvm.Cond.soleField "ToolUnion" "manLeft") ∈ lw_all := lw_g (lw_at lw_m2 60 rfl) rfl
theorem q454 : (Jvm.Cond.lays "ToolUnion" "ToolUnion" "tools" "I") ∈ lw_all := lw_g (lw_at lw_m2 61 rfl) rfl
theorem q455 : (Jvm.Cond.soleField "ToolUnion" "tools") ∈ lw_all := lw_g (lw_at lw_m2 62 rfl) rfl
theorem q456 : (Jvm.Cond.lays "ToolUnion" "ToolUnion" "men" "I") ∈ lw_all := lw_g (lw_at lw_m2 63 rfl) rfl
theorem q457 : (Jvm.Cond.soleField "ToolUnion" "men") ∈ lw_all := lw_g (lw_at lw_m2 64 rfl) rfl
theorem q458 : (Jvm.Cond.lays "ToolUnion" "ToolUnion" "rust" "I") ∈ lw_all := lw_g (lw_at lw_m2 65 rfl) rfl
theorem q459 : (Jvm.Cond.soleField "ToolUnion" "rust") ∈ lw_all := lw_g (lw_at lw_m2 66 rfl) rfl
theorem q460 : (Jvm.Cond.lays "ToolUnion" "ToolUnion" "quota" "I") ∈ lw_all := lw_g (lw_at lw_m2 67 rfl) rfl
theorem q461 : (Jvm.Cond.soleField "ToolUnion" "quota") ∈ lw_all := lw_g (lw_at lw_m2 68 rfl) rfl
theorem q462 : (Jvm.Cond.laysFinal "ToolUnion" "ToolUnion" "lawHas" "[I") ∈ lw_all := lw_g (lw_at lw_m2 69 rfl) rfl
theorem q463 : (Jvm.Cond.soleField "ToolUnion" "lawHas") ∈ lw_all := lw_g (lw_at lw_m2 70 rfl) rfl
theorem q464 : (Jvm.Cond.laysFinal "ToolUnion" "ToolUnion" "yard" "LToolUnion$Yard;") ∈ lw_all := lw_g (lw_at lw_m2 71 rfl) rfl
theorem q465 : (Jvm.Cond.soleField "ToolUnion" "yard") ∈ lw_all := lw_g (lw_at lw_m2 72 rfl) rfl
theorem q466 : (Jvm.Cond.laysFinal "ToolUnion" "ToolUnion" "thought" "LToolUnion$Yard;") ∈ lw_all := lw_g (lw_at lw_m2 73 rfl) rfl
theorem q467 : (Jvm.Cond.soleField "ToolUnion" "thought") ∈ lw_all := lw_g (lw_at lw_m2 74 rfl) rfl
theorem q468 : (Jvm.Cond.laysFinal "ToolUnion" "ToolUnion" "kept" "LToolUnion$Yard;") ∈ lw_all := lw_g (lw_at lw_m2 75 rfl) rfl
theorem q469 : (Jvm.Cond.soleField "ToolUnion" "kept") ∈ lw_all := lw_g (lw_at lw_m2 76 rfl) rfl
theorem q470 : (Jvm.Cond.laysFinal "ToolUnion" "ToolUnion" "book" "[I") ∈ lw_all := lw_g (lw_at lw_m2 77 rfl) rfl
theorem q471 : (Jvm.Cond.soleField "ToolUnion" "book") ∈ lw_all := lw_g (lw_at lw_m2 78 rfl) rfl
theorem q472 : (Jvm.Cond.laysFinal "ToolUnion" "ToolUnion" "ahead" "[LToolUnion$Yard;") ∈ lw_all := lw_g (lw_at lw_m2 79 rfl) rfl
theorem q473 : (Jvm.Cond.soleField "ToolUnion" "ahead") ∈ lw_all := lw_g (lw_at lw_m2 80 rfl) rfl
theorem q474 : (Jvm.Cond.lays "ToolUnion" "ToolUnion" "undoable" "I") ∈ lw_all := lw_g (lw_at lw_m2 81 rfl) rfl
theorem q475 : (Jvm.Cond.soleField "ToolUnion" "undoable") ∈ lw_all := lw_g (lw_at lw_m2 82 rfl) rfl
theorem q476 : (Jvm.Cond.lays "ToolUnion" "ToolUnion" "handMany" "I") ∈ lw_all := lw_g (lw_at lw_m2 83 rfl) rfl
theorem q477 : (Jvm.Cond.soleField "ToolUnion" "handMany") ∈ lw_all := lw_g (lw_at lw_m2 84 rfl) rfl
theorem q478 : (Jvm.Cond.lays "ToolUnion" "ToolUnion" "handTool" "I") ∈ lw_all := lw_g (lw_at lw_m2 85 rfl) rfl
theorem q479 : (Jvm.Cond.soleField "ToolUnion" "handTool") ∈ lw_all := lw_g (lw_at lw_m2 86 rfl) rfl
theorem q480 : (Jvm.Cond.lays "ToolUnion" "ToolUnion" "handMan" "I") ∈ lw_all := lw_g (lw_at lw_m2 87 rfl) rfl
theorem q481 : (Jvm.Cond.soleField "ToolUnion" "handMan") ∈ lw_all := lw_g (lw_at lw_m2 88 rfl) rfl
theorem q482 : (Jvm.Cond.laysFinal "ToolUnion" "ToolUnion" "canServe" "[Z") ∈ lw_all := lw_g (lw_at lw_m2 89 rfl) rfl
theorem q483 : (Jvm.Cond.soleField "ToolUnion" "canServe") ∈ lw_all := lw_g (lw_at lw_m2 90 rfl) rfl
theorem q484 : (Jvm.Cond.laysFinal "ToolUnion" "ToolUnion" "canBe" "[Z") ∈ lw_all := lw_g (lw_at lw_m2 91 rfl) rfl
theorem q485 : (Jvm.Cond.soleField "ToolUnion" "canBe") ∈ lw_all := lw_g (lw_at lw_m2 92 rfl) rfl
theorem q486 : (Jvm.Cond.laysFinal "ToolUnion" "ToolUnion" "far" "[B") ∈ lw_all := lw_g (lw_at lw_m2 93 rfl) rfl
theorem q487 : (Jvm.Cond.soleField "ToolUnion" "far") ∈ lw_all := lw_g (lw_at lw_m2 94 rfl) rfl
theorem q488 : (Jvm.Cond.laysFinal "ToolUnion" "ToolUnion" "mateOf" "[I") ∈ lw_all := lw_g (lw_at lw_m2 95 rfl) rfl
theorem q489 : (Jvm.Cond.soleField "ToolUnion" "mateOf") ∈ lw_all := lw_g (lw_at lw_m2 96 rfl) rfl
theorem q490 : (Jvm.Cond.laysFinal "ToolUnion" "ToolUnion" "holds" "[I") ∈ lw_all := lw_g (lw_at lw_m2 97 rfl) rfl
theorem q491 : (Jvm.Cond.soleField "ToolUnion" "holds") ∈ lw_all := lw_g (lw_at lw_m2 98 rfl) rfl
theorem q492 : (Jvm.Cond.laysFinal "ToolUnion" "ToolUnion" "refusedBy" "[I") ∈ lw_all := lw_g (lw_at lw_m2 99 rfl) rfl
theorem q493 : (Jvm.Cond.soleField "ToolUnion" "refusedBy") ∈ lw_all := lw_g (lw_at lw_m2 100 rfl) rfl
theorem q494 : (Jvm.Cond.laysFinal "ToolUnion" "ToolUnion" "seenAhead" "[I") ∈ lw_all := lw_g (lw_at lw_m2 101 rfl) rfl
theorem q495 : (Jvm.Cond.soleField "ToolUnion" "seenAhead") ∈ lw_all := lw_g (lw_at lw_m2 102 rfl) rfl
theorem q496 : (Jvm.Cond.laysFinal "ToolUnion" "ToolUnion" "seenBehind" "[I") ∈ lw_all := lw_g (lw_at lw_m2 103 rfl) rfl
theorem q497 : (Jvm.Cond.soleField "ToolUnion" "seenBehind") ∈ lw_all := lw_g (lw_at lw_m2 104 rfl) rfl
theorem q498 : (Jvm.Cond.laysFinal "ToolUnion" "ToolUnion" "ordersFrom" "[I") ∈ lw_all := lw_g (lw_at lw_m2 105 rfl) rfl
theorem q499 : (Jvm.Cond.soleField "ToolUnion" "ordersFrom") ∈ lw_all := lw_g (lw_at lw_m2 106 rfl) rfl
theorem q500 : (Jvm.Cond.lays "ToolUnion" "ToolUnion" "seenMany" "I") ∈ lw_all := lw_g (lw_at lw_m2 107 rfl) rfl
theorem q501 : (Jvm.Cond.soleField "ToolUnion" "seenMany") ∈ lw_all := lw_g (lw_at lw_m2 108 rfl) rfl
theorem q502 : (Jvm.Cond.laysFinal "ToolUnion" "ToolUnion" "rows" "[[I") ∈ lw_all := lw_g (lw_at lw_m2 109 rfl) rfl
theorem q503 : (Jvm.Cond.soleField "ToolUnion" "rows") ∈ lw_all := lw_g (lw_at lw_m2 110 rfl) rfl
theorem q504 : (Jvm.Cond.laysFinal "ToolUnion" "ToolUnion" "keptRows" "[[I") ∈ lw_all := lw_g (lw_at lw_m2 111 rfl) rfl
theorem q505 : (Jvm.Cond.soleField "ToolUnion" "keptRows") ∈ lw_all := lw_g (lw_at lw_m2 112 rfl) rfl
theorem q506 : (Jvm.Cond.laysFinal "ToolUnion" "ToolUnion" "keptOther" "[I") ∈ lw_all := lw_g (lw_at lw_m2 113 rfl) rfl
theorem q507 : (Jvm.Cond.soleField "ToolUnion" "keptOther") ∈ lw_all := lw_g (lw_at lw_m2 114 rfl) rfl
theorem q508 : (Jvm.Cond.lays "ToolUnion" "ToolUnion" "keptServing" "LToolUnion$Text;") ∈ lw_all := lw_g (lw_at lw_m2 115 rfl) rfl
theorem q509 : (Jvm.Cond.soleField "ToolUnion" "keptServing") ∈ lw_all := lw_g (lw_at lw_m2 116 rfl) rfl
theorem q510 : (Jvm.Cond.lays "ToolUnion" "ToolUnion" "keptEdges" "LToolUnion$Text;") ∈ lw_all := lw_g (lw_at lw_m2 117 rfl) rfl
theorem q511 : (Jvm.Cond.soleField "ToolUnion" "keptEdges") ∈ lw_all := lw_g (lw_at lw_m2 118 rfl) rfl
theorem q512 : (Jvm.Cond.lays "ToolUnion" "ToolUnion" "keptHull" "[LToolUnion$Work;") ∈ lw_all := lw_g (lw_at lw_m2 119 rfl) rfl
theorem q513 : (Jvm.Cond.soleField "ToolUnion" "keptHull") ∈ lw_all := lw_g (lw_at lw_m2 120 rfl) rfl
theorem q514 : (Jvm.Cond.lays "ToolUnion" "ToolUnion" "keptRota" "[LToolUnion$Turn;") ∈ lw_all := lw_g (lw_at lw_m2 121 rfl) rfl
theorem q515 : (Jvm.Cond.soleField "ToolUnion" "keptRota") ∈ lw_all := lw_g (lw_at lw_m2 122 rfl) rfl
theorem q516 : (Jvm.Cond.superclass "ToolUnion" "java/lang/Object") ∈ lw_all := lw_g (lw_at lw_m2 123 rfl) rfl
theorem q519 : (Jvm.Cond.instanceMethod ({ cls := "ToolUnion", name := "feed", desc := "(IIIII)I" } : Jvm.MethodName)) ∈ lw_all := lw_g (lw_at lw_m2 126 rfl) rfl
theorem q520 : (Jvm.Cond.selects "ToolUnion" ({ cls := "ToolUnion", name := "feed", desc := "(IIIII)I" } : Jvm.MethodName) ({ cls := "ToolUnion", name := "feed", desc := "(IIIII)I" } : Jvm.MethodName)) ∈ lw_all := lw_g (lw_at lw_m2 127 rfl) rfl
theorem q521 : (Jvm.Cond.code ({ cls := "ToolUnion", name := "feed", desc := "(IIIII)I" } : Jvm.MethodName) prog_1_method_7_code (6 : Nat) (Option.some Jvm.ClassFile.FieldType.int)) ∈ lw_all := lw_g (lw_at lw_m2 128 rfl) rfl
theorem q522 : (Jvm.Cond.methodLink "ToolUnion" (233 : Nat) ({ cls := "ToolUnion", name := "puts", desc := "(I)V" } : Jvm.MethodName)) ∈ lw_all := lw_g (lw_at lw_m2 129 rfl) rfl
theorem q523 : (Jvm.Cond.privateMethod ({ cls := "ToolUnion", name := "puts", desc := "(I)V" } : Jvm.MethodName)) ∈ lw_tbl := lw_at lw_m2 130 rfl
theorem q524 : (Jvm.Cond.instanceMethod ({ cls := "ToolUnion", name := "puts", desc := "(I)V" } : Jvm.MethodName)) ∈ lw_all := lw_g (lw_at lw_m2 131 rfl) rfl
theorem q525 : (Jvm.Cond.code ({ cls := "ToolUnion", name := "puts", desc := "(I)V" } : Jvm.MethodName) prog_1_method_6_code (3 : Nat) (Option.none : Option Jvm.ClassFile.FieldType)) ∈ lw_all := lw_g (lw_at lw_m2 132 rfl) rfl
theorem q527 : (Jvm.Cond.instanceMethod ({ cls := "ToolUnion", name := "end", desc := "(I)Z" } : Jvm.MethodName)) ∈ lw_all := lw_g (lw_at lw_m2 134 rfl) rfl
theorem q528 : (Jvm.Cond.selects "ToolUnion" ({ cls := "ToolUnion", name := "end", desc := "(I)Z" } : Jvm.MethodName) ({ cls := "ToolUnion", name := "end", desc := "(I)Z" } : Jvm.MethodName)) ∈ lw_all := lw_g (lw_at lw_m2 135 rfl) rfl
theorem q529 : (Jvm.Cond.code ({ cls := "ToolUnion", name := "end", desc := "(I)Z" } : Jvm.MethodName) prog_1_method_8_code (2 : Nat) (Option.some Jvm.ClassFile.FieldType.boolean)) ∈ lw_all := lw_g (lw_at lw_m2 136 rfl) rfl
theorem q530 : (Jvm.Cond.methodLink "ToolUnion" (237 : Nat) ({ cls := "ToolUnion", name := "isIn", desc := "(III)Z" } : Jvm.MethodName)) ∈ lw_all := lw_g (lw_at lw_m2 137 rfl) rfl
theorem q531 : (Jvm.Cond.static ({ cls := "ToolUnion", name := "isIn", desc := "(III)Z" } : Jvm.MethodName)) ∈ lw_all := lw_g (lw_at lw_m2 138 rfl) rfl
theorem q532 : (Jvm.Cond.code ({ cls := "ToolUnion", name := "isIn", desc := "(III)Z" } : Jvm.MethodName) prog_1_method_1_code (3 : Nat) (Option.some Jvm.ClassFile.FieldType.boolean)) ∈ lw_all := lw_g (lw_at lw_m2 139 rfl) rfl
theorem q534 : (Jvm.Cond.instanceMethod ({ cls := "ToolUnion", name := "text", desc := "(I)I" } : Jvm.MethodName)) ∈ lw_all := lw_g (lw_at lw_m2 141 rfl) rfl
theorem q535 : (Jvm.Cond.selects "ToolUnion" ({ cls := "ToolUnion", name := "text", desc := "(I)I" } : Jvm.MethodName) ({ cls := "ToolUnion", name := "text", desc := "(I)I" } : Jvm.MethodName)) ∈ lw_all := lw_g (lw_at lw_m2 142 rfl) rfl
theorem q536 : (Jvm.Cond.codeWith ({ cls := "ToolUnion", name := "text", desc := "(I)I" } : Jvm.MethodName) prog_1_method_36_code (5 : Nat) (Option.some Jvm.ClassFile.FieldType.int) [((10 : Nat), (29 : Nat), (36 : Nat), (303 : Nat)), ((10 : Nat), (29 : Nat), (62 : Nat), (0 : Nat)), ((36 : Nat), (55 : Nat), (62 : Nat), (0 : Nat)), ((62 : Nat), (64 : Nat), (62 : Nat), (0 : Nat))]) ∈ lw_all := lw_g (lw_at lw_m2 143 rfl) rfl
theorem q537 : (Jvm.Cond.classLink "ToolUnion" (303 : Nat) "ToolUnion$Fault") ∈ lw_all := lw_g (lw_at lw_m2 144 rfl) rfl
theorem q538 : (Jvm.Cond.methodLink "ToolUnion" (437 : Nat) ({ cls := "ToolUnion", name := "readsText", desc := "(I)I" } : Jvm.MethodName)) ∈ lw_all := lw_g (lw_at lw_m2 145 rfl) rfl
theorem q539 : (Jvm.Cond.privateMethod ({ cls := "ToolUnion", name := "readsText", desc := "(I)I" } : Jvm.MethodName)) ∈ lw_tbl := lw_at lw_m2 146 rfl
theorem q540 : (Jvm.Cond.instanceMethod ({ cls := "ToolUnion", name := "readsText", desc := "(I)I" } : Jvm.MethodName)) ∈ lw_all := lw_g (lw_at lw_m2 147 rfl) rfl
theorem q541 : (Jvm.Cond.code ({ cls := "ToolUnion", name := "readsText", desc := "(I)I" } : Jvm.MethodName) prog_1_method_35_code (3 : Nat) (Option.some Jvm.ClassFile.FieldType.int)) ∈ lw_all := lw_g (lw_at lw_m2 148 rfl) rfl
theorem q542 : (Jvm.Cond.methodLink "ToolUnion" (411 : Nat) ({ cls := "ToolUnion", name := "openText", desc := "(I)V" } : Jvm.MethodName)) ∈ lw_all := lw_g (lw_at lw_m2 149 rfl) rfl
theorem q543 : (Jvm.Cond.privateMethod ({ cls := "ToolUnion", name := "openText", desc := "(I)V" } : Jvm.MethodName)) ∈ lw_tbl := lw_at lw_m2 150 rfl
theorem q544 : (Jvm.Cond.instanceMethod ({ cls := "ToolUnion", name := "openText", desc := "(I)V" } : Jvm.MethodName)) ∈ lw_all := lw_g (lw_at lw_m2 151 rfl) rfl
theorem q545 : (Jvm.Cond.code ({ cls := "ToolUnion", name := "openText", desc := "(I)V" } : Jvm.MethodName) prog_1_method_32_code (2 : Nat) (Option.none : Option Jvm.ClassFile.FieldType)) ∈ lw_all := lw_g (lw_at lw_m2 152 rfl) rfl
theorem q546 : (Jvm.Cond.methodLink "ToolUnion" (316 : Nat) ({ cls := "ToolUnion", name := "readNext", desc := "()V" } : Jvm.MethodName)) ∈ lw_all := lw_g (lw_at lw_m2 153 rfl) rfl
theorem q547 : (Jvm.Cond.privateMethod ({ cls := "ToolUnion", name := "readNext", desc := "()V" } : Jvm.MethodName)) ∈ lw_tbl := lw_at lw_m2 154 rfl
theorem q548 : (Jvm.Cond.instanceMethod ({ cls := "ToolUnion", name := "readNext", desc := "()V" } : Jvm.MethodName)) ∈ lw_all := lw_g (lw_at lw_m2 155 rfl) rfl
theorem q549 : (Jvm.Cond.code ({ cls := "ToolUnion", name := "readNext", desc := "()V" } : Jvm.MethodName) prog_1_method_16_code (2 : Nat) (Option.none : Option Jvm.ClassFile.FieldType)) ∈ lw_all := lw_g (lw_at lw_m2 156 rfl) rfl
theorem q550 : (Jvm.Cond.methodLink "ToolUnion" (250 : Nat) ({ cls := "ToolUnion", name := "raw", desc := "(I)I" } : Jvm.MethodName)) ∈ lw_all := lw_g (lw_at lw_m2 157 rfl) rfl
theorem q551 : (Jvm.Cond.privateMethod ({ cls := "ToolUnion", name := "raw", desc := "(I)I" } : Jvm.MethodName)) ∈ lw_tbl := lw_at lw_m2 158 rfl
theorem q552 : (Jvm.Cond.instanceMethod ({ cls := "ToolUnion", name := "raw", desc := "(I)I" } : Jvm.MethodName)) ∈ lw_all := lw_g (lw_at lw_m2 159 rfl) rfl
theorem q553 : (Jvm.Cond.code ({ cls := "ToolUnion", name := "raw", desc := "(I)I" } : Jvm.MethodName) prog_1_method_9_code (2 : Nat) (Option.some Jvm.ClassFile.FieldType.int)) ∈ lw_all := lw_g (lw_at lw_m2 160 rfl) rfl
theorem q554 : (Jvm.Cond.fieldLink "ToolUnion" (277 : Nat) "ToolUnion$Token" "END" "LToolUnion$Token;") ∈ lw_all := lw_g (lw_at lw_m2 161 rfl) rfl
theorem q556 : (Jvm.Cond.fieldLink "ToolUnion" (280 : Nat) "ToolUnion$Token" "NONE" "LToolUnion$Token;") ∈ lw_all := lw_g (lw_at lw_m2 163 rfl) rfl
theorem q558 : (Jvm.Cond.methodLink "ToolUnion" (283 : Nat) ({ cls := "ToolUnion", name := "isLetter", desc := "(I)Z" } : Jvm.MethodName)) ∈ lw_all := lw_g (lw_at lw_m2 165 rfl) rfl
theorem q559 : (Jvm.Cond.static ({ cls := "ToolUnion", name := "isLetter", desc := "(I)Z" } : Jvm.MethodName)) ∈ lw_all := lw_g (lw_at lw_m2 166 rfl) rfl
theorem q560 : (Jvm.Cond.code ({ cls := "ToolUnion", name := "isLetter", desc := "(I)Z" } : Jvm.MethodName) prog_1_method_10_code (1 : Nat) (Option.some Jvm.ClassFile.FieldType.boolean)) ∈ lw_all := lw_g (lw_at lw_m2 167 rfl) rfl
theorem q561 : (Jvm.Cond.fieldLink "ToolUnion" (262 : Nat) "ToolUnion$Token" "WORD" "LToolUnion$Token;") ∈ lw_all := lw_g (lw_at lw_m2 168 rfl) rfl
theorem q563 : (Jvm.Cond.methodLink "ToolUnion" (287 : Nat) ({ cls := "ToolUnion", name := "wordOf", desc := "([Ljava/lang/String;)I" } : Jvm.MethodName)) ∈ lw_all := lw_g (lw_at lw_m2 170 rfl) rfl
theorem q564 : (Jvm.Cond.privateMethod ({ cls := "ToolUnion", name := "wordOf", desc := "([Ljava/lang/String;)I" } : Jvm.MethodName)) ∈ lw_tbl := lw_at lw_m2 171 rfl
theorem q565 : (Jvm.Cond.instanceMethod ({ cls := "ToolUnion", name := "wordOf", desc := "([Ljava/lang/String;)I" } : Jvm.MethodName)) ∈ lw_all := lw_g (lw_at lw_m2 172 rfl) rfl
theorem q566 : (Jvm.Cond.code ({ cls := "ToolUnion", name := "wordOf", desc := "([Ljava/lang/String;)I" } : Jvm.MethodName) prog_1_method_13_code (3 : Nat) (Option.some Jvm.ClassFile.FieldType.int)) ∈ lw_all := lw_g (lw_at lw_m2 173 rfl) rfl
theorem q567 : (Jvm.Cond.methodLink "ToolUnion" (267 : Nat) ({ cls := "ToolUnion", name := "spells", desc := "(Ljava/lang/String;)Z" } : Jvm.MethodName)) ∈ lw_all := lw_g (lw_at lw_m2 174 rfl) rfl
theorem q568 : (Jvm.Cond.privateMethod ({ cls := "ToolUnion", name := "spells", desc := "(Ljava/lang/String;)Z" } : Jvm.MethodName)) ∈ lw_tbl := lw_at lw_m2 175 rfl
theorem q569 : (Jvm.Cond.instanceMethod ({ cls := "ToolUnion", name := "spells", desc := "(Ljava/lang/String;)Z" } : Jvm.MethodName)) ∈ lw_all := lw_g (lw_at lw_m2 176 rfl) rfl
theorem q570 : (Jvm.Cond.code ({ cls := "ToolUnion", name := "spells", desc := "(Ljava/lang/String;)Z" } : Jvm.MethodName) prog_1_method_12_code (3 : Nat) (Option.some Jvm.ClassFile.FieldType.boolean)) ∈ lw_all := lw_g (lw_at lw_m2 177 rfl) rfl
theorem q571 : (Jvm.Cond.methodLink "ToolUnion" (241 : Nat) ({ cls := "java/lang/String", name := "length", desc := "()I" } : Jvm.MethodName)) ∈ lw_all := lw_g (lw_at lw_m2 178 rfl) rfl
theorem q581 : (Jvm.Cond.methodLink "ToolUnion" (254 : Nat) ({ cls := "java/lang/String", name := "charAt", desc := "(I)C" } : Jvm.MethodName)) ∈ lw_all := lw_g (lw_at lw_m2 188 rfl) rfl
theorem q619 : (Jvm.Cond.methodLink "ToolUnion" (291 : Nat) ({ cls := "ToolUnion", name := "isDigit", desc := "(I)Z" } : Jvm.MethodName)) ∈ lw_all := lw_g (lw_at lw_m2 226 rfl) rfl
theorem q620 : (Jvm.Cond.static ({ cls := "ToolUnion", name := "isDigit", desc := "(I)Z" } : Jvm.MethodName)) ∈ lw_all := lw_g (lw_at lw_m2 227 rfl) rfl
theorem q621 : (Jvm.Cond.code ({ cls := "ToolUnion", name := "isDigit", desc := "(I)Z" } : Jvm.MethodName) prog_1_method_11_code (1 : Nat) (Option.some Jvm.ClassFile.FieldType.boolean)) ∈ lw_all := lw_g (lw_at lw_m2 228 rfl) rfl
theorem q622 : (Jvm.Cond.constant "ToolUnion" (294 : Nat) (99999 : Int32)) ∈ lw_all := lw_g (lw_at lw_m2 229 rfl) rfl
theorem q623 : (Jvm.Cond.methodLink "ToolUnion" (1 : Nat) ({ cls := "java/lang/Math", name := "min", desc := "(II)I" } : Jvm.MethodName)) ∈ lw_all := lw_g (lw_at lw_m2 230 rfl) rfl
theorem q626 : (Jvm.Cond.fieldLink "ToolUnion" (295 : Nat) "ToolUnion$Token" "NUMBER" "LToolUnion$Token;") ∈ lw_all := lw_g (lw_at lw_m2 233 rfl) rfl
theorem q628 : (Jvm.Cond.stringRef "ToolUnion" (298 : Nat) ";+-*/()<=>") ∈ lw_tbl := lw_at lw_m2 235 rfl
theorem q629 : (Jvm.Cond.methodLink "ToolUnion" (300 : Nat) ({ cls := "java/lang/String", name := "indexOf", desc := "(I)I" } : Jvm.MethodName)) ∈ lw_all := lw_g (lw_at lw_m2 236 rfl) rfl
theorem q686 : (Jvm.Cond.fieldLink "ToolUnion" (271 : Nat) "ToolUnion$Token" "SIGN" "LToolUnion$Token;") ∈ lw_all := lw_g (lw_at lw_m3 53 rfl) rfl
theorem q688 : (Jvm.Cond.methodLink "ToolUnion" (414 : Nat) ({ cls := "ToolUnion", name := "readsHull", desc := "()[LToolUnion$Work;" } : Jvm.MethodName)) ∈ lw_all := lw_g (lw_at lw_m3 55 rfl) rfl
theorem q689 : (Jvm.Cond.privateMethod ({ cls := "ToolUnion", name := "readsHull", desc := "()[LToolUnion$Work;" } : Jvm.MethodName)) ∈ lw_tbl := lw_at lw_m3 56 rfl
theorem q690 : (Jvm.Cond.instanceMethod ({ cls := "ToolUnion", name := "readsHull", desc := "()[LToolUnion$Work;" } : Jvm.MethodName)) ∈ lw_all := lw_g (lw_at lw_m3 57 rfl) rfl
theorem q691 : (Jvm.Cond.code ({ cls := "ToolUnion", name := "readsHull", desc := "()[LToolUnion$Work;" } : Jvm.MethodName) prog_1_method_30_code (5 : Nat) (Option.some (Jvm.ClassFile.FieldType.array (Jvm.ClassFile.FieldType.object "ToolUnion$Work")))) ∈ lw_all := lw_g (lw_at lw_m3 58 rfl) rfl
theorem q692 : (Jvm.Cond.methodLink "ToolUnion" (341 : Nat) ({ cls := "ToolUnion", name := "isWord", desc := "(Ljava/lang/String;)Z" } : Jvm.MethodName)) ∈ lw_all := lw_g (lw_at lw_m3 59 rfl) rfl
theorem q693 : (Jvm.Cond.privateMethod ({ cls := "ToolUnion", name := "isWord", desc := "(Ljava/lang/String;)Z" } : Jvm.MethodName)) ∈ lw_tbl := lw_at lw_m3 60 rfl
theorem q694 : (Jvm.Cond.instanceMethod ({ cls := "ToolUnion", name := "isWord", desc := "(Ljava/lang/String;)Z" } : Jvm.MethodName)) ∈ lw_all := lw_g (lw_at lw_m3 61 rfl) rfl
theorem q695 : (Jvm.Cond.code ({ cls := "ToolUnion", name := "isWord", desc := "(Ljava/lang/String;)Z" } : Jvm.MethodName) prog_1_method_14_code (2 : Nat) (Option.some Jvm.ClassFile.FieldType.boolean)) ∈ lw_all := lw_g (lw_at lw_m3 62 rfl) rfl
theorem q696 : (Jvm.Cond.methodLink "ToolUnion" (312 : Nat) ({ cls := "ToolUnion", name := "must", desc := "(Z)V" } : Jvm.MethodName)) ∈ lw_all := lw_g (lw_at lw_m3 63 rfl) rfl
theorem q697 : (Jvm.Cond.privateMethod ({ cls := "ToolUnion", name := "must", desc := "(Z)V" } : Jvm.MethodName)) ∈ lw_tbl := lw_at lw_m3 64 rfl
theorem q698 : (Jvm.Cond.instanceMethod ({ cls := "ToolUnion", name := "must", desc := "(Z)V" } : Jvm.MethodName)) ∈ lw_all := lw_g (lw_at lw_m3 65 rfl) rfl
theorem q699 : (Jvm.Cond.code ({ cls := "ToolUnion", name := "must", desc := "(Z)V" } : Jvm.MethodName) prog_1_method_17_code (2 : Nat) (Option.none : Option Jvm.ClassFile.FieldType)) ∈ lw_all := lw_g (lw_at lw_m3 66 rfl) rfl
theorem q736 : (Jvm.Cond.methodLink "ToolUnion" (305 : Nat) ({ cls := "ToolUnion$Fault", name := "<init>", desc := "(II)V" } : Jvm.MethodName)) ∈ lw_all := lw_g (lw_at lw_m3 103 rfl) rfl
theorem q746 : (Jvm.Cond.fieldLink "ToolUnion" (440 : Nat) "ToolUnion$Fault" "kind" "I") ∈ lw_all := lw_g (lw_at lw_m3 113 rfl) rfl
theorem q748 : (Jvm.Cond.fieldLink "ToolUnion" (442 : Nat) "ToolUnion$Fault" "place" "I") ∈ lw_all := lw_g (lw_at lw_m3 115 rfl) rfl
theorem q766 : (Jvm.Cond.methodLink "ToolUnion" (390 : Nat) ({ cls := "ToolUnion", name := "work", desc := "(I)LToolUnion$Work;" } : Jvm.MethodName)) ∈ lw_all := lw_g (lw_at lw_m3 133 rfl) rfl
theorem q767 : (Jvm.Cond.privateMethod ({ cls := "ToolUnion", name := "work", desc := "(I)LToolUnion$Work;" } : Jvm.MethodName)) ∈ lw_tbl := lw_at lw_m3 134 rfl
theorem q768 : (Jvm.Cond.instanceMethod ({ cls := "ToolUnion", name := "work", desc := "(I)LToolUnion$Work;" } : Jvm.MethodName)) ∈ lw_all := lw_g (lw_at lw_m3 135 rfl) rfl
theorem q769 : (Jvm.Cond.code ({ cls := "ToolUnion", name := "work", desc := "(I)LToolUnion$Work;" } : Jvm.MethodName) prog_1_method_29_code (5 : Nat) (Option.some (Jvm.ClassFile.FieldType.object "ToolUnion$Work"))) ∈ lw_all := lw_g (lw_at lw_m3 136 rfl) rfl
theorem q770 : (Jvm.Cond.methodLink "ToolUnion" (383 : Nat) ({ cls := "ToolUnion", name := "told", desc := "(Ljava/lang/String;II)I" } : Jvm.MethodName)) ∈ lw_all := lw_g (lw_at lw_m3 137 rfl) rfl
theorem q771 : (Jvm.Cond.privateMethod ({ cls := "ToolUnion", name := "told", desc := "(Ljava/lang/String;II)I" } : Jvm.MethodName)) ∈ lw_tbl := lw_at lw_m3 138 rfl
theorem q772 : (Jvm.Cond.instanceMethod ({ cls := "ToolUnion", name := "told", desc := "(Ljava/lang/String;II)I" } : Jvm.MethodName)) ∈ lw_all := lw_g (lw_at lw_m3 139 rfl) rfl
theorem q773 : (Jvm.Cond.code ({ cls := "ToolUnion", name := "told", desc := "(Ljava/lang/String;II)I" } : Jvm.MethodName) prog_1_method_28_code (4 : Nat) (Option.some Jvm.ClassFile.FieldType.int)) ∈ lw_all := lw_g (lw_at lw_m3 140 rfl) rfl
theorem q774 : (Jvm.Cond.methodLink "ToolUnion" (380 : Nat) ({ cls := "ToolUnion", name := "number", desc := "(II)I" } : Jvm.MethodName)) ∈ lw_all := lw_g (lw_at lw_m3 141 rfl) rfl
theorem q775 : (Jvm.Cond.privateMethod ({ cls := "ToolUnion", name := "number", desc := "(II)I" } : Jvm.MethodName)) ∈ lw_tbl := lw_at lw_m3 142 rfl
theorem q776 : (Jvm.Cond.instanceMethod ({ cls := "ToolUnion", name := "number", desc := "(II)I" } : Jvm.MethodName)) ∈ lw_all := lw_g (lw_at lw_m3 143 rfl) rfl
theorem q777 : (Jvm.Cond.code ({ cls := "ToolUnion", name := "number", desc := "(II)I" } : Jvm.MethodName) prog_1_method_27_code (4 : Nat) (Option.some Jvm.ClassFile.FieldType.int)) ∈ lw_all := lw_g (lw_at lw_m3 144 rfl) rfl
theorem q779 : (Jvm.Cond.methodLinkNest "ToolUnion" (387 : Nat) ({ cls := "ToolUnion$Work", name := "<init>", desc := "(III)V" } : Jvm.MethodName) "ToolUnion") ∈ lw_tbl := lw_at lw_m3 146 rfl
theorem q796 : (Jvm.Cond.methodLink "ToolUnion" (358 : Nat) ({ cls := "ToolUnion", name := "takesSign", desc := "(C)V" } : Jvm.MethodName)) ∈ lw_all := lw_g (lw_at lw_m3 163 rfl) rfl
theorem q797 : (Jvm.Cond.privateMethod ({ cls := "ToolUnion", name := "takesSign", desc := "(C)V" } : Jvm.MethodName)) ∈ lw_tbl := lw_at lw_m3 164 rfl
theorem q798 : (Jvm.Cond.instanceMethod ({ cls := "ToolUnion", name := "takesSign", desc := "(C)V" } : Jvm.MethodName)) ∈ lw_all := lw_g (lw_at lw_m3 165 rfl) rfl
theorem q799 : (Jvm.Cond.code ({ cls := "ToolUnion", name := "takesSign", desc := "(C)V" } : Jvm.MethodName) prog_1_method_18_code (2 : Nat) (Option.none : Option Jvm.ClassFile.FieldType)) ∈ lw_all := lw_g (lw_at lw_m3 166 rfl) rfl
theorem q800 : (Jvm.Cond.methodLink "ToolUnion" (308 : Nat) ({ cls := "ToolUnion", name := "isSign", desc := "(C)Z" } : Jvm.MethodName)) ∈ lw_all := lw_g (lw_at lw_m3 167 rfl) rfl
theorem q801 : (Jvm.Cond.privateMethod ({ cls := "ToolUnion", name := "isSign", desc := "(C)Z" } : Jvm.MethodName)) ∈ lw_tbl := lw_at lw_m3 168 rfl
theorem q802 : (Jvm.Cond.instanceMethod ({ cls := "ToolUnion", name := "isSign", desc := "(C)Z" } : Jvm.MethodName)) ∈ lw_all := lw_g (lw_at lw_m3 169 rfl) rfl
theorem q803 : (Jvm.Cond.code ({ cls := "ToolUnion", name := "isSign", desc := "(C)Z" } : Jvm.MethodName) prog_1_method_15_code (2 : Nat) (Option.some Jvm.ClassFile.FieldType.boolean)) ∈ lw_all := lw_g (lw_at lw_m3 170 rfl) rfl
theorem q804 : (Jvm.Cond.methodLink "ToolUnion" (418 : Nat) ({ cls := "ToolUnion", name := "takesHull", desc := "([LToolUnion$Work;)I" } : Jvm.MethodName)) ∈ lw_all := lw_g (lw_at lw_m3 171 rfl) rfl
theorem q805 : (Jvm.Cond.privateMethod ({ cls := "ToolUnion", name := "takesHull", desc := "([LToolUnion$Work;)I" } : Jvm.MethodName)) ∈ lw_tbl := lw_at lw_m3 172 rfl
theorem q806 : (Jvm.Cond.instanceMethod ({ cls := "ToolUnion", name := "takesHull", desc := "([LToolUnion$Work;)I" } : Jvm.MethodName)) ∈ lw_all := lw_g (lw_at lw_m3 173 rfl) rfl
theorem q807 : (Jvm.Cond.code ({ cls := "ToolUnion", name := "takesHull", desc := "([LToolUnion$Work;)I" } : Jvm.MethodName) prog_1_method_33_code (2 : Nat) (Option.some Jvm.ClassFile.FieldType.int)) ∈ lw_all := lw_g (lw_at lw_m3 174 rfl) rfl
theorem q808 : (Jvm.Cond.methodLink "ToolUnion" (422 : Nat) ({ cls := "ToolUnion", name := "readsRota", desc := "()[LToolUnion$Turn;" } : Jvm.MethodName)) ∈ lw_all := lw_g (lw_at lw_m3 175 rfl) rfl
theorem q809 : (Jvm.Cond.privateMethod ({ cls := "ToolUnion", name := "readsRota", desc := "()[LToolUnion$Turn;" } : Jvm.MethodName)) ∈ lw_tbl := lw_at lw_m3 176 rfl
theorem q810 : (Jvm.Cond.instanceMethod ({ cls := "ToolUnion", name := "readsRota", desc := "()[LToolUnion$Turn;" } : Jvm.MethodName)) ∈ lw_all := lw_g (lw_at lw_m3 177 rfl) rfl
theorem q811 : (Jvm.Cond.code ({ cls := "ToolUnion", name := "readsRota", desc := "()[LToolUnion$Turn;" } : Jvm.MethodName) prog_1_method_31_code (5 : Nat) (Option.some (Jvm.ClassFile.FieldType.array (Jvm.ClassFile.FieldType.object "ToolUnion$Turn")))) ∈ lw_all := lw_g (lw_at lw_m3 178 rfl) rfl
theorem q813 : (Jvm.Cond.methodLinkNest "ToolUnion" (399 : Nat) ({ cls := "ToolUnion$Turn", name := "<init>", desc := "(IIIII)V" } : Jvm.MethodName) "ToolUnion") ∈ lw_tbl := lw_at lw_m3 180 rfl
theorem q833 : (Jvm.Cond.methodLink "ToolUnion" (426 : Nat) ({ cls := "ToolUnion", name := "takesRota", desc := "([LToolUnion$Turn;)I" } : Jvm.MethodName)) ∈ lw_all := lw_g (lw_at lw_m3 200 rfl) rfl
theorem q834 : (Jvm.Cond.privateMethod ({ cls := "ToolUnion", name := "takesRota", desc := "([LToolUnion$Turn;)I" } : Jvm.MethodName)) ∈ lw_tbl := lw_at lw_m3 201 rfl
theorem q835 : (Jvm.Cond.instanceMethod ({ cls := "ToolUnion", name := "takesRota", desc := "([LToolUnion$Turn;)I" } : Jvm.MethodName)) ∈ lw_all := lw_g (lw_at lw_m3 202 rfl) rfl
theorem q836 : (Jvm.Cond.code ({ cls := "ToolUnion", name := "takesRota", desc := "([LToolUnion$Turn;)I" } : Jvm.MethodName) prog_1_method_34_code (2 : Nat) (Option.some Jvm.ClassFile.FieldType.int)) ∈ lw_all := lw_g (lw_at lw_m3 203 rfl) rfl
theorem q837 : (Jvm.Cond.methodLink "ToolUnion" (430 : Nat) ({ cls := "ToolUnion", name := "readsLaw", desc := "(Z)LToolUnion$Text;" } : Jvm.MethodName)) ∈ lw_all := lw_g (lw_at lw_m3 204 rfl) rfl
theorem q838 : (Jvm.Cond.privateMethod ({ cls := "ToolUnion", name := "readsLaw", desc := "(Z)LToolUnion$Text;" } : Jvm.MethodName)) ∈ lw_tbl := lw_at lw_m3 205 rfl
theorem q839 : (Jvm.Cond.instanceMethod ({ cls := "ToolUnion", name := "readsLaw", desc := "(Z)LToolUnion$Text;" } : Jvm.MethodName)) ∈ lw_all := lw_g (lw_at lw_m3 206 rfl) rfl
theorem q840 : (Jvm.Cond.code ({ cls := "ToolUnion", name := "readsLaw", desc := "(Z)LToolUnion$Text;" } : Jvm.MethodName) prog_1_method_26_code (4 : Nat) (Option.some (Jvm.ClassFile.FieldType.object "ToolUnion$Text"))) ∈ lw_all := lw_g (lw_at lw_m3 207 rfl) rfl
theorem q841 : (Jvm.Cond.methodLink "ToolUnion" (362 : Nat) ({ cls := "ToolUnion", name := "sum", desc := "()LToolUnion$Term;" } : Jvm.MethodName)) ∈ lw_all := lw_g (lw_at lw_m3 208 rfl) rfl
theorem q842 : (Jvm.Cond.privateMethod ({ cls := "ToolUnion", name := "sum", desc := "()LToolUnion$Term;" } : Jvm.MethodName)) ∈ lw_tbl := lw_at lw_m3 209 rfl
theorem q843 : (Jvm.Cond.instanceMethod ({ cls := "ToolUnion", name := "sum", desc := "()LToolUnion$Term;" } : Jvm.MethodName)) ∈ lw_all := lw_g (lw_at lw_m3 210 rfl) rfl
theorem q844 : (Jvm.Cond.code ({ cls := "ToolUnion", name := "sum", desc := "()LToolUnion$Term;" } : Jvm.MethodName) prog_1_method_21_code (3 : Nat) (Option.some (Jvm.ClassFile.FieldType.object "ToolUnion$Term"))) ∈ lw_all := lw_g (lw_at lw_m3 211 rfl) rfl
theorem q845 : (Jvm.Cond.methodLink "ToolUnion" (335 : Nat) ({ cls := "ToolUnion", name := "product", desc := "()LToolUnion$Term;" } : Jvm.MethodName)) ∈ lw_all := lw_g (lw_at lw_m3 212 rfl) rfl
theorem q846 : (Jvm.Cond.privateMethod ({ cls := "ToolUnion", name := "product", desc := "()LToolUnion$Term;" } : Jvm.MethodName)) ∈ lw_tbl := lw_at lw_m3 213 rfl
theorem q847 : (Jvm.Cond.instanceMethod ({ cls := "ToolUnion", name := "product", desc := "()LToolUnion$Term;" } : Jvm.MethodName)) ∈ lw_all := lw_g (lw_at lw_m3 214 rfl) rfl
theorem q848 : (Jvm.Cond.code ({ cls := "ToolUnion", name := "product", desc := "()LToolUnion$Term;" } : Jvm.MethodName) prog_1_method_20_code (3 : Nat) (Option.some (Jvm.ClassFile.FieldType.object "ToolUnion$Term"))) ∈ lw_all := lw_g (lw_at lw_m3 215 rfl) rfl
theorem q849 : (Jvm.Cond.methodLink "ToolUnion" (326 : Nat) ({ cls := "ToolUnion", name := "unit", desc := "()LToolUnion$Term;" } : Jvm.MethodName)) ∈ lw_all := lw_g (lw_at lw_m3 216 rfl) rfl
theorem q850 : (Jvm.Cond.privateMethod ({ cls := "ToolUnion", name := "unit", desc := "()LToolUnion$Term;" } : Jvm.MethodName)) ∈ lw_tbl := lw_at lw_m3 217 rfl
theorem q851 : (Jvm.Cond.instanceMethod ({ cls := "ToolUnion", name := "unit", desc := "()LToolUnion$Term;" } : Jvm.MethodName)) ∈ lw_all := lw_g (lw_at lw_m3 218 rfl) rfl
theorem q852 : (Jvm.Cond.code ({ cls := "ToolUnion", name := "unit", desc := "()LToolUnion$Term;" } : Jvm.MethodName) prog_1_method_19_code (2 : Nat) (Option.some (Jvm.ClassFile.FieldType.object "ToolUnion$Term"))) ∈ lw_all := lw_g (lw_at lw_m3 219 rfl) rfl
theorem q853 : (Jvm.Cond.classLink "ToolUnion" (319 : Nat) "ToolUnion$Number") ∈ lw_all := lw_g (lw_at lw_m3 220 rfl) rfl
theorem q855 : (Jvm.Cond.methodLink "ToolUnion" (321 : Nat) ({ cls := "ToolUnion$Number", name := "<init>", desc := "(I)V" } : Jvm.MethodName)) ∈ lw_all := lw_g (lw_at lw_m3 222 rfl) rfl
theorem q866 : (Jvm.Cond.classLink "ToolUnion" (323 : Nat) "ToolUnion$Word") ∈ lw_all := lw_g (lw_at lw_m3 233 rfl) rfl
theorem q868 : (Jvm.Cond.methodLink "ToolUnion" (325 : Nat) ({ cls := "ToolUnion$Word", name := "<init>", desc := "(I)V" } : Jvm.MethodName)) ∈ lw_all := lw_g (lw_at lw_m3 235 rfl) rfl
theorem q876 : (Jvm.Cond.classLink "ToolUnion" (330 : Nat) "ToolUnion$Two") ∈ lw_all := lw_g (lw_at lw_m4 3 rfl) rfl
theorem q878 : (Jvm.Cond.methodLink "ToolUnion" (332 : Nat) ({ cls := "ToolUnion$Two", name := "<init>", desc := "(CLToolUnion$Term;LToolUnion$Term;)V" } : Jvm.MethodName)) ∈ lw_all := lw_g (lw_at lw_m4 5 rfl) rfl
theorem q892 : (Jvm.Cond.methodLink "ToolUnion" (355 : Nat) ({ cls := "ToolUnion", name := "any", desc := "()LToolUnion$Term;" } : Jvm.MethodName)) ∈ lw_all := lw_g (lw_at lw_m4 19 rfl) rfl
theorem q893 : (Jvm.Cond.privateMethod ({ cls := "ToolUnion", name := "any", desc := "()LToolUnion$Term;" } : Jvm.MethodName)) ∈ lw_tbl := lw_at lw_m4 20 rfl
theorem q894 : (Jvm.Cond.instanceMethod ({ cls := "ToolUnion", name := "any", desc := "()LToolUnion$Term;" } : Jvm.MethodName)) ∈ lw_all := lw_g (lw_at lw_m4 21 rfl) rfl
theorem q895 : (Jvm.Cond.code ({ cls := "ToolUnion", name := "any", desc := "()LToolUnion$Term;" } : Jvm.MethodName) prog_1_method_25_code (2 : Nat) (Option.some (Jvm.ClassFile.FieldType.object "ToolUnion$Term"))) ∈ lw_all := lw_g (lw_at lw_m4 22 rfl) rfl
theorem q896 : (Jvm.Cond.methodLink "ToolUnion" (365 : Nat) ({ cls := "ToolUnion", name := "both", desc := "()LToolUnion$Term;" } : Jvm.MethodName)) ∈ lw_all := lw_g (lw_at lw_m4 23 rfl) rfl
theorem q897 : (Jvm.Cond.privateMethod ({ cls := "ToolUnion", name := "both", desc := "()LToolUnion$Term;" } : Jvm.MethodName)) ∈ lw_tbl := lw_at lw_m4 24 rfl
theorem q898 : (Jvm.Cond.instanceMethod ({ cls := "ToolUnion", name := "both", desc := "()LToolUnion$Term;" } : Jvm.MethodName)) ∈ lw_all := lw_g (lw_at lw_m4 25 rfl) rfl
theorem q899 : (Jvm.Cond.code ({ cls := "ToolUnion", name := "both", desc := "()LToolUnion$Term;" } : Jvm.MethodName) prog_1_method_24_code (2 : Nat) (Option.some (Jvm.ClassFile.FieldType.object "ToolUnion$Term"))) ∈ lw_all := lw_g (lw_at lw_m4 26 rfl) rfl
theorem q900 : (Jvm.Cond.methodLink "ToolUnion" (347 : Nat) ({ cls := "ToolUnion", name := "oneOf", desc := "()LToolUnion$Term;" } : Jvm.MethodName)) ∈ lw_all := lw_g (lw_at lw_m4 27 rfl) rfl
theorem q901 : (Jvm.Cond.privateMethod ({ cls := "ToolUnion", name := "oneOf", desc := "()LToolUnion$Term;" } : Jvm.MethodName)) ∈ lw_tbl := lw_at lw_m4 28 rfl
theorem q902 : (Jvm.Cond.instanceMethod ({ cls := "ToolUnion", name := "oneOf", desc := "()LToolUnion$Term;" } : Jvm.MethodName)) ∈ lw_all := lw_g (lw_at lw_m4 29 rfl) rfl
theorem q903 : (Jvm.Cond.code ({ cls := "ToolUnion", name := "oneOf", desc := "()LToolUnion$Term;" } : Jvm.MethodName) prog_1_method_23_code (3 : Nat) (Option.some (Jvm.ClassFile.FieldType.object "ToolUnion$Term"))) ∈ lw_all := lw_g (lw_at lw_m4 30 rfl) rfl
theorem q904 : (Jvm.Cond.methodLink "ToolUnion" (344 : Nat) ({ cls := "ToolUnion", name := "opens", desc := "()V" } : Jvm.MethodName)) ∈ lw_all := lw_g (lw_at lw_m4 31 rfl) rfl
theorem q905 : (Jvm.Cond.privateMethod ({ cls := "ToolUnion", name := "opens", desc := "()V" } : Jvm.MethodName)) ∈ lw_tbl := lw_at lw_m4 32 rfl
theorem q906 : (Jvm.Cond.instanceMethod ({ cls := "ToolUnion", name := "opens", desc := "()V" } : Jvm.MethodName)) ∈ lw_all := lw_g (lw_at lw_m4 33 rfl) rfl
theorem q907 : (Jvm.Cond.code ({ cls := "ToolUnion", name := "opens", desc := "()V" } : Jvm.MethodName) prog_1_method_22_code (1 : Nat) (Option.none : Option Jvm.ClassFile.FieldType)) ∈ lw_all := lw_g (lw_at lw_m4 34 rfl) rfl
theorem q908 : (Jvm.Cond.classLink "ToolUnion" (350 : Nat) "ToolUnion$Not") ∈ lw_all := lw_g (lw_at lw_m4 35 rfl) rfl
theorem q910 : (Jvm.Cond.methodLink "ToolUnion" (352 : Nat) ({ cls := "ToolUnion$Not", name := "<init>", desc := "(LToolUnion$Term;)V" } : Jvm.MethodName)) ∈ lw_all := lw_g (lw_at lw_m4 37 rfl) rfl
theorem q919 : (Jvm.Cond.instanceMethod ({ cls := "ToolUnion", name := "fault", desc := "(I)I" } : Jvm.MethodName)) ∈ lw_all := lw_g (lw_at lw_m4 46 rfl) rfl
theorem q920 : (Jvm.Cond.selects "ToolUnion" ({ cls := "ToolUnion", name := "fault", desc := "(I)I" } : Jvm.MethodName) ({ cls := "ToolUnion", name := "fault", desc := "(I)I" } : Jvm.MethodName)) ∈ lw_all := lw_g (lw_at lw_m4 47 rfl) rfl
theorem q921 : (Jvm.Cond.code ({ cls := "ToolUnion", name := "fault", desc := "(I)I" } : Jvm.MethodName) prog_1_method_37_code (2 : Nat) (Option.some Jvm.ClassFile.FieldType.int)) ∈ lw_all := lw_g (lw_at lw_m4 48 rfl) rfl
theorem q923 : (Jvm.Cond.instanceMethod ({ cls := "ToolUnion", name := "undo", desc := "()Z" } : Jvm.MethodName)) ∈ lw_all := lw_g (lw_at lw_m4 50 rfl) rfl
theorem q924 : (Jvm.Cond.selects "ToolUnion" ({ cls := "ToolUnion", name := "undo", desc := "()Z" } : Jvm.MethodName) ({ cls := "ToolUnion", name := "undo", desc := "()Z" } : Jvm.MethodName)) ∈ lw_all := lw_g (lw_at lw_m4 51 rfl) rfl
theorem q925 : (Jvm.Cond.code ({ cls := "ToolUnion", name := "undo", desc := "()Z" } : Jvm.MethodName) prog_1_method_40_code (1 : Nat) (Option.some Jvm.ClassFile.FieldType.boolean)) ∈ lw_all := lw_g (lw_at lw_m4 52 rfl) rfl
theorem q926 : (Jvm.Cond.methodLink "ToolUnion" (457 : Nat) ({ cls := "ToolUnion$Yard", name := "become", desc := "(LToolUnion$Yard;)V" } : Jvm.MethodName)) ∈ lw_all := lw_g (lw_at lw_m4 53 rfl) rfl
theorem q931 : (Jvm.Cond.static ({ cls := "ToolUnion", name := "copies", desc := "([I[I)V" } : Jvm.MethodName)) ∈ lw_all := lw_g (lw_at lw_m4 58 rfl) rfl
theorem q932 : (Jvm.Cond.code ({ cls := "ToolUnion", name := "copies", desc := "([I[I)V" } : Jvm.MethodName) prog_1_method_4_code (2 : Nat) (Option.none : Option Jvm.ClassFile.FieldType)) ∈ lw_all := lw_g (lw_at lw_m4 59 rfl) rfl
theorem q933 : (Jvm.Cond.methodLink "ToolUnion" (10 : Nat) ({ cls := "java/lang/System", name := "arraycopy", desc := "(Ljava/lang/Object;ILjava/lang/Object;II)V" } : Jvm.MethodName)) ∈ lw_all := lw_g (lw_at lw_m4 60 rfl) rfl
theorem q937 : (Jvm.Cond.instanceMethod ({ cls := "ToolUnion", name := "state", desc := "(I)I" } : Jvm.MethodName)) ∈ lw_all := lw_g (lw_at lw_m4 64 rfl) rfl
theorem q938 : (Jvm.Cond.selects "ToolUnion" ({ cls := "ToolUnion", name := "state", desc := "(I)I" } : Jvm.MethodName) ({ cls := "ToolUnion", name := "state", desc := "(I)I" } : Jvm.MethodName)) ∈ lw_all := lw_g (lw_at lw_m4 65 rfl) rfl
theorem q939 : (Jvm.Cond.code ({ cls := "ToolUnion", name := "state", desc := "(I)I" } : Jvm.MethodName) prog_1_method_45_code (3 : Nat) (Option.some Jvm.ClassFile.FieldType.int)) ∈ lw_all := lw_g (lw_at lw_m4 66 rfl) rfl
theorem q941 : (Jvm.Cond.instanceMethod ({ cls := "ToolUnion", name := "tool", desc := "(III)I" } : Jvm.MethodName)) ∈ lw_all := lw_g (lw_at lw_m4 68 rfl) rfl
theorem q942 : (Jvm.Cond.selects "ToolUnion" ({ cls := "ToolUnion", name := "tool", desc := "(III)I" } : Jvm.MethodName) ({ cls := "ToolUnion", name := "tool", desc := "(III)I" } : Jvm.MethodName)) ∈ lw_all := lw_g (lw_at lw_m4 69 rfl) rfl
theorem q943 : (Jvm.Cond.code ({ cls := "ToolUnion", name := "tool", desc := "(III)I" } : Jvm.MethodName) prog_1_method_46_code (5 : Nat) (Option.some Jvm.ClassFile.FieldType.int)) ∈ lw_all := lw_g (lw_at lw_m4 70 rfl) rfl
theorem q944 : (Jvm.Cond.methodLink "ToolUnion" (464 : Nat) ({ cls := "ToolUnion", name := "isKind", desc := "(I)Z" } : Jvm.MethodName)) ∈ lw_all := lw_g (lw_at lw_m4 71 rfl) rfl
theorem q945 : (Jvm.Cond.static ({ cls := "ToolUnion", name := "isKind", desc := "(I)Z" } : Jvm.MethodName)) ∈ lw_all := lw_g (lw_at lw_m4 72 rfl) rfl
theorem q946 : (Jvm.Cond.code ({ cls := "ToolUnion", name := "isKind", desc := "(I)Z" } : Jvm.MethodName) prog_1_method_44_code (1 : Nat) (Option.some Jvm.ClassFile.FieldType.boolean)) ∈ lw_all := lw_g (lw_at lw_m4 73 rfl) rfl
theorem q947 : (Jvm.Cond.methodLink "ToolUnion" (467 : Nat) ({ cls := "ToolUnion", name := "isBranch", desc := "(I)Z" } : Jvm.MethodName)) ∈ lw_all := lw_g (lw_at lw_m4 74 rfl) rfl
theorem q948 : (Jvm.Cond.static ({ cls := "ToolUnion", name := "isBranch", desc := "(I)Z" } : Jvm.MethodName)) ∈ lw_all := lw_g (lw_at lw_m4 75 rfl) rfl
theorem q949 : (Jvm.Cond.code ({ cls := "ToolUnion", name := "isBranch", desc := "(I)Z" } : Jvm.MethodName) prog_1_method_43_code (1 : Nat) (Option.some Jvm.ClassFile.FieldType.boolean)) ∈ lw_all := lw_g (lw_at lw_m4 76 rfl) rfl
theorem q951 : (Jvm.Cond.instanceMethod ({ cls := "ToolUnion", name := "man", desc := "(II)I" } : Jvm.MethodName)) ∈ lw_all := lw_g (lw_at lw_m4 78 rfl) rfl
theorem q952 : (Jvm.Cond.selects "ToolUnion" ({ cls := "ToolUnion", name := "man", desc := "(II)I" } : Jvm.MethodName) ({ cls := "ToolUnion", name := "man", desc := "(II)I" } : Jvm.MethodName)) ∈ lw_all := lw_g (lw_at lw_m4 79 rfl) rfl
theorem q953 : (Jvm.Cond.code ({ cls := "ToolUnion", name := "man", desc := "(II)I" } : Jvm.MethodName) prog_1_method_47_code (3 : Nat) (Option.some Jvm.ClassFile.FieldType.int)) ∈ lw_all := lw_g (lw_at lw_m4 80 rfl) rfl
theorem q955 : (Jvm.Cond.instanceMethod ({ cls := "ToolUnion", name := "set", desc := "(III)Z" } : Jvm.MethodName)) ∈ lw_all := lw_g (lw_at lw_m4 82 rfl) rfl
theorem q956 : (Jvm.Cond.selects "ToolUnion" ({ cls := "ToolUnion", name := "set", desc := "(III)Z" } : Jvm.MethodName) ({ cls := "ToolUnion", name := "set", desc := "(III)Z" } : Jvm.MethodName)) ∈ lw_all := lw_g (lw_at lw_m4 83 rfl) rfl
theorem q957 : (Jvm.Cond.code ({ cls := "ToolUnion", name := "set", desc := "(III)Z" } : Jvm.MethodName) prog_1_method_48_code (4 : Nat) (Option.some Jvm.ClassFile.FieldType.boolean)) ∈ lw_all := lw_g (lw_at lw_m4 84 rfl) rfl
theorem q958 : (Jvm.Cond.fieldLink "ToolUnion" (478 : Nat) "ToolUnion" "LEAST_SET" "[I") ∈ lw_all := lw_g (lw_at lw_m4 85 rfl) rfl
theorem q959 : (Jvm.Cond.laysStatic "ToolUnion" "LEAST_SET" "[I") ∈ lw_tbl := lw_at lw_m4 86 rfl
theorem q960 : (Jvm.Cond.fieldLink "ToolUnion" (481 : Nat) "ToolUnion" "MOST_SET" "[I") ∈ lw_all := lw_g (lw_at lw_m4 87 rfl) rfl
theorem q961 : (Jvm.Cond.laysStatic "ToolUnion" "MOST_SET" "[I") ∈ lw_tbl := lw_at lw_m4 88 rfl
theorem q962 : (Jvm.Cond.methodLink "ToolUnion" (484 : Nat) ({ cls := "ToolUnion", name := "isTool", desc := "(I)Z" } : Jvm.MethodName)) ∈ lw_all := lw_g (lw_at lw_m4 89 rfl) rfl
theorem q963 : (Jvm.Cond.privateMethod ({ cls := "ToolUnion", name := "isTool", desc := "(I)Z" } : Jvm.MethodName)) ∈ lw_tbl := lw_at lw_m4 90 rfl
theorem q964 : (Jvm.Cond.instanceMethod ({ cls := "ToolUnion", name := "isTool", desc := "(I)Z" } : Jvm.MethodName)) ∈ lw_all := lw_g (lw_at lw_m4 91 rfl) rfl
theorem q965 : (Jvm.Cond.code ({ cls := "ToolUnion", name := "isTool", desc := "(I)Z" } : Jvm.MethodName) prog_1_method_41_code (2 : Nat) (Option.some Jvm.ClassFile.FieldType.boolean)) ∈ lw_all := lw_g (lw_at lw_m4 92 rfl) rfl
theorem q966 : (Jvm.Cond.methodLink "ToolUnion" (487 : Nat) ({ cls := "ToolUnion", name := "isMan", desc := "(I)Z" } : Jvm.MethodName)) ∈ lw_all := lw_g (lw_at lw_m4 93 rfl) rfl
theorem q967 : (Jvm.Cond.privateMethod ({ cls := "ToolUnion", name := "isMan", desc := "(I)Z" } : Jvm.MethodName)) ∈ lw_tbl := lw_at lw_m4 94 rfl
theorem q968 : (Jvm.Cond.instanceMethod ({ cls := "ToolUnion", name := "isMan", desc := "(I)Z" } : Jvm.MethodName)) ∈ lw_all := lw_g (lw_at lw_m4 95 rfl) rfl
theorem q969 : (Jvm.Cond.code ({ cls := "ToolUnion", name := "isMan", desc := "(I)Z" } : Jvm.MethodName) prog_1_method_42_code (2 : Nat) (Option.some Jvm.ClassFile.FieldType.boolean)) ∈ lw_all := lw_g (lw_at lw_m4 96 rfl) rfl
theorem q971 : (Jvm.Cond.instanceMethod ({ cls := "ToolUnion", name := "mend", desc := "(IZ)Z" } : Jvm.MethodName)) ∈ lw_all := lw_g (lw_at lw_m4 98 rfl) rfl
theorem q972 : (Jvm.Cond.selects "ToolUnion" ({ cls := "ToolUnion", name := "mend", desc := "(IZ)Z" } : Jvm.MethodName) ({ cls := "ToolUnion", name := "mend", desc := "(IZ)Z" } : Jvm.MethodName)) ∈ lw_all := lw_g (lw_at lw_m4 99 rfl) rfl
theorem q973 : (Jvm.Cond.code ({ cls := "ToolUnion", name := "mend", desc := "(IZ)Z" } : Jvm.MethodName) prog_1_method_49_code (3 : Nat) (Option.some Jvm.ClassFile.FieldType.boolean)) ∈ lw_all := lw_g (lw_at lw_m4 100 rfl) rfl
theorem q974 : (Jvm.Cond.methodLink "ToolUnion" (493 : Nat) ({ cls := "ToolUnion", name := "keepsAhead", desc := "()V" } : Jvm.MethodName)) ∈ lw_all := lw_g (lw_at lw_m4 101 rfl) rfl
theorem q975 : (Jvm.Cond.privateMethod ({ cls := "ToolUnion", name := "keepsAhead", desc := "()V" } : Jvm.MethodName)) ∈ lw_tbl := lw_at lw_m4 102 rfl
theorem q976 : (Jvm.Cond.instanceMethod ({ cls := "ToolUnion", name := "keepsAhead", desc := "()V" } : Jvm.MethodName)) ∈ lw_all := lw_g (lw_at lw_m4 103 rfl) rfl
theorem q977 : (Jvm.Cond.code ({ cls := "ToolUnion", name := "keepsAhead", desc := "()V" } : Jvm.MethodName) prog_1_method_39_code (2 : Nat) (Option.none : Option Jvm.ClassFile.FieldType)) ∈ lw_all := lw_g (lw_at lw_m4 104 rfl) rfl
theorem q978 : (Jvm.Cond.methodLink "ToolUnion" (496 : Nat) ({ cls := "ToolUnion", name := "held", desc := "(III)I" } : Jvm.MethodName)) ∈ lw_all := lw_g (lw_at lw_m4 105 rfl) rfl
theorem q979 : (Jvm.Cond.static ({ cls := "ToolUnion", name := "held", desc := "(III)I" } : Jvm.MethodName)) ∈ lw_all := lw_g (lw_at lw_m4 106 rfl) rfl
theorem q980 : (Jvm.Cond.code ({ cls := "ToolUnion", name := "held", desc := "(III)I" } : Jvm.MethodName) prog_1_method_2_code (3 : Nat) (Option.some Jvm.ClassFile.FieldType.int)) ∈ lw_all := lw_g (lw_at lw_m4 107 rfl) rfl
theorem q981 : (Jvm.Cond.methodLink "ToolUnion" (7 : Nat) ({ cls := "java/lang/Math", name := "max", desc := "(II)I" } : Jvm.MethodName)) ∈ lw_all := lw_g (lw_at lw_m4 108 rfl) rfl
theorem q983 : (Jvm.Cond.instanceMethod ({ cls := "ToolUnion", name := "strike", desc := "(IZ)Z" } : Jvm.MethodName)) ∈ lw_all := lw_g (lw_at lw_m4 110 rfl) rfl
theorem q984 : (Jvm.Cond.selects "ToolUnion" ({ cls := "ToolUnion", name := "strike", desc := "(IZ)Z" } : Jvm.MethodName) ({ cls := "ToolUnion", name := "strike", desc := "(IZ)Z" } : Jvm.MethodName)) ∈ lw_all := lw_g (lw_at lw_m4 111 rfl) rfl
theorem q985 : (Jvm.Cond.code ({ cls := "ToolUnion", name := "strike", desc := "(IZ)Z" } : Jvm.MethodName) prog_1_method_50_code (3 : Nat) (Option.some Jvm.ClassFile.FieldType.boolean)) ∈ lw_all := lw_g (lw_at lw_m4 112 rfl) rfl
theorem q986 : (Jvm.Cond.methodLink "ToolUnion" (503 : Nat) ({ cls := "ToolUnion", name := "has", desc := "(II)Z" } : Jvm.MethodName)) ∈ lw_all := lw_g (lw_at lw_m4 113 rfl) rfl
theorem q987 : (Jvm.Cond.static ({ cls := "ToolUnion", name := "has", desc := "(II)Z" } : Jvm.MethodName)) ∈ lw_all := lw_g (lw_at lw_m4 114 rfl) rfl
theorem q988 : (Jvm.Cond.code ({ cls := "ToolUnion", name := "has", desc := "(II)Z" } : Jvm.MethodName) prog_1_method_3_code (2 : Nat) (Option.some Jvm.ClassFile.FieldType.boolean)) ∈ lw_all := lw_g (lw_at lw_m4 115 rfl) rfl
theorem q990 : (Jvm.Cond.instanceMethod ({ cls := "ToolUnion", name := "may", desc := "(IIZ)Z" } : Jvm.MethodName)) ∈ lw_all := lw_g (lw_at lw_m4 117 rfl) rfl
theorem q991 : (Jvm.Cond.selects "ToolUnion" ({ cls := "ToolUnion", name := "may", desc := "(IIZ)Z" } : Jvm.MethodName) ({ cls := "ToolUnion", name := "may", desc := "(IIZ)Z" } : Jvm.MethodName)) ∈ lw_all := lw_g (lw_at lw_m4 118 rfl) rfl
theorem q992 : (Jvm.Cond.code ({ cls := "ToolUnion", name := "may", desc := "(IIZ)Z" } : Jvm.MethodName) prog_1_method_51_code (4 : Nat) (Option.some Jvm.ClassFile.FieldType.boolean)) ∈ lw_all := lw_g (lw_at lw_m4 119 rfl) rfl
theorem q994 : (Jvm.Cond.instanceMethod ({ cls := "ToolUnion", name := "hours", desc := "(I)I" } : Jvm.MethodName)) ∈ lw_all := lw_g (lw_at lw_m4 121 rfl) rfl
theorem q995 : (Jvm.Cond.selects "ToolUnion" ({ cls := "ToolUnion", name := "hours", desc := "(I)I" } : Jvm.MethodName) ({ cls := "ToolUnion", name := "hours", desc := "(I)I" } : Jvm.MethodName)) ∈ lw_all := lw_g (lw_at lw_m4 122 rfl) rfl
theorem q996 : (Jvm.Cond.code ({ cls := "ToolUnion", name := "hours", desc := "(I)I" } : Jvm.MethodName) prog_1_method_52_code (4 : Nat) (Option.some Jvm.ClassFile.FieldType.int)) ∈ lw_all := lw_g (lw_at lw_m4 123 rfl) rfl
theorem q997 : (Jvm.Cond.methodLink "ToolUnion" (507 : Nat) ({ cls := "ToolUnion$Yard", name := "goesBy", desc := "()I" } : Jvm.MethodName)) ∈ lw_all := lw_g (lw_at lw_m4 124 rfl) rfl
theorem q1095 : (Jvm.Cond.privateMethod ({ cls := "ToolUnion", name := "notes", desc := "(LToolUnion$Turn;)V" } : Jvm.MethodName)) ∈ lw_tbl := lw_at lw_m4 222 rfl
theorem q1096 : (Jvm.Cond.instanceMethod ({ cls := "ToolUnion", name := "notes", desc := "(LToolUnion$Turn;)V" } : Jvm.MethodName)) ∈ lw_all := lw_g (lw_at lw_m4 223 rfl) rfl
theorem q1097 : (Jvm.Cond.code ({ cls := "ToolUnion", name := "notes", desc := "(LToolUnion$Turn;)V" } : Jvm.MethodName) prog_1_method_38_code (3 : Nat) (Option.none : Option Jvm.ClassFile.FieldType)) ∈ lw_all := lw_g (lw_at lw_m4 224 rfl) rfl
theorem q1098 : (Jvm.Cond.methodLink "ToolUnion" (451 : Nat) ({ cls := "ToolUnion$Turn", name := "tool", desc := "()I" } : Jvm.MethodName)) ∈ lw_all := lw_g (lw_at lw_m4 225 rfl) rfl
theorem q1099 : (Jvm.Cond.methodLink "ToolUnion" (453 : Nat) ({ cls := "ToolUnion$Turn", name := "man", desc := "()I" } : Jvm.MethodName)) ∈ lw_all := lw_g (lw_at lw_m4 226 rfl) rfl
theorem q1100 : (Jvm.Cond.methodLink "ToolUnion" (455 : Nat) ({ cls := "ToolUnion$Turn", name := "work", desc := "()I" } : Jvm.MethodName)) ∈ lw_all := lw_g (lw_at lw_m4 227 rfl) rfl
theorem q1113 : (Jvm.Cond.instanceMethod ({ cls := "ToolUnion", name := "work", desc := "(II)I" } : Jvm.MethodName)) ∈ lw_all := lw_g (lw_at lw_m5 0 rfl) rfl
theorem q1114 : (Jvm.Cond.selects "ToolUnion" ({ cls := "ToolUnion", name := "work", desc := "(II)I" } : Jvm.MethodName) ({ cls := "ToolUnion", name := "work", desc := "(II)I" } : Jvm.MethodName)) ∈ lw_all := lw_g (lw_at lw_m5 1 rfl) rfl
theorem q1115 : (Jvm.Cond.code ({ cls := "ToolUnion", name := "work", desc := "(II)I" } : Jvm.MethodName) prog_1_method_54_code (4 : Nat) (Option.some Jvm.ClassFile.FieldType.int)) ∈ lw_all := lw_g (lw_at lw_m5 2 rfl) rfl
theorem q1116 : (Jvm.Cond.methodLink "ToolUnion" (522 : Nat) ({ cls := "ToolUnion$Work", name := "kind", desc := "()I" } : Jvm.MethodName)) ∈ lw_all := lw_g (lw_at lw_m5 3 rfl) rfl
theorem q1117 : (Jvm.Cond.methodLink "ToolUnion" (524 : Nat) ({ cls := "ToolUnion", name := "findsHands", desc := "(I)V" } : Jvm.MethodName)) ∈ lw_all := lw_g (lw_at lw_m5 4 rfl) rfl
theorem q1118 : (Jvm.Cond.privateMethod ({ cls := "ToolUnion", name := "findsHands", desc := "(I)V" } : Jvm.MethodName)) ∈ lw_tbl := lw_at lw_m5 5 rfl
theorem q1119 : (Jvm.Cond.instanceMethod ({ cls := "ToolUnion", name := "findsHands", desc := "(I)V" } : Jvm.MethodName)) ∈ lw_all := lw_g (lw_at lw_m5 6 rfl) rfl
theorem q1120 : (Jvm.Cond.code ({ cls := "ToolUnion", name := "findsHands", desc := "(I)V" } : Jvm.MethodName) prog_1_method_53_code (4 : Nat) (Option.none : Option Jvm.ClassFile.FieldType)) ∈ lw_all := lw_g (lw_at lw_m5 7 rfl) rfl
theorem q1121 : (Jvm.Cond.methodLink "ToolUnion" (519 : Nat) ({ cls := "ToolUnion$Yard", name := "serves", desc := "(II)Z" } : Jvm.MethodName)) ∈ lw_all := lw_g (lw_at lw_m5 8 rfl) rfl
theorem q1122 : (Jvm.Cond.methodLink "ToolUnion" (527 : Nat) ({ cls := "ToolUnion$Work", name := "takes", desc := "()I" } : Jvm.MethodName)) ∈ lw_all := lw_g (lw_at lw_m5 9 rfl) rfl
theorem q1123 : (Jvm.Cond.methodLink "ToolUnion" (529 : Nat) ({ cls := "ToolUnion$Work", name := "after", desc := "()I" } : Jvm.MethodName)) ∈ lw_all := lw_g (lw_at lw_m5 10 rfl) rfl
theorem q1124 : (Jvm.Cond.methodLink "ToolUnion" (531 : Nat) ({ cls := "ToolUnion$Yard", name := "isOpen", desc := "(I)Z" } : Jvm.MethodName)) ∈ lw_all := lw_g (lw_at lw_m5 11 rfl) rfl
theorem q1125 : (Jvm.Cond.methodLink "ToolUnion" (534 : Nat) ({ cls := "ToolUnion$Yard", name := "isDone", desc := "(I)Z" } : Jvm.MethodName)) ∈ lw_all := lw_g (lw_at lw_m5 12 rfl) rfl
theorem q1127 : (Jvm.Cond.instanceMethod ({ cls := "ToolUnion", name := "serves", desc := "(II)I" } : Jvm.MethodName)) ∈ lw_all := lw_g (lw_at lw_m5 14 rfl) rfl
theorem q1128 : (Jvm.Cond.selects "ToolUnion" ({ cls := "ToolUnion", name := "serves", desc := "(II)I" } : Jvm.MethodName) ({ cls := "ToolUnion", name := "serves", desc := "(II)I" } : Jvm.MethodName)) ∈ lw_all := lw_g (lw_at lw_m5 15 rfl) rfl
theorem q1129 : (Jvm.Cond.code ({ cls := "ToolUnion", name := "serves", desc := "(II)I" } : Jvm.MethodName) prog_1_method_55_code (3 : Nat) (Option.some Jvm.ClassFile.FieldType.int)) ∈ lw_all := lw_g (lw_at lw_m5 16 rfl) rfl
theorem q1131 : (Jvm.Cond.instanceMethod ({ cls := "ToolUnion", name := "tells", desc := "(III)I" } : Jvm.MethodName)) ∈ lw_all := lw_g (lw_at lw_m5 18 rfl) rfl
theorem q1132 : (Jvm.Cond.selects "ToolUnion" ({ cls := "ToolUnion", name := "tells", desc := "(III)I" } : Jvm.MethodName) ({ cls := "ToolUnion", name := "tells", desc := "(III)I" } : Jvm.MethodName)) ∈ lw_all := lw_g (lw_at lw_m5 19 rfl) rfl
theorem q1133 : (Jvm.Cond.code ({ cls := "ToolUnion", name := "tells", desc := "(III)I" } : Jvm.MethodName) prog_1_method_56_code (4 : Nat) (Option.some Jvm.ClassFile.FieldType.int)) ∈ lw_all := lw_g (lw_at lw_m5 20 rfl) rfl
theorem q1134 : (Jvm.Cond.methodLink "ToolUnion" (537 : Nat) ({ cls := "ToolUnion$Yard", name := "tells", desc := "(III)I" } : Jvm.MethodName)) ∈ lw_all := lw_g (lw_at lw_m5 21 rfl) rfl
theorem q1136 : (Jvm.Cond.instanceMethod ({ cls := "ToolUnion", name := "book", desc := "(II)I" } : Jvm.MethodName)) ∈ lw_all := lw_g (lw_at lw_m5 23 rfl) rfl
theorem q1137 : (Jvm.Cond.selects "ToolUnion" ({ cls := "ToolUnion", name := "book", desc := "(II)I" } : Jvm.MethodName) ({ cls := "ToolUnion", name := "book", desc := "(II)I" } : Jvm.MethodName)) ∈ lw_all := lw_g (lw_at lw_m5 24 rfl) rfl
theorem q1138 : (Jvm.Cond.code ({ cls := "ToolUnion", name := "book", desc := "(II)I" } : Jvm.MethodName) prog_1_method_57_code (3 : Nat) (Option.some Jvm.ClassFile.FieldType.int)) ∈ lw_all := lw_g (lw_at lw_m5 25 rfl) rfl
theorem q1140 : (Jvm.Cond.instanceMethod ({ cls := "ToolUnion", name := "soonest", desc := "(I)I" } : Jvm.MethodName)) ∈ lw_all := lw_g (lw_at lw_m5 27 rfl) rfl
theorem q1141 : (Jvm.Cond.selects "ToolUnion" ({ cls := "ToolUnion", name := "soonest", desc := "(I)I" } : Jvm.MethodName) ({ cls := "ToolUnion", name := "soonest", desc := "(I)I" } : Jvm.MethodName)) ∈ lw_all := lw_g (lw_at lw_m5 28 rfl) rfl
theorem q1142 : (Jvm.Cond.code ({ cls := "ToolUnion", name := "soonest", desc := "(I)I" } : Jvm.MethodName) prog_1_method_70_code (3 : Nat) (Option.some Jvm.ClassFile.FieldType.int)) ∈ lw_all := lw_g (lw_at lw_m5 29 rfl) rfl
theorem q1143 : (Jvm.Cond.methodLink "ToolUnion" (578 : Nat) ({ cls := "ToolUnion", name := "findsTogether", desc := "()V" } : Jvm.MethodName)) ∈ lw_all := lw_g (lw_at lw_m5 30 rfl) rfl
theorem q1144 : (Jvm.Cond.privateMethod ({ cls := "ToolUnion", name := "findsTogether", desc := "()V" } : Jvm.MethodName)) ∈ lw_tbl := lw_at lw_m5 31 rfl
theorem q1145 : (Jvm.Cond.instanceMethod ({ cls := "ToolUnion", name := "findsTogether", desc := "()V" } : Jvm.MethodName)) ∈ lw_all := lw_g (lw_at lw_m5 32 rfl) rfl
theorem q1146 : (Jvm.Cond.code ({ cls := "ToolUnion", name := "findsTogether", desc := "()V" } : Jvm.MethodName) prog_1_method_59_code (3 : Nat) (Option.none : Option Jvm.ClassFile.FieldType)) ∈ lw_all := lw_g (lw_at lw_m5 33 rfl) rfl
theorem q1147 : (Jvm.Cond.methodLink "ToolUnion" (548 : Nat) ({ cls := "java/lang/Integer", name := "bitCount", desc := "(I)I" } : Jvm.MethodName)) ∈ lw_all := lw_g (lw_at lw_m5 34 rfl) rfl
theorem q1153 : (Jvm.Cond.methodLink "ToolUnion" (545 : Nat) ({ cls := "ToolUnion", name := "goesTogether", desc := "(III)Z" } : Jvm.MethodName)) ∈ lw_all := lw_g (lw_at lw_m5 40 rfl) rfl
theorem q1154 : (Jvm.Cond.privateMethod ({ cls := "ToolUnion", name := "goesTogether", desc := "(III)Z" } : Jvm.MethodName)) ∈ lw_tbl := lw_at lw_m5 41 rfl
theorem q1155 : (Jvm.Cond.instanceMethod ({ cls := "ToolUnion", name := "goesTogether", desc := "(III)Z" } : Jvm.MethodName)) ∈ lw_all := lw_g (lw_at lw_m5 42 rfl) rfl
theorem q1156 : (Jvm.Cond.code ({ cls := "ToolUnion", name := "goesTogether", desc := "(III)Z" } : Jvm.MethodName) prog_1_method_58_code (7 : Nat) (Option.some Jvm.ClassFile.FieldType.boolean)) ∈ lw_all := lw_g (lw_at lw_m5 43 rfl) rfl
theorem q1157 : (Jvm.Cond.methodLink "ToolUnion" (540 : Nat) ({ cls := "java/lang/Integer", name := "numberOfTrailingZeros", desc := "(I)I" } : Jvm.MethodName)) ∈ lw_all := lw_g (lw_at lw_m5 44 rfl) rfl
theorem q1161 : (Jvm.Cond.methodLink "ToolUnion" (581 : Nat) ({ cls := "ToolUnion", name := "findsFar", desc := "()V" } : Jvm.MethodName)) ∈ lw_all := lw_g (lw_at lw_m5 48 rfl) rfl
theorem q1162 : (Jvm.Cond.privateMethod ({ cls := "ToolUnion", name := "findsFar", desc := "()V" } : Jvm.MethodName)) ∈ lw_tbl := lw_at lw_m5 49 rfl
theorem q1163 : (Jvm.Cond.instanceMethod ({ cls := "ToolUnion", name := "findsFar", desc := "()V" } : Jvm.MethodName)) ∈ lw_all := lw_g (lw_at lw_m5 50 rfl) rfl
theorem q1164 : (Jvm.Cond.code ({ cls := "ToolUnion", name := "findsFar", desc := "()V" } : Jvm.MethodName) prog_1_method_68_code (3 : Nat) (Option.none : Option Jvm.ClassFile.FieldType)) ∈ lw_all := lw_g (lw_at lw_m5 51 rfl) rfl
theorem q1165 : (Jvm.Cond.methodLink "ToolUnion" (566 : Nat) ({ cls := "ToolUnion", name := "lastState", desc := "()I" } : Jvm.MethodName)) ∈ lw_all := lw_g (lw_at lw_m5 52 rfl) rfl
theorem q1166 : (Jvm.Cond.privateMethod ({ cls := "ToolUnion", name := "lastState", desc := "()I" } : Jvm.MethodName)) ∈ lw_tbl := lw_at lw_m5 53 rfl
theorem q1167 : (Jvm.Cond.instanceMethod ({ cls := "ToolUnion", name := "lastState", desc := "()I" } : Jvm.MethodName)) ∈ lw_all := lw_g (lw_at lw_m5 54 rfl) rfl
theorem q1168 : (Jvm.Cond.code ({ cls := "ToolUnion", name := "lastState", desc := "()I" } : Jvm.MethodName) prog_1_method_63_code (3 : Nat) (Option.some Jvm.ClassFile.FieldType.int)) ∈ lw_all := lw_g (lw_at lw_m5 55 rfl) rfl
theorem q1169 : (Jvm.Cond.methodLink "ToolUnion" (569 : Nat) ({ cls := "ToolUnion", name := "isState", desc := "(I)Z" } : Jvm.MethodName)) ∈ lw_all := lw_g (lw_at lw_m5 56 rfl) rfl
theorem q1170 : (Jvm.Cond.privateMethod ({ cls := "ToolUnion", name := "isState", desc := "(I)Z" } : Jvm.MethodName)) ∈ lw_tbl := lw_at lw_m5 57 rfl
theorem q1171 : (Jvm.Cond.instanceMethod ({ cls := "ToolUnion", name := "isState", desc := "(I)Z" } : Jvm.MethodName)) ∈ lw_all := lw_g (lw_at lw_m5 58 rfl) rfl
theorem q1172 : (Jvm.Cond.code ({ cls := "ToolUnion", name := "isState", desc := "(I)Z" } : Jvm.MethodName) prog_1_method_66_code (3 : Nat) (Option.some Jvm.ClassFile.FieldType.boolean)) ∈ lw_all := lw_g (lw_at lw_m5 59 rfl) rfl
theorem q1173 : (Jvm.Cond.methodLink "ToolUnion" (551 : Nat) ({ cls := "ToolUnion", name := "doneIn", desc := "(II)I" } : Jvm.MethodName)) ∈ lw_all := lw_g (lw_at lw_m5 60 rfl) rfl
theorem q1174 : (Jvm.Cond.static ({ cls := "ToolUnion", name := "doneIn", desc := "(II)I" } : Jvm.MethodName)) ∈ lw_all := lw_g (lw_at lw_m5 61 rfl) rfl
theorem q1175 : (Jvm.Cond.code ({ cls := "ToolUnion", name := "doneIn", desc := "(II)I" } : Jvm.MethodName) prog_1_method_60_code (2 : Nat) (Option.some Jvm.ClassFile.FieldType.int)) ∈ lw_all := lw_g (lw_at lw_m5 62 rfl) rfl
theorem q1176 : (Jvm.Cond.methodLink "ToolUnion" (572 : Nat) ({ cls := "ToolUnion", name := "fromHere", desc := "(I)I" } : Jvm.MethodName)) ∈ lw_all := lw_g (lw_at lw_m5 63 rfl) rfl
theorem q1177 : (Jvm.Cond.privateMethod ({ cls := "ToolUnion", name := "fromHere", desc := "(I)I" } : Jvm.MethodName)) ∈ lw_tbl := lw_at lw_m5 64 rfl
theorem q1178 : (Jvm.Cond.instanceMethod ({ cls := "ToolUnion", name := "fromHere", desc := "(I)I" } : Jvm.MethodName)) ∈ lw_all := lw_g (lw_at lw_m5 65 rfl) rfl
theorem q1179 : (Jvm.Cond.code ({ cls := "ToolUnion", name := "fromHere", desc := "(I)I" } : Jvm.MethodName) prog_1_method_67_code (6 : Nat) (Option.some Jvm.ClassFile.FieldType.int)) ∈ lw_all := lw_g (lw_at lw_m5 66 rfl) rfl
theorem q1180 : (Jvm.Cond.methodLink "ToolUnion" (557 : Nat) ({ cls := "ToolUnion", name := "openIn", desc := "(I)I" } : Jvm.MethodName)) ∈ lw_all := lw_g (lw_at lw_m5 67 rfl) rfl
theorem q1181 : (Jvm.Cond.privateMethod ({ cls := "ToolUnion", name := "openIn", desc := "(I)I" } : Jvm.MethodName)) ∈ lw_tbl := lw_at lw_m5 68 rfl
theorem q1182 : (Jvm.Cond.instanceMethod ({ cls := "ToolUnion", name := "openIn", desc := "(I)I" } : Jvm.MethodName)) ∈ lw_all := lw_g (lw_at lw_m5 69 rfl) rfl
theorem q1183 : (Jvm.Cond.code ({ cls := "ToolUnion", name := "openIn", desc := "(I)I" } : Jvm.MethodName) prog_1_method_61_code (5 : Nat) (Option.some Jvm.ClassFile.FieldType.int)) ∈ lw_all := lw_g (lw_at lw_m5 70 rfl) rfl
theorem q1184 : (Jvm.Cond.methodLink "ToolUnion" (560 : Nat) ({ cls := "ToolUnion", name := "isFull", desc := "(II)Z" } : Jvm.MethodName)) ∈ lw_all := lw_g (lw_at lw_m5 71 rfl) rfl
theorem q1185 : (Jvm.Cond.privateMethod ({ cls := "ToolUnion", name := "isFull", desc := "(II)Z" } : Jvm.MethodName)) ∈ lw_tbl := lw_at lw_m5 72 rfl
theorem q1186 : (Jvm.Cond.instanceMethod ({ cls := "ToolUnion", name := "isFull", desc := "(II)Z" } : Jvm.MethodName)) ∈ lw_all := lw_g (lw_at lw_m5 73 rfl) rfl
theorem q1187 : (Jvm.Cond.code ({ cls := "ToolUnion", name := "isFull", desc := "(II)Z" } : Jvm.MethodName) prog_1_method_65_code (4 : Nat) (Option.some Jvm.ClassFile.FieldType.boolean)) ∈ lw_all := lw_g (lw_at lw_m5 74 rfl) rfl
theorem q1188 : (Jvm.Cond.methodLink "ToolUnion" (554 : Nat) ({ cls := "java/lang/Integer", name := "lowestOneBit", desc := "(I)I" } : Jvm.MethodName)) ∈ lw_all := lw_g (lw_at lw_m5 75 rfl) rfl
theorem q1191 : (Jvm.Cond.methodLink "ToolUnion" (563 : Nat) ({ cls := "ToolUnion", name := "onBy", desc := "(II)I" } : Jvm.MethodName)) ∈ lw_all := lw_g (lw_at lw_m5 78 rfl) rfl
theorem q1192 : (Jvm.Cond.static ({ cls := "ToolUnion", name := "onBy", desc := "(II)I" } : Jvm.MethodName)) ∈ lw_all := lw_g (lw_at lw_m5 79 rfl) rfl
theorem q1193 : (Jvm.Cond.code ({ cls := "ToolUnion", name := "onBy", desc := "(II)I" } : Jvm.MethodName) prog_1_method_62_code (4 : Nat) (Option.some Jvm.ClassFile.FieldType.int)) ∈ lw_all := lw_g (lw_at lw_m5 80 rfl) rfl
theorem q1194 : (Jvm.Cond.methodLink "ToolUnion" (575 : Nat) ({ cls := "ToolUnion", name := "stateNow", desc := "()I" } : Jvm.MethodName)) ∈ lw_all := lw_g (lw_at lw_m5 81 rfl) rfl
theorem q1195 : (Jvm.Cond.privateMethod ({ cls := "ToolUnion", name := "stateNow", desc := "()I" } : Jvm.MethodName)) ∈ lw_tbl := lw_at lw_m5 82 rfl
theorem q1196 : (Jvm.Cond.instanceMethod ({ cls := "ToolUnion", name := "stateNow", desc := "()I" } : Jvm.MethodName)) ∈ lw_all := lw_g (lw_at lw_m5 83 rfl) rfl
theorem q1197 : (Jvm.Cond.code ({ cls := "ToolUnion", name := "stateNow", desc := "()I" } : Jvm.MethodName) prog_1_method_64_code (3 : Nat) (Option.some Jvm.ClassFile.FieldType.int)) ∈ lw_all := lw_g (lw_at lw_m5 84 rfl) rfl
theorem q1198 : (Jvm.Cond.methodLink "ToolUnion" (584 : Nat) ({ cls := "ToolUnion", name := "firstSet", desc := "(I)I" } : Jvm.MethodName)) ∈ lw_all := lw_g (lw_at lw_m5 85 rfl) rfl
theorem q1199 : (Jvm.Cond.privateMethod ({ cls := "ToolUnion", name := "firstSet", desc := "(I)I" } : Jvm.MethodName)) ∈ lw_tbl := lw_at lw_m5 86 rfl
theorem q1200 : (Jvm.Cond.instanceMethod ({ cls := "ToolUnion", name := "firstSet", desc := "(I)I" } : Jvm.MethodName)) ∈ lw_all := lw_g (lw_at lw_m5 87 rfl) rfl
theorem q1201 : (Jvm.Cond.code ({ cls := "ToolUnion", name := "firstSet", desc := "(I)I" } : Jvm.MethodName) prog_1_method_69_code (5 : Nat) (Option.some Jvm.ClassFile.FieldType.int)) ∈ lw_all := lw_g (lw_at lw_m5 88 rfl) rfl
theorem q1203 : (Jvm.Cond.instanceMethod ({ cls := "ToolUnion", name := "few", desc := "(I)I" } : Jvm.MethodName)) ∈ lw_all := lw_g (lw_at lw_m5 90 rfl) rfl
theorem q1204 : (Jvm.Cond.selects "ToolUnion" ({ cls := "ToolUnion", name := "few", desc := "(I)I" } : Jvm.MethodName) ({ cls := "ToolUnion", name := "few", desc := "(I)I" } : Jvm.MethodName)) ∈ lw_all := lw_g (lw_at lw_m5 91 rfl) rfl
theorem q1205 : (Jvm.Cond.code ({ cls := "ToolUnion", name := "few", desc := "(I)I" } : Jvm.MethodName) prog_1_method_75_code (3 : Nat) (Option.some Jvm.ClassFile.FieldType.int)) ∈ lw_all := lw_g (lw_at lw_m5 92 rfl) rfl
theorem q1206 : (Jvm.Cond.methodLink "ToolUnion" (596 : Nat) ({ cls := "ToolUnion", name := "fewest", desc := "(Z)I" } : Jvm.MethodName)) ∈ lw_all := lw_g (lw_at lw_m5 93 rfl) rfl
theorem q1207 : (Jvm.Cond.privateMethod ({ cls := "ToolUnion", name := "fewest", desc := "(Z)I" } : Jvm.MethodName)) ∈ lw_tbl := lw_at lw_m5 94 rfl
theorem q1208 : (Jvm.Cond.instanceMethod ({ cls := "ToolUnion", name := "fewest", desc := "(Z)I" } : Jvm.MethodName)) ∈ lw_all := lw_g (lw_at lw_m5 95 rfl) rfl
theorem q1209 : (Jvm.Cond.code ({ cls := "ToolUnion", name := "fewest", desc := "(Z)I" } : Jvm.MethodName) prog_1_method_74_code (8 : Nat) (Option.some Jvm.ClassFile.FieldType.int)) ∈ lw_all := lw_g (lw_at lw_m5 96 rfl) rfl
theorem q1210 : (Jvm.Cond.methodLink "ToolUnion" (587 : Nat) ({ cls := "ToolUnion", name := "servingTools", desc := "()I" } : Jvm.MethodName)) ∈ lw_all := lw_g (lw_at lw_m5 97 rfl) rfl
theorem q1211 : (Jvm.Cond.privateMethod ({ cls := "ToolUnion", name := "servingTools", desc := "()I" } : Jvm.MethodName)) ∈ lw_tbl := lw_at lw_m5 98 rfl
theorem q1212 : (Jvm.Cond.instanceMethod ({ cls := "ToolUnion", name := "servingTools", desc := "()I" } : Jvm.MethodName)) ∈ lw_all := lw_g (lw_at lw_m5 99 rfl) rfl
theorem q1213 : (Jvm.Cond.code ({ cls := "ToolUnion", name := "servingTools", desc := "()I" } : Jvm.MethodName) prog_1_method_72_code (4 : Nat) (Option.some Jvm.ClassFile.FieldType.int)) ∈ lw_all := lw_g (lw_at lw_m5 100 rfl) rfl
theorem q1214 : (Jvm.Cond.methodLink "ToolUnion" (590 : Nat) ({ cls := "ToolUnion", name := "kindsLeft", desc := "()I" } : Jvm.MethodName)) ∈ lw_all := lw_g (lw_at lw_m5 101 rfl) rfl
theorem q1215 : (Jvm.Cond.privateMethod ({ cls := "ToolUnion", name := "kindsLeft", desc := "()I" } : Jvm.MethodName)) ∈ lw_tbl := lw_at lw_m5 102 rfl
theorem q1216 : (Jvm.Cond.instanceMethod ({ cls := "ToolUnion", name := "kindsLeft", desc := "()I" } : Jvm.MethodName)) ∈ lw_all := lw_g (lw_at lw_m5 103 rfl) rfl
theorem q1217 : (Jvm.Cond.code ({ cls := "ToolUnion", name := "kindsLeft", desc := "()I" } : Jvm.MethodName) prog_1_method_71_code (3 : Nat) (Option.some Jvm.ClassFile.FieldType.int)) ∈ lw_all := lw_g (lw_at lw_m5 104 rfl) rfl
theorem q1218 : (Jvm.Cond.methodLink "ToolUnion" (593 : Nat) ({ cls := "ToolUnion", name := "kindsBy", desc := "(I)I" } : Jvm.MethodName)) ∈ lw_all := lw_g (lw_at lw_m5 105 rfl) rfl
theorem q1219 : (Jvm.Cond.privateMethod ({ cls := "ToolUnion", name := "kindsBy", desc := "(I)I" } : Jvm.MethodName)) ∈ lw_tbl := lw_at lw_m5 106 rfl
theorem q1220 : (Jvm.Cond.instanceMethod ({ cls := "ToolUnion", name := "kindsBy", desc := "(I)I" } : Jvm.MethodName)) ∈ lw_all := lw_g (lw_at lw_m5 107 rfl) rfl
theorem q1221 : (Jvm.Cond.code ({ cls := "ToolUnion", name := "kindsBy", desc := "(I)I" } : Jvm.MethodName) prog_1_method_73_code (4 : Nat) (Option.some Jvm.ClassFile.FieldType.int)) ∈ lw_all := lw_g (lw_at lw_m5 108 rfl) rfl
theorem q1223 : (Jvm.Cond.instanceMethod ({ cls := "ToolUnion", name := "changes", desc := "(I)I" } : Jvm.MethodName)) ∈ lw_all := lw_g (lw_at lw_m5 110 rfl) rfl
theorem q1224 : (Jvm.Cond.selects "ToolUnion" ({ cls := "ToolUnion", name := "changes", desc := "(I)I" } : Jvm.MethodName) ({ cls := "ToolUnion", name := "changes", desc := "(I)I" } : Jvm.MethodName)) ∈ lw_all := lw_g (lw_at lw_m5 111 rfl) rfl
theorem q1225 : (Jvm.Cond.code ({ cls := "ToolUnion", name := "changes", desc := "(I)I" } : Jvm.MethodName) prog_1_method_77_code (4 : Nat) (Option.some Jvm.ClassFile.FieldType.int)) ∈ lw_all := lw_g (lw_at lw_m5 112 rfl) rfl
theorem q1226 : (Jvm.Cond.methodLink "ToolUnion" (603 : Nat) ({ cls := "ToolUnion", name := "branchFor", desc := "(I)I" } : Jvm.MethodName)) ∈ lw_all := lw_g (lw_at lw_m5 113 rfl) rfl
theorem q1227 : (Jvm.Cond.privateMethod ({ cls := "ToolUnion", name := "branchFor", desc := "(I)I" } : Jvm.MethodName)) ∈ lw_tbl := lw_at lw_m5 114 rfl
theorem q1228 : (Jvm.Cond.instanceMethod ({ cls := "ToolUnion", name := "branchFor", desc := "(I)I" } : Jvm.MethodName)) ∈ lw_all := lw_g (lw_at lw_m5 115 rfl) rfl
theorem q1229 : (Jvm.Cond.code ({ cls := "ToolUnion", name := "branchFor", desc := "(I)I" } : Jvm.MethodName) prog_1_method_76_code (5 : Nat) (Option.some Jvm.ClassFile.FieldType.int)) ∈ lw_all := lw_g (lw_at lw_m5 116 rfl) rfl
theorem q1230 : (Jvm.Cond.methodLink "ToolUnion" (600 : Nat) ({ cls := "ToolUnion$Yard", name := "would", desc := "(II)Z" } : Jvm.MethodName)) ∈ lw_all := lw_g (lw_at lw_m5 117 rfl) rfl
theorem q1232 : (Jvm.Cond.instanceMethod ({ cls := "ToolUnion", name := "vote", desc := "(I)I" } : Jvm.MethodName)) ∈ lw_all := lw_g (lw_at lw_m5 119 rfl) rfl
theorem q1233 : (Jvm.Cond.selects "ToolUnion" ({ cls := "ToolUnion", name := "vote", desc := "(I)I" } : Jvm.MethodName) ({ cls := "ToolUnion", name := "vote", desc := "(I)I" } : Jvm.MethodName)) ∈ lw_all := lw_g (lw_at lw_m5 120 rfl) rfl
theorem q1234 : (Jvm.Cond.code ({ cls := "ToolUnion", name := "vote", desc := "(I)I" } : Jvm.MethodName) prog_1_method_80_code (2 : Nat) (Option.some Jvm.ClassFile.FieldType.int)) ∈ lw_all := lw_g (lw_at lw_m5 121 rfl) rfl
theorem q1235 : (Jvm.Cond.methodLink "ToolUnion" (609 : Nat) ({ cls := "ToolUnion", name := "isAgreed", desc := "(I)Z" } : Jvm.MethodName)) ∈ lw_all := lw_g (lw_at lw_m5 122 rfl) rfl
theorem q1236 : (Jvm.Cond.privateMethod ({ cls := "ToolUnion", name := "isAgreed", desc := "(I)Z" } : Jvm.MethodName)) ∈ lw_tbl := lw_at lw_m5 123 rfl
theorem q1237 : (Jvm.Cond.instanceMethod ({ cls := "ToolUnion", name := "isAgreed", desc := "(I)Z" } : Jvm.MethodName)) ∈ lw_all := lw_g (lw_at lw_m5 124 rfl) rfl
theorem q1238 : (Jvm.Cond.code ({ cls := "ToolUnion", name := "isAgreed", desc := "(I)Z" } : Jvm.MethodName) prog_1_method_79_code (2 : Nat) (Option.some Jvm.ClassFile.FieldType.boolean)) ∈ lw_all := lw_g (lw_at lw_m5 125 rfl) rfl
theorem q1239 : (Jvm.Cond.methodLink "ToolUnion" (606 : Nat) ({ cls := "ToolUnion", name := "votesOf", desc := "(I)I" } : Jvm.MethodName)) ∈ lw_all := lw_g (lw_at lw_m5 126 rfl) rfl
theorem q1240 : (Jvm.Cond.privateMethod ({ cls := "ToolUnion", name := "votesOf", desc := "(I)I" } : Jvm.MethodName)) ∈ lw_tbl := lw_at lw_m5 127 rfl
theorem q1241 : (Jvm.Cond.instanceMethod ({ cls := "ToolUnion", name := "votesOf", desc := "(I)I" } : Jvm.MethodName)) ∈ lw_all := lw_g (lw_at lw_m5 128 rfl) rfl
theorem q1242 : (Jvm.Cond.code ({ cls := "ToolUnion", name := "votesOf", desc := "(I)I" } : Jvm.MethodName) prog_1_method_78_code (4 : Nat) (Option.some Jvm.ClassFile.FieldType.int)) ∈ lw_all := lw_g (lw_at lw_m5 129 rfl) rfl
theorem q1244 : (Jvm.Cond.instanceMethod ({ cls := "ToolUnion", name := "of", desc := "(II)I" } : Jvm.MethodName)) ∈ lw_all := lw_g (lw_at lw_m5 131 rfl) rfl
theorem q1245 : (Jvm.Cond.selects "ToolUnion" ({ cls := "ToolUnion", name := "of", desc := "(II)I" } : Jvm.MethodName) ({ cls := "ToolUnion", name := "of", desc := "(II)I" } : Jvm.MethodName)) ∈ lw_all := lw_g (lw_at lw_m5 132 rfl) rfl
theorem q1246 : (Jvm.Cond.code ({ cls := "ToolUnion", name := "of", desc := "(II)I" } : Jvm.MethodName) prog_1_method_86_code (3 : Nat) (Option.some Jvm.ClassFile.FieldType.int)) ∈ lw_all := lw_g (lw_at lw_m5 133 rfl) rfl
theorem q1247 : (Jvm.Cond.methodLink "ToolUnion" (621 : Nat) ({ cls := "ToolUnion", name := "swingsOf", desc := "(IZ)I" } : Jvm.MethodName)) ∈ lw_all := lw_g (lw_at lw_m5 134 rfl) rfl
theorem q1248 : (Jvm.Cond.privateMethod ({ cls := "ToolUnion", name := "swingsOf", desc := "(IZ)I" } : Jvm.MethodName)) ∈ lw_tbl := lw_at lw_m5 135 rfl
theorem q1249 : (Jvm.Cond.instanceMethod ({ cls := "ToolUnion", name := "swingsOf", desc := "(IZ)I" } : Jvm.MethodName)) ∈ lw_all := lw_g (lw_at lw_m5 136 rfl) rfl
theorem q1250 : (Jvm.Cond.code ({ cls := "ToolUnion", name := "swingsOf", desc := "(IZ)I" } : Jvm.MethodName) prog_1_method_82_code (6 : Nat) (Option.some Jvm.ClassFile.FieldType.int)) ∈ lw_all := lw_g (lw_at lw_m5 137 rfl) rfl
theorem q1251 : (Jvm.Cond.methodLink "ToolUnion" (612 : Nat) ({ cls := "ToolUnion", name := "ordersOf", desc := "(I)I" } : Jvm.MethodName)) ∈ lw_all := lw_g (lw_at lw_m5 138 rfl) rfl
theorem q1252 : (Jvm.Cond.static ({ cls := "ToolUnion", name := "ordersOf", desc := "(I)I" } : Jvm.MethodName)) ∈ lw_all := lw_g (lw_at lw_m5 139 rfl) rfl
theorem q1253 : (Jvm.Cond.code ({ cls := "ToolUnion", name := "ordersOf", desc := "(I)I" } : Jvm.MethodName) prog_1_method_81_code (1 : Nat) (Option.some Jvm.ClassFile.FieldType.int)) ∈ lw_all := lw_g (lw_at lw_m5 140 rfl) rfl
theorem q1254 : (Jvm.Cond.methodLink "ToolUnion" (625 : Nat) ({ cls := "ToolUnion", name := "findsMates", desc := "()V" } : Jvm.MethodName)) ∈ lw_all := lw_g (lw_at lw_m5 141 rfl) rfl
theorem q1255 : (Jvm.Cond.privateMethod ({ cls := "ToolUnion", name := "findsMates", desc := "()V" } : Jvm.MethodName)) ∈ lw_tbl := lw_at lw_m5 142 rfl
theorem q1256 : (Jvm.Cond.instanceMethod ({ cls := "ToolUnion", name := "findsMates", desc := "()V" } : Jvm.MethodName)) ∈ lw_all := lw_g (lw_at lw_m5 143 rfl) rfl
theorem q1257 : (Jvm.Cond.code ({ cls := "ToolUnion", name := "findsMates", desc := "()V" } : Jvm.MethodName) prog_1_method_85_code (7 : Nat) (Option.none : Option Jvm.ClassFile.FieldType)) ∈ lw_all := lw_g (lw_at lw_m5 144 rfl) rfl
theorem q1258 : (Jvm.Cond.methodLink "ToolUnion" (615 : Nat) ({ cls := "ToolUnion", name := "likedBy", desc := "(I)I" } : Jvm.MethodName)) ∈ lw_all := lw_g (lw_at lw_m5 145 rfl) rfl
theorem q1259 : (Jvm.Cond.privateMethod ({ cls := "ToolUnion", name := "likedBy", desc := "(I)I" } : Jvm.MethodName)) ∈ lw_tbl := lw_at lw_m5 146 rfl
theorem q1260 : (Jvm.Cond.instanceMethod ({ cls := "ToolUnion", name := "likedBy", desc := "(I)I" } : Jvm.MethodName)) ∈ lw_all := lw_g (lw_at lw_m5 147 rfl) rfl
theorem q1261 : (Jvm.Cond.code ({ cls := "ToolUnion", name := "likedBy", desc := "(I)I" } : Jvm.MethodName) prog_1_method_83_code (4 : Nat) (Option.some Jvm.ClassFile.FieldType.int)) ∈ lw_all := lw_g (lw_at lw_m5 148 rfl) rfl
theorem q1262 : (Jvm.Cond.methodLink "ToolUnion" (618 : Nat) ({ cls := "ToolUnion", name := "isRather", desc := "(III)Z" } : Jvm.MethodName)) ∈ lw_all := lw_g (lw_at lw_m5 149 rfl) rfl
theorem q1263 : (Jvm.Cond.privateMethod ({ cls := "ToolUnion", name := "isRather", desc := "(III)Z" } : Jvm.MethodName)) ∈ lw_tbl := lw_at lw_m5 150 rfl
theorem q1264 : (Jvm.Cond.instanceMethod ({ cls := "ToolUnion", name := "isRather", desc := "(III)Z" } : Jvm.MethodName)) ∈ lw_all := lw_g (lw_at lw_m5 151 rfl) rfl
theorem q1265 : (Jvm.Cond.code ({ cls := "ToolUnion", name := "isRather", desc := "(III)Z" } : Jvm.MethodName) prog_1_method_84_code (6 : Nat) (Option.some Jvm.ClassFile.FieldType.boolean)) ∈ lw_all := lw_g (lw_at lw_m5 152 rfl) rfl
theorem q1267 : (Jvm.Cond.instanceMethod ({ cls := "ToolUnion", name := "at", desc := "(II)I" } : Jvm.MethodName)) ∈ lw_all := lw_g (lw_at lw_m5 154 rfl) rfl
theorem q1268 : (Jvm.Cond.selects "ToolUnion" ({ cls := "ToolUnion", name := "at", desc := "(II)I" } : Jvm.MethodName) ({ cls := "ToolUnion", name := "at", desc := "(II)I" } : Jvm.MethodName)) ∈ lw_all := lw_g (lw_at lw_m5 155 rfl) rfl
theorem q1269 : (Jvm.Cond.code ({ cls := "ToolUnion", name := "at", desc := "(II)I" } : Jvm.MethodName) prog_1_method_87_code (3 : Nat) (Option.some Jvm.ClassFile.FieldType.int)) ∈ lw_all := lw_g (lw_at lw_m5 156 rfl) rfl
theorem q1271 : (Jvm.Cond.instanceMethod ({ cls := "ToolUnion", name := "lasts", desc := "(II)I" } : Jvm.MethodName)) ∈ lw_all := lw_g (lw_at lw_m5 158 rfl) rfl
theorem q1272 : (Jvm.Cond.selects "ToolUnion" ({ cls := "ToolUnion", name := "lasts", desc := "(II)I" } : Jvm.MethodName) ({ cls := "ToolUnion", name := "lasts", desc := "(II)I" } : Jvm.MethodName)) ∈ lw_all := lw_g (lw_at lw_m5 159 rfl) rfl
theorem q1273 : (Jvm.Cond.code ({ cls := "ToolUnion", name := "lasts", desc := "(II)I" } : Jvm.MethodName) prog_1_method_88_code (5 : Nat) (Option.some Jvm.ClassFile.FieldType.int)) ∈ lw_all := lw_g (lw_at lw_m5 160 rfl) rfl
theorem q1274 : (Jvm.Cond.methodLink "ToolUnion" (628 : Nat) ({ cls := "ToolUnion$Yard", name := "thinks", desc := "(LToolUnion$Yard;)LToolUnion$Yard;" } : Jvm.MethodName)) ∈ lw_all := lw_g (lw_at lw_m5 161 rfl) rfl
theorem q1279 : (Jvm.Cond.methodLink "ToolUnion" (632 : Nat) ({ cls := "ToolUnion$Yard", name := "wears", desc := "(II)V" } : Jvm.MethodName)) ∈ lw_all := lw_g (lw_at lw_m5 166 rfl) rfl
theorem q1281 : (Jvm.Cond.instanceMethod ({ cls := "ToolUnion", name := "runs", desc := "(II)I" } : Jvm.MethodName)) ∈ lw_all := lw_g (lw_at lw_m5 168 rfl) rfl
theorem q1282 : (Jvm.Cond.selects "ToolUnion" ({ cls := "ToolUnion", name := "runs", desc := "(II)I" } : Jvm.MethodName) ({ cls := "ToolUnion", name := "runs", desc := "(II)I" } : Jvm.MethodName)) ∈ lw_all := lw_g (lw_at lw_m5 169 rfl) rfl
theorem q1283 : (Jvm.Cond.code ({ cls := "ToolUnion", name := "runs", desc := "(II)I" } : Jvm.MethodName) prog_1_method_89_code (5 : Nat) (Option.some Jvm.ClassFile.FieldType.int)) ∈ lw_all := lw_g (lw_at lw_m5 170 rfl) rfl
theorem q1285 : (Jvm.Cond.instanceMethod ({ cls := "ToolUnion", name := "idle", desc := "(I)I" } : Jvm.MethodName)) ∈ lw_all := lw_g (lw_at lw_m5 172 rfl) rfl
theorem q1286 : (Jvm.Cond.selects "ToolUnion" ({ cls := "ToolUnion", name := "idle", desc := "(I)I" } : Jvm.MethodName) ({ cls := "ToolUnion", name := "idle", desc := "(I)I" } : Jvm.MethodName)) ∈ lw_all := lw_g (lw_at lw_m5 173 rfl) rfl
theorem q1287 : (Jvm.Cond.code ({ cls := "ToolUnion", name := "idle", desc := "(I)I" } : Jvm.MethodName) prog_1_method_90_code (5 : Nat) (Option.some Jvm.ClassFile.FieldType.int)) ∈ lw_all := lw_g (lw_at lw_m5 174 rfl) rfl
theorem q1289 : (Jvm.Cond.instanceMethod ({ cls := "ToolUnion", name := "dull", desc := "(II)I" } : Jvm.MethodName)) ∈ lw_all := lw_g (lw_at lw_m5 176 rfl) rfl
theorem q1290 : (Jvm.Cond.selects "ToolUnion" ({ cls := "ToolUnion", name := "dull", desc := "(II)I" } : Jvm.MethodName) ({ cls := "ToolUnion", name := "dull", desc := "(II)I" } : Jvm.MethodName)) ∈ lw_all := lw_g (lw_at lw_m5 177 rfl) rfl
theorem q1291 : (Jvm.Cond.code ({ cls := "ToolUnion", name := "dull", desc := "(II)I" } : Jvm.MethodName) prog_1_method_91_code (5 : Nat) (Option.some Jvm.ClassFile.FieldType.int)) ∈ lw_all := lw_g (lw_at lw_m5 178 rfl) rfl
theorem q1293 : (Jvm.Cond.instanceMethod ({ cls := "ToolUnion", name := "loved", desc := "()I" } : Jvm.MethodName)) ∈ lw_all := lw_g (lw_at lw_m5 180 rfl) rfl
theorem q1294 : (Jvm.Cond.selects "ToolUnion" ({ cls := "ToolUnion", name := "loved", desc := "()I" } : Jvm.MethodName) ({ cls := "ToolUnion", name := "loved", desc := "()I" } : Jvm.MethodName)) ∈ lw_all := lw_g (lw_at lw_m5 181 rfl) rfl
theorem q1295 : (Jvm.Cond.code ({ cls := "ToolUnion", name := "loved", desc := "()I" } : Jvm.MethodName) prog_1_method_92_code (4 : Nat) (Option.some Jvm.ClassFile.FieldType.int)) ∈ lw_all := lw_g (lw_at lw_m5 182 rfl) rfl
theorem q1297 : (Jvm.Cond.instanceMethod ({ cls := "ToolUnion", name := "ready", desc := "()I" } : Jvm.MethodName)) ∈ lw_all := lw_g (lw_at lw_m5 184 rfl) rfl
theorem q1298 : (Jvm.Cond.selects "ToolUnion" ({ cls := "ToolUnion", name := "ready", desc := "()I" } : Jvm.MethodName) ({ cls := "ToolUnion", name := "ready", desc := "()I" } : Jvm.MethodName)) ∈ lw_all := lw_g (lw_at lw_m5 185 rfl) rfl
theorem q1299 : (Jvm.Cond.code ({ cls := "ToolUnion", name := "ready", desc := "()I" } : Jvm.MethodName) prog_1_method_93_code (3 : Nat) (Option.some Jvm.ClassFile.FieldType.int)) ∈ lw_all := lw_g (lw_at lw_m5 186 rfl) rfl
theorem q1300 : (Jvm.Cond.methodLink "ToolUnion" (647 : Nat) ({ cls := "ToolUnion$Yard", name := "isReady", desc := "()Z" } : Jvm.MethodName)) ∈ lw_all := lw_g (lw_at lw_m5 187 rfl) rfl
theorem q1305 : (Jvm.Cond.instanceMethod ({ cls := "ToolUnion", name := "seen", desc := "(II)I" } : Jvm.MethodName)) ∈ lw_all := lw_g (lw_at lw_m5 192 rfl) rfl
theorem q1306 : (Jvm.Cond.selects "ToolUnion" ({ cls := "ToolUnion", name := "seen", desc := "(II)I" } : Jvm.MethodName) ({ cls := "ToolUnion", name := "seen", desc := "(II)I" } : Jvm.MethodName)) ∈ lw_all := lw_g (lw_at lw_m5 193 rfl) rfl
theorem q1307 : (Jvm.Cond.code ({ cls := "ToolUnion", name := "seen", desc := "(II)I" } : Jvm.MethodName) prog_1_method_94_code (3 : Nat) (Option.some Jvm.ClassFile.FieldType.int)) ∈ lw_all := lw_g (lw_at lw_m5 194 rfl) rfl
theorem q1309 : (Jvm.Cond.instanceMethod ({ cls := "ToolUnion", name := "orders", desc := "(I)I" } : Jvm.MethodName)) ∈ lw_all := lw_g (lw_at lw_m5 196 rfl) rfl
theorem q1310 : (Jvm.Cond.selects "ToolUnion" ({ cls := "ToolUnion", name := "orders", desc := "(I)I" } : Jvm.MethodName) ({ cls := "ToolUnion", name := "orders", desc := "(I)I" } : Jvm.MethodName)) ∈ lw_all := lw_g (lw_at lw_m5 197 rfl) rfl
theorem q1311 : (Jvm.Cond.code ({ cls := "ToolUnion", name := "orders", desc := "(I)I" } : Jvm.MethodName) prog_1_method_97_code (6 : Nat) (Option.some Jvm.ClassFile.FieldType.int)) ∈ lw_all := lw_g (lw_at lw_m5 198 rfl) rfl
theorem q1312 : (Jvm.Cond.methodLink "ToolUnion" (654 : Nat) ({ cls := "ToolUnion", name := "findsOrders", desc := "()I" } : Jvm.MethodName)) ∈ lw_all := lw_g (lw_at lw_m5 199 rfl) rfl
theorem q1313 : (Jvm.Cond.privateMethod ({ cls := "ToolUnion", name := "findsOrders", desc := "()I" } : Jvm.MethodName)) ∈ lw_tbl := lw_at lw_m5 200 rfl
theorem q1314 : (Jvm.Cond.instanceMethod ({ cls := "ToolUnion", name := "findsOrders", desc := "()I" } : Jvm.MethodName)) ∈ lw_all := lw_g (lw_at lw_m5 201 rfl) rfl
theorem q1315 : (Jvm.Cond.code ({ cls := "ToolUnion", name := "findsOrders", desc := "()I" } : Jvm.MethodName) prog_1_method_96_code (4 : Nat) (Option.some Jvm.ClassFile.FieldType.int)) ∈ lw_all := lw_g (lw_at lw_m5 202 rfl) rfl
theorem q1316 : (Jvm.Cond.methodLink "ToolUnion" (651 : Nat) ({ cls := "ToolUnion", name := "canBeNext", desc := "(II)Z" } : Jvm.MethodName)) ∈ lw_all := lw_g (lw_at lw_m5 203 rfl) rfl
theorem q1317 : (Jvm.Cond.privateMethod ({ cls := "ToolUnion", name := "canBeNext", desc := "(II)Z" } : Jvm.MethodName)) ∈ lw_tbl := lw_at lw_m5 204 rfl
theorem q1318 : (Jvm.Cond.instanceMethod ({ cls := "ToolUnion", name := "canBeNext", desc := "(II)Z" } : Jvm.MethodName)) ∈ lw_all := lw_g (lw_at lw_m5 205 rfl) rfl
theorem q1319 : (Jvm.Cond.code ({ cls := "ToolUnion", name := "canBeNext", desc := "(II)Z" } : Jvm.MethodName) prog_1_method_95_code (4 : Nat) (Option.some Jvm.ClassFile.FieldType.boolean)) ∈ lw_all := lw_g (lw_at lw_m5 206 rfl) rfl
theorem q1321 : (Jvm.Cond.instanceMethod ({ cls := "ToolUnion", name := "image", desc := "(Z)Z" } : Jvm.MethodName)) ∈ lw_all := lw_g (lw_at lw_m5 208 rfl) rfl
theorem q1322 : (Jvm.Cond.selects "ToolUnion" ({ cls := "ToolUnion", name := "image", desc := "(Z)Z" } : Jvm.MethodName) ({ cls := "ToolUnion", name := "image", desc := "(Z)Z" } : Jvm.MethodName)) ∈ lw_all := lw_g (lw_at lw_m5 209 rfl) rfl
theorem q1323 : (Jvm.Cond.code ({ cls := "ToolUnion", name := "image", desc := "(Z)Z" } : Jvm.MethodName) prog_1_method_100_code (2 : Nat) (Option.some Jvm.ClassFile.FieldType.boolean)) ∈ lw_all := lw_g (lw_at lw_m5 210 rfl) rfl
theorem q1324 : (Jvm.Cond.methodLink "ToolUnion" (677 : Nat) ({ cls := "ToolUnion", name := "takesAll", desc := "()V" } : Jvm.MethodName)) ∈ lw_all := lw_g (lw_at lw_m5 211 rfl) rfl
theorem q1325 : (Jvm.Cond.privateMethod ({ cls := "ToolUnion", name := "takesAll", desc := "()V" } : Jvm.MethodName)) ∈ lw_tbl := lw_at lw_m5 212 rfl
theorem q1326 : (Jvm.Cond.instanceMethod ({ cls := "ToolUnion", name := "takesAll", desc := "()V" } : Jvm.MethodName)) ∈ lw_all := lw_g (lw_at lw_m5 213 rfl) rfl
theorem q1327 : (Jvm.Cond.code ({ cls := "ToolUnion", name := "takesAll", desc := "()V" } : Jvm.MethodName) prog_1_method_98_code (2 : Nat) (Option.none : Option Jvm.ClassFile.FieldType)) ∈ lw_all := lw_g (lw_at lw_m5 214 rfl) rfl
theorem q1328 : (Jvm.Cond.methodLink "ToolUnion" (657 : Nat) ({ cls := "[I", name := "clone", desc := "()Ljava/lang/Object;" } : Jvm.MethodName)) ∈ lw_all := lw_g (lw_at lw_m5 215 rfl) rfl
theorem q1334 : (Jvm.Cond.methodLink "ToolUnion" (680 : Nat) ({ cls := "ToolUnion", name := "goesBack", desc := "()V" } : Jvm.MethodName)) ∈ lw_all := lw_g (lw_at lw_m5 221 rfl) rfl
theorem q1335 : (Jvm.Cond.privateMethod ({ cls := "ToolUnion", name := "goesBack", desc := "()V" } : Jvm.MethodName)) ∈ lw_tbl := lw_at lw_m5 222 rfl
theorem q1336 : (Jvm.Cond.instanceMethod ({ cls := "ToolUnion", name := "goesBack", desc := "()V" } : Jvm.MethodName)) ∈ lw_all := lw_g (lw_at lw_m5 223 rfl) rfl
theorem q1337 : (Jvm.Cond.code ({ cls := "ToolUnion", name := "goesBack", desc := "()V" } : Jvm.MethodName) prog_1_method_99_code (2 : Nat) (Option.none : Option Jvm.ClassFile.FieldType)) ∈ lw_all := lw_g (lw_at lw_m5 224 rfl) rfl
theorem q1338 : (Jvm.Cond.methodLink "ToolUnion" (673 : Nat) ({ cls := "ToolUnion", name := "copies", desc := "([I[I)V" } : Jvm.MethodName)) ∈ lw_all := lw_g (lw_at lw_m5 225 rfl) rfl
theorem q1340 : (Jvm.Cond.instanceMethod ({ cls := "ToolUnion", name := "look", desc := "(I)I" } : Jvm.MethodName)) ∈ lw_all := lw_g (lw_at lw_m5 227 rfl) rfl
theorem q1341 : (Jvm.Cond.selects "ToolUnion" ({ cls := "ToolUnion", name := "look", desc := "(I)I" } : Jvm.MethodName) ({ cls := "ToolUnion", name := "look", desc := "(I)I" } : Jvm.MethodName)) ∈ lw_all := lw_g (lw_at lw_m5 228 rfl) rfl
theorem q1342 : (Jvm.Cond.code ({ cls := "ToolUnion", name := "look", desc := "(I)I" } : Jvm.MethodName) prog_1_method_101_code (2 : Nat) (Option.some Jvm.ClassFile.FieldType.int)) ∈ lw_all := lw_g (lw_at lw_m5 229 rfl) rfl
theorem in_X0 : ∀ w ∈ wsX00, w ∈ lw_all := lw_in wsX00 [400, 402, 404, 406, 408, 410, 412, 414, 416, 418, 420, 422, 424, 426, 428, 430, 432, 434, 436, 438, 440, 442, 444, 446, 448, 450, 452, 454, 456, 458, 460, 462, 464, 466, 468, 470, 472, 474, 476, 478, 480, 482, 484, 486, 488, 490, 492, 494, 496, 498, 500, 502, 504, 506, 508, 510, 512, 514] (by decide +kernel) (by decide +kernel)
