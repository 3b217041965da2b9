/-! ToolUnion$Text -/
set_option maxRecDepth 100000
def RX1 : String := "ToolUnion$Text"
def TX1 : u_T := fun k => match k with
  | 0 => ("ToolUnion$Text", "word", "[I", true)
  | 1 => ("ToolUnion$Text", "worth", "[LToolUnion$Term;", true)
  | 2 => ("ToolUnion$Text", "when", "[LToolUnion$Term;", true)
  | _ => ("ToolUnion$Text", "many", "I", false)
def tyX1 : Nat → FieldType := fun k => match k with
  | 0 => .array .int
  | 1 => .array (.object "ToolUnion$Term")
  | 2 => .array (.object "ToolUnion$Term")
  | _ => .int
abbrev wsX10 : List Cond := u_ws RX1 TX1 4
theorem nmX1 : ∀ a, a < 4 → ∀ b, b < 4 → a ≠ b → (TX1 a).2.1 ≠ (TX1 b).2.1 := by decide +kernel
theorem tyX1_ok : ∀ k, k < 4 → parseFieldDescriptor (TX1 k).2.2.1 = some (tyX1 k) := by decide +kernel
abbrev cX1_init : ByteArray := prog_6_method_1_code
def yX1_init : MethodName := ⟨RX1, "<init>", "()V"⟩
def dkwX1_init_1 : List UInt8 := [189, 0, 15, 181, 0, 21, 177]
abbrev dktX1_init_1 : List UInt8 := dkwX1_init_1 ++ []
def dkwX1_init_0 : List UInt8 := [42, 183, 0, 3, 42, 16, 16, 188, 10, 181, 0, 9, 42, 16, 16, 189, 0, 15, 181, 0, 17, 42, 16, 16]
abbrev dktX1_init_0 : List UInt8 := dkwX1_init_0 ++ dktX1_init_1
theorem dksX1_init_0 : cX1_init.data.toList.drop 0 = dktX1_init_0 := by decide +kernel
theorem dksX1_init_1 : cX1_init.data.toList.drop 24 = dktX1_init_1 := dk_seg dksX1_init_0 24 rfl rfl
theorem dX1_init_0 : decode cX1_init 0 = .ok (.aload_n 0, 1) := dk_42 (dk_at dksX1_init_0 0 rfl rfl)
theorem dX1_init_1 : decode cX1_init 1 = .ok (.invokespecial 3, 3) := dk_183 0 3 (dk_at dksX1_init_0 1 rfl rfl)
theorem dX1_init_4 : decode cX1_init 4 = .ok (.aload_n 0, 1) := dk_42 (dk_at dksX1_init_0 4 rfl rfl)
theorem dX1_init_5 : decode cX1_init 5 = .ok (.bipush 16, 2) := dk_16 16 (dk_at dksX1_init_0 5 rfl rfl)
theorem dX1_init_7 : decode cX1_init 7 = .ok (.newarray .int, 2) := dk_188_10 (dk_at dksX1_init_0 7 rfl rfl)
theorem dX1_init_9 : decode cX1_init 9 = .ok (.putfield 9, 3) := dk_181 0 9 (dk_at dksX1_init_0 9 rfl rfl)
theorem dX1_init_12 : decode cX1_init 12 = .ok (.aload_n 0, 1) := dk_42 (dk_at dksX1_init_0 12 rfl rfl)
theorem dX1_init_13 : decode cX1_init 13 = .ok (.bipush 16, 2) := dk_16 16 (dk_at dksX1_init_0 13 rfl rfl)
theorem dX1_init_15 : decode cX1_init 15 = .ok (.anewarray 15, 3) := dk_189 0 15 (dk_at dksX1_init_0 15 rfl rfl)
theorem dX1_init_18 : decode cX1_init 18 = .ok (.putfield 17, 3) := dk_181 0 17 (dk_at dksX1_init_0 18 rfl rfl)
theorem dX1_init_21 : decode cX1_init 21 = .ok (.aload_n 0, 1) := dk_42 (dk_at dksX1_init_0 21 rfl rfl)
theorem dX1_init_22 : decode cX1_init 22 = .ok (.bipush 16, 2) := dk_16 16 (dk_at dksX1_init_0 22 rfl rfl)
theorem dX1_init_24 : decode cX1_init 24 = .ok (.anewarray 15, 3) := dk_189 0 15 (dk_at dksX1_init_1 0 rfl rfl)
theorem dX1_init_27 : decode cX1_init 27 = .ok (.putfield 21, 3) := dk_181 0 21 (dk_at dksX1_init_1 3 rfl rfl)
theorem dX1_init_30 : decode cX1_init 30 = .ok (.return_, 1) := dk_177 (dk_at dksX1_init_1 6 rfl rfl)
abbrev cX1_first : ByteArray := prog_6_method_2_code
def yX1_first : MethodName := ⟨RX1, "first", "([I)I"⟩
def dkwX1_first_1 : List UInt8 := [50, 43, 182, 0, 28, 153, 0, 5, 28, 172, 132, 2, 1, 167, 255, 221, 2, 172]
abbrev dktX1_first_1 : List UInt8 := dkwX1_first_1 ++ []
def dkwX1_first_0 : List UInt8 := [3, 61, 28, 42, 180, 0, 24, 162, 0, 33, 42, 180, 0, 21, 28, 50, 198, 0, 16, 42, 180, 0, 21, 28]
abbrev dktX1_first_0 : List UInt8 := dkwX1_first_0 ++ dktX1_first_1
theorem dksX1_first_0 : cX1_first.data.toList.drop 0 = dktX1_first_0 := by decide +kernel
theorem dksX1_first_1 : cX1_first.data.toList.drop 24 = dktX1_first_1 := dk_seg dksX1_first_0 24 rfl rfl
theorem dX1_first_0 : decode cX1_first 0 = .ok (.iconst 0, 1) := dk_3 (dk_at dksX1_first_0 0 rfl rfl)
theorem dX1_first_1 : decode cX1_first 1 = .ok (.istore_n 2, 1) := dk_61 (dk_at dksX1_first_0 1 rfl rfl)
theorem dX1_first_2 : decode cX1_first 2 = .ok (.iload_n 2, 1) := dk_28 (dk_at dksX1_first_0 2 rfl rfl)
theorem dX1_first_3 : decode cX1_first 3 = .ok (.aload_n 0, 1) := dk_42 (dk_at dksX1_first_0 3 rfl rfl)
theorem dX1_first_4 : decode cX1_first 4 = .ok (.getfield 24, 3) := dk_180 0 24 (dk_at dksX1_first_0 4 rfl rfl)
theorem dX1_first_7 : decode cX1_first 7 = .ok (.if_icmp .ge 33, 3) := dk_162 0 33 (dk_at dksX1_first_0 7 rfl rfl)
theorem dX1_first_10 : decode cX1_first 10 = .ok (.aload_n 0, 1) := dk_42 (dk_at dksX1_first_0 10 rfl rfl)
theorem dX1_first_11 : decode cX1_first 11 = .ok (.getfield 21, 3) := dk_180 0 21 (dk_at dksX1_first_0 11 rfl rfl)
theorem dX1_first_14 : decode cX1_first 14 = .ok (.iload_n 2, 1) := dk_28 (dk_at dksX1_first_0 14 rfl rfl)
theorem dX1_first_15 : decode cX1_first 15 = .ok (.aaload, 1) := dk_50 (dk_at dksX1_first_0 15 rfl rfl)
theorem dX1_first_16 : decode cX1_first 16 = .ok (.ifnull 16, 3) := dk_198 0 16 (dk_at dksX1_first_0 16 rfl rfl)
theorem dX1_first_19 : decode cX1_first 19 = .ok (.aload_n 0, 1) := dk_42 (dk_at dksX1_first_0 19 rfl rfl)
theorem dX1_first_20 : decode cX1_first 20 = .ok (.getfield 21, 3) := dk_180 0 21 (dk_at dksX1_first_0 20 rfl rfl)
theorem dX1_first_23 : decode cX1_first 23 = .ok (.iload_n 2, 1) := dk_28 (dk_at dksX1_first_0 23 rfl rfl)
theorem dX1_first_24 : decode cX1_first 24 = .ok (.aaload, 1) := dk_50 (dk_at dksX1_first_1 0 rfl rfl)
theorem dX1_first_25 : decode cX1_first 25 = .ok (.aload_n 1, 1) := dk_43 (dk_at dksX1_first_1 1 rfl rfl)
theorem dX1_first_26 : decode cX1_first 26 = .ok (.invokevirtual 28, 3) := dk_182 0 28 (dk_at dksX1_first_1 2 rfl rfl)
theorem dX1_first_29 : decode cX1_first 29 = .ok (.ifCond .eq 5, 3) := dk_153 0 5 (dk_at dksX1_first_1 5 rfl rfl)
theorem dX1_first_32 : decode cX1_first 32 = .ok (.iload_n 2, 1) := dk_28 (dk_at dksX1_first_1 8 rfl rfl)
theorem dX1_first_33 : decode cX1_first 33 = .ok (.ireturn, 1) := dk_172 (dk_at dksX1_first_1 9 rfl rfl)
theorem dX1_first_34 : decode cX1_first 34 = .ok (.iinc 2 1, 3) := dk_132 2 1 (dk_at dksX1_first_1 10 rfl rfl)
theorem dX1_first_37 : decode cX1_first 37 = .ok (.goto (-35), 3) := dk_167 255 221 (dk_at dksX1_first_1 13 rfl rfl)
theorem dX1_first_40 : decode cX1_first 40 = .ok (.iconst (-1), 1) := dk_2 (dk_at dksX1_first_1 16 rfl rfl)
theorem dX1_first_41 : decode cX1_first 41 = .ok (.ireturn, 1) := dk_172 (dk_at dksX1_first_1 17 rfl rfl)
theorem q155 : (Jvm.Cond.initialized "ToolUnion$Text") ∈ lw_all := lw_g (lw_at lw_m1 2 rfl) rfl
theorem q219 : (Jvm.Cond.instantiable "ToolUnion$Text" (4 : Nat)) ∈ lw_all := lw_g (lw_at lw_m1 66 rfl) rfl
theorem q221 : (Jvm.Cond.instanceMethod ({ cls := "ToolUnion$Text", name := "<init>", desc := "()V" } : Jvm.MethodName)) ∈ lw_all := lw_g (lw_at lw_m1 68 rfl) rfl
theorem q222 : (Jvm.Cond.code ({ cls := "ToolUnion$Text", name := "<init>", desc := "()V" } : Jvm.MethodName) prog_6_method_1_code (1 : Nat) (Option.none : Option Jvm.ClassFile.FieldType)) ∈ lw_all := lw_g (lw_at lw_m1 69 rfl) rfl
theorem q223 : (Jvm.Cond.methodLink "ToolUnion$Text" (3 : Nat) ({ cls := "java/lang/Object", name := "<init>", desc := "()V" } : Jvm.MethodName)) ∈ lw_all := lw_g (lw_at lw_m1 70 rfl) rfl
theorem q224 : (Jvm.Cond.classLink "ToolUnion$Text" (15 : Nat) "ToolUnion$Term") ∈ lw_all := lw_g (lw_at lw_m1 71 rfl) rfl
theorem q226 : (Jvm.Cond.fieldLink "ToolUnion$Text" (9 : Nat) "ToolUnion$Text" "word" "[I") ∈ lw_all := lw_g (lw_at lw_m1 73 rfl) rfl
theorem q229 : (Jvm.Cond.fieldLink "ToolUnion$Text" (17 : Nat) "ToolUnion$Text" "worth" "[LToolUnion$Term;") ∈ lw_all := lw_g (lw_at lw_m1 76 rfl) rfl
theorem q232 : (Jvm.Cond.fieldLink "ToolUnion$Text" (21 : Nat) "ToolUnion$Text" "when" "[LToolUnion$Term;") ∈ lw_all := lw_g (lw_at lw_m1 79 rfl) rfl
theorem q235 : (Jvm.Cond.fieldLink "ToolUnion$Text" (24 : Nat) "ToolUnion$Text" "many" "I") ∈ lw_all := lw_g (lw_at lw_m1 82 rfl) rfl
theorem q238 : (Jvm.Cond.laysFinal "ToolUnion$Text" "ToolUnion$Text" "word" "[I") ∈ lw_all := lw_g (lw_at lw_m1 85 rfl) rfl
theorem q239 : (Jvm.Cond.soleField "ToolUnion$Text" "word") ∈ lw_all := lw_g (lw_at lw_m1 86 rfl) rfl
theorem q240 : (Jvm.Cond.laysFinal "ToolUnion$Text" "ToolUnion$Text" "worth" "[LToolUnion$Term;") ∈ lw_all := lw_g (lw_at lw_m1 87 rfl) rfl
theorem q241 : (Jvm.Cond.soleField "ToolUnion$Text" "worth") ∈ lw_all := lw_g (lw_at lw_m1 88 rfl) rfl
theorem q242 : (Jvm.Cond.laysFinal "ToolUnion$Text" "ToolUnion$Text" "when" "[LToolUnion$Term;") ∈ lw_all := lw_g (lw_at lw_m1 89 rfl) rfl
theorem q243 : (Jvm.Cond.soleField "ToolUnion$Text" "when") ∈ lw_all := lw_g (lw_at lw_m1 90 rfl) rfl
theorem q244 : (Jvm.Cond.lays "ToolUnion$Text" "ToolUnion$Text" "many" "I") ∈ lw_all := lw_g (lw_at lw_m1 91 rfl) rfl
theorem q245 : (Jvm.Cond.soleField "ToolUnion$Text" "many") ∈ lw_all := lw_g (lw_at lw_m1 92 rfl) rfl
theorem q246 : (Jvm.Cond.superclass "ToolUnion$Text" "java/lang/Object") ∈ lw_all := lw_g (lw_at lw_m1 93 rfl) rfl
theorem q1059 : (Jvm.Cond.instanceMethod ({ cls := "ToolUnion$Text", name := "first", desc := "([I)I" } : Jvm.MethodName)) ∈ lw_all := lw_g (lw_at lw_m4 186 rfl) rfl
theorem q1060 : (Jvm.Cond.selects "ToolUnion$Text" ({ cls := "ToolUnion$Text", name := "first", desc := "([I)I" } : Jvm.MethodName) ({ cls := "ToolUnion$Text", name := "first", desc := "([I)I" } : Jvm.MethodName)) ∈ lw_all := lw_g (lw_at lw_m4 187 rfl) rfl
theorem q1061 : (Jvm.Cond.code ({ cls := "ToolUnion$Text", name := "first", desc := "([I)I" } : Jvm.MethodName) prog_6_method_2_code (3 : Nat) (Option.some Jvm.ClassFile.FieldType.int)) ∈ lw_all := lw_g (lw_at lw_m4 188 rfl) rfl
theorem q1062 : (Jvm.Cond.methodLink "ToolUnion$Text" (28 : Nat) ({ cls := "ToolUnion$Term", name := "of", desc := "([I)I" } : Jvm.MethodName)) ∈ lw_all := lw_g (lw_at lw_m4 189 rfl) rfl
theorem in_X1 : ∀ w ∈ wsX10, w ∈ lw_all := lw_in wsX10 [238, 240, 242, 244] (by decide +kernel) (by decide +kernel)
/-! ToolUnion$Yard -/
set_option maxRecDepth 100000
def RX2 : String := "ToolUnion$Yard"
def TX2 : u_T := fun k => match k with
  | 0 => ("ToolUnion$Yard", "edge", "[I", true)
  | 1 => ("ToolUnion$Yard", "mood", "[I", true)
  | 2 => ("ToolUnion$Yard", "today", "[I", true)
  | 3 => ("ToolUnion$Yard", "served", "[I", true)
  | 4 => ("ToolUnion$Yard", "may", "[I", true)
  | 5 => ("ToolUnion$Yard", "done", "[I", true)
  | 6 => ("ToolUnion$Yard", "hour", "I", false)
  | 7 => ("ToolUnion$Yard", "strikes", "I", false)
  | 8 => ("ToolUnion$Yard", "state", "I", false)
  | 9 => ("ToolUnion$Yard", "bookMany", "I", false)
  | 10 => ("ToolUnion$Yard", "isThought", "Z", false)
  | 11 => ("ToolUnion$Yard", "refused", "I", false)
  | 12 => ("ToolUnion$Yard", "firstHour", "I", false)
  | 13 => ("ToolUnion$Yard", "firstLine", "I", false)
  | 14 => ("ToolUnion$Yard", "worked", "I", false)
  | _ => ("ToolUnion$Yard", "this$0", "LToolUnion;", true)
def tyX2 : Nat → FieldType := fun k => match k with
  | 0 => .array .int
  | 1 => .array .int
  | 2 => .array .int
  | 3 => .array .int
  | 4 => .array .int
  | 5 => .array .int
  | 6 => .int
  | 7 => .int
  | 8 => .int
  | 9 => .int
  | 10 => .boolean
  | 11 => .int
  | 12 => .int
  | 13 => .int
  | 14 => .int
  | _ => .object "ToolUnion"
abbrev wsX20 : List Cond := u_ws RX2 TX2 16
set_option maxRecDepth 100000 in
theorem nmX2 : ∀ a, a < 16 → ∀ b, b < 16 → a ≠ b → (TX2 a).2.1 ≠ (TX2 b).2.1 := by decide +kernel
set_option maxRecDepth 100000 in
theorem tyX2_ok : ∀ k, k < 16 → parseFieldDescriptor (TX2 k).2.2.1 = some (tyX2 k) := by decide +kernel
abbrev cX2_init : ByteArray := prog_12_method_1_code
def yX2_init : MethodName := ⟨RX2, "<init>", "(LToolUnion;)V"⟩
def dkwX2_init_2 : List UInt8 := [181, 0, 28, 42, 16, 8, 188, 10, 181, 0, 31, 177]
abbrev dktX2_init_2 : List UInt8 := dkwX2_init_2 ++ []
def dkwX2_init_1 : List UInt8 := [181, 0, 19, 42, 16, 8, 188, 10, 181, 0, 22, 42, 16, 8, 188, 10, 181, 0, 25, 42, 7, 188, 10]
abbrev dktX2_init_1 : List UInt8 := dkwX2_init_1 ++ dktX2_init_2
def dkwX2_init_0 : List UInt8 := [42, 43, 181, 0, 3, 42, 183, 0, 9, 42, 16, 8, 188, 10, 181, 0, 15, 42, 16, 8, 188, 10]
abbrev dktX2_init_0 : List UInt8 := dkwX2_init_0 ++ dktX2_init_1
theorem dksX2_init_0 : cX2_init.data.toList.drop 0 = dktX2_init_0 := by decide +kernel
theorem dksX2_init_1 : cX2_init.data.toList.drop 22 = dktX2_init_1 := dk_seg dksX2_init_0 22 rfl rfl
theorem dksX2_init_2 : cX2_init.data.toList.drop 45 = dktX2_init_2 := dk_seg dksX2_init_1 23 rfl rfl
theorem dX2_init_0 : decode cX2_init 0 = .ok (.aload_n 0, 1) := dk_42 (dk_at dksX2_init_0 0 rfl rfl)
theorem dX2_init_1 : decode cX2_init 1 = .ok (.aload_n 1, 1) := dk_43 (dk_at dksX2_init_0 1 rfl rfl)
theorem dX2_init_2 : decode cX2_init 2 = .ok (.putfield 3, 3) := dk_181 0 3 (dk_at dksX2_init_0 2 rfl rfl)
theorem dX2_init_5 : decode cX2_init 5 = .ok (.aload_n 0, 1) := dk_42 (dk_at dksX2_init_0 5 rfl rfl)
theorem dX2_init_6 : decode cX2_init 6 = .ok (.invokespecial 9, 3) := dk_183 0 9 (dk_at dksX2_init_0 6 rfl rfl)
theorem dX2_init_9 : decode cX2_init 9 = .ok (.aload_n 0, 1) := dk_42 (dk_at dksX2_init_0 9 rfl rfl)
theorem dX2_init_10 : decode cX2_init 10 = .ok (.bipush 8, 2) := dk_16 8 (dk_at dksX2_init_0 10 rfl rfl)
theorem dX2_init_12 : decode cX2_init 12 = .ok (.newarray .int, 2) := dk_188_10 (dk_at dksX2_init_0 12 rfl rfl)
theorem dX2_init_14 : decode cX2_init 14 = .ok (.putfield 15, 3) := dk_181 0 15 (dk_at dksX2_init_0 14 rfl rfl)
theorem dX2_init_17 : decode cX2_init 17 = .ok (.aload_n 0, 1) := dk_42 (dk_at dksX2_init_0 17 rfl rfl)
theorem dX2_init_18 : decode cX2_init 18 = .ok (.bipush 8, 2) := dk_16 8 (dk_at dksX2_init_0 18 rfl rfl)
theorem dX2_init_20 : decode cX2_init 20 = .ok (.newarray .int, 2) := dk_188_10 (dk_at dksX2_init_0 20 rfl rfl)
theorem dX2_init_22 : decode cX2_init 22 = .ok (.putfield 19, 3) := dk_181 0 19 (dk_at dksX2_init_1 0 rfl rfl)
theorem dX2_init_25 : decode cX2_init 25 = .ok (.aload_n 0, 1) := dk_42 (dk_at dksX2_init_1 3 rfl rfl)
theorem dX2_init_26 : decode cX2_init 26 = .ok (.bipush 8, 2) := dk_16 8 (dk_at dksX2_init_1 4 rfl rfl)
theorem dX2_init_28 : decode cX2_init 28 = .ok (.newarray .int, 2) := dk_188_10 (dk_at dksX2_init_1 6 rfl rfl)
theorem dX2_init_30 : decode cX2_init 30 = .ok (.putfield 22, 3) := dk_181 0 22 (dk_at dksX2_init_1 8 rfl rfl)
theorem dX2_init_33 : decode cX2_init 33 = .ok (.aload_n 0, 1) := dk_42 (dk_at dksX2_init_1 11 rfl rfl)
theorem dX2_init_34 : decode cX2_init 34 = .ok (.bipush 8, 2) := dk_16 8 (dk_at dksX2_init_1 12 rfl rfl)
theorem dX2_init_36 : decode cX2_init 36 = .ok (.newarray .int, 2) := dk_188_10 (dk_at dksX2_init_1 14 rfl rfl)
theorem dX2_init_38 : decode cX2_init 38 = .ok (.putfield 25, 3) := dk_181 0 25 (dk_at dksX2_init_1 16 rfl rfl)
theorem dX2_init_41 : decode cX2_init 41 = .ok (.aload_n 0, 1) := dk_42 (dk_at dksX2_init_1 19 rfl rfl)
theorem dX2_init_42 : decode cX2_init 42 = .ok (.iconst 4, 1) := dk_7 (dk_at dksX2_init_1 20 rfl rfl)
theorem dX2_init_43 : decode cX2_init 43 = .ok (.newarray .int, 2) := dk_188_10 (dk_at dksX2_init_1 21 rfl rfl)
theorem dX2_init_45 : decode cX2_init 45 = .ok (.putfield 28, 3) := dk_181 0 28 (dk_at dksX2_init_2 0 rfl rfl)
theorem dX2_init_48 : decode cX2_init 48 = .ok (.aload_n 0, 1) := dk_42 (dk_at dksX2_init_2 3 rfl rfl)
theorem dX2_init_49 : decode cX2_init 49 = .ok (.bipush 8, 2) := dk_16 8 (dk_at dksX2_init_2 4 rfl rfl)
theorem dX2_init_51 : decode cX2_init 51 = .ok (.newarray .int, 2) := dk_188_10 (dk_at dksX2_init_2 6 rfl rfl)
theorem dX2_init_53 : decode cX2_init 53 = .ok (.putfield 31, 3) := dk_181 0 31 (dk_at dksX2_init_2 8 rfl rfl)
theorem dX2_init_56 : decode cX2_init 56 = .ok (.return_, 1) := dk_177 (dk_at dksX2_init_2 11 rfl rfl)
abbrev cX2_become : ByteArray := prog_12_method_2_code
def yX2_become : MethodName := ⟨RX2, "become", "(LToolUnion$Yard;)V"⟩
def dkwX2_become_4 : List UInt8 := [180, 0, 48, 181, 0, 48, 177]
abbrev dktX2_become_4 : List UInt8 := dkwX2_become_4 ++ []
def dkwX2_become_3 : List UInt8 := [180, 0, 38, 181, 0, 38, 42, 43, 180, 0, 42, 181, 0, 42, 42, 43, 180, 0, 45, 181, 0, 45, 42, 43]
abbrev dktX2_become_3 : List UInt8 := dkwX2_become_3 ++ dktX2_become_4
def dkwX2_become_2 : List UInt8 := [180, 0, 28, 42, 180, 0, 28, 184, 0, 34, 43, 180, 0, 31, 42, 180, 0, 31, 184, 0, 34, 42, 43]
abbrev dktX2_become_2 : List UInt8 := dkwX2_become_2 ++ dktX2_become_3
def dkwX2_become_1 : List UInt8 := [180, 0, 22, 42, 180, 0, 22, 184, 0, 34, 43, 180, 0, 25, 42, 180, 0, 25, 184, 0, 34, 43]
abbrev dktX2_become_1 : List UInt8 := dkwX2_become_1 ++ dktX2_become_2
def dkwX2_become_0 : List UInt8 := [43, 180, 0, 15, 42, 180, 0, 15, 184, 0, 34, 43, 180, 0, 19, 42, 180, 0, 19, 184, 0, 34, 43]
abbrev dktX2_become_0 : List UInt8 := dkwX2_become_0 ++ dktX2_become_1
theorem dksX2_become_0 : cX2_become.data.toList.drop 0 = dktX2_become_0 := by decide +kernel
theorem dksX2_become_1 : cX2_become.data.toList.drop 23 = dktX2_become_1 := dk_seg dksX2_become_0 23 rfl rfl
theorem dksX2_become_2 : cX2_become.data.toList.drop 45 = dktX2_become_2 := dk_seg dksX2_become_1 22 rfl rfl
theorem dksX2_become_3 : cX2_become.data.toList.drop 68 = dktX2_become_3 := dk_seg dksX2_become_2 23 rfl rfl
theorem dksX2_become_4 : cX2_become.data.toList.drop 92 = dktX2_become_4 := dk_seg dksX2_become_3 24 rfl rfl
theorem dX2_become_0 : decode cX2_become 0 = .ok (.aload_n 1, 1) := dk_43 (dk_at dksX2_become_0 0 rfl rfl)
theorem dX2_become_1 : decode cX2_become 1 = .ok (.getfield 15, 3) := dk_180 0 15 (dk_at dksX2_become_0 1 rfl rfl)
theorem dX2_become_4 : decode cX2_become 4 = .ok (.aload_n 0, 1) := dk_42 (dk_at dksX2_become_0 4 rfl rfl)
theorem dX2_become_5 : decode cX2_become 5 = .ok (.getfield 15, 3) := dk_180 0 15 (dk_at dksX2_become_0 5 rfl rfl)
theorem dX2_become_8 : decode cX2_become 8 = .ok (.invokestatic 34, 3) := dk_184 0 34 (dk_at dksX2_become_0 8 rfl rfl)
theorem dX2_become_11 : decode cX2_become 11 = .ok (.aload_n 1, 1) := dk_43 (dk_at dksX2_become_0 11 rfl rfl)
theorem dX2_become_12 : decode cX2_become 12 = .ok (.getfield 19, 3) := dk_180 0 19 (dk_at dksX2_become_0 12 rfl rfl)
theorem dX2_become_15 : decode cX2_become 15 = .ok (.aload_n 0, 1) := dk_42 (dk_at dksX2_become_0 15 rfl rfl)
theorem dX2_become_16 : decode cX2_become 16 = .ok (.getfield 19, 3) := dk_180 0 19 (dk_at dksX2_become_0 16 rfl rfl)
theorem dX2_become_19 : decode cX2_become 19 = .ok (.invokestatic 34, 3) := dk_184 0 34 (dk_at dksX2_become_0 19 rfl rfl)
theorem dX2_become_22 : decode cX2_become 22 = .ok (.aload_n 1, 1) := dk_43 (dk_at dksX2_become_0 22 rfl rfl)
theorem dX2_become_23 : decode cX2_become 23 = .ok (.getfield 22, 3) := dk_180 0 22 (dk_at dksX2_become_1 0 rfl rfl)
theorem dX2_become_26 : decode cX2_become 26 = .ok (.aload_n 0, 1) := dk_42 (dk_at dksX2_become_1 3 rfl rfl)
theorem dX2_become_27 : decode cX2_become 27 = .ok (.getfield 22, 3) := dk_180 0 22 (dk_at dksX2_become_1 4 rfl rfl)
theorem dX2_become_30 : decode cX2_become 30 = .ok (.invokestatic 34, 3) := dk_184 0 34 (dk_at dksX2_become_1 7 rfl rfl)
theorem dX2_become_33 : decode cX2_become 33 = .ok (.aload_n 1, 1) := dk_43 (dk_at dksX2_become_1 10 rfl rfl)
theorem dX2_become_34 : decode cX2_become 34 = .ok (.getfield 25, 3) := dk_180 0 25 (dk_at dksX2_become_1 11 rfl rfl)
theorem dX2_become_37 : decode cX2_become 37 = .ok (.aload_n 0, 1) := dk_42 (dk_at dksX2_become_1 14 rfl rfl)
theorem dX2_become_38 : decode cX2_become 38 = .ok (.getfield 25, 3) := dk_180 0 25 (dk_at dksX2_become_1 15 rfl rfl)
theorem dX2_become_41 : decode cX2_become 41 = .ok (.invokestatic 34, 3) := dk_184 0 34 (dk_at dksX2_become_1 18 rfl rfl)
theorem dX2_become_44 : decode cX2_become 44 = .ok (.aload_n 1, 1) := dk_43 (dk_at dksX2_become_1 21 rfl rfl)
theorem dX2_become_45 : decode cX2_become 45 = .ok (.getfield 28, 3) := dk_180 0 28 (dk_at dksX2_become_2 0 rfl rfl)
theorem dX2_become_48 : decode cX2_become 48 = .ok (.aload_n 0, 1) := dk_42 (dk_at dksX2_become_2 3 rfl rfl)
theorem dX2_become_49 : decode cX2_become 49 = .ok (.getfield 28, 3) := dk_180 0 28 (dk_at dksX2_become_2 4 rfl rfl)
theorem dX2_become_52 : decode cX2_become 52 = .ok (.invokestatic 34, 3) := dk_184 0 34 (dk_at dksX2_become_2 7 rfl rfl)
theorem dX2_become_55 : decode cX2_become 55 = .ok (.aload_n 1, 1) := dk_43 (dk_at dksX2_become_2 10 rfl rfl)
theorem dX2_become_56 : decode cX2_become 56 = .ok (.getfield 31, 3) := dk_180 0 31 (dk_at dksX2_become_2 11 rfl rfl)
theorem dX2_become_59 : decode cX2_become 59 = .ok (.aload_n 0, 1) := dk_42 (dk_at dksX2_become_2 14 rfl rfl)
theorem dX2_become_60 : decode cX2_become 60 = .ok (.getfield 31, 3) := dk_180 0 31 (dk_at dksX2_become_2 15 rfl rfl)
theorem dX2_become_63 : decode cX2_become 63 = .ok (.invokestatic 34, 3) := dk_184 0 34 (dk_at dksX2_become_2 18 rfl rfl)
theorem dX2_become_66 : decode cX2_become 66 = .ok (.aload_n 0, 1) := dk_42 (dk_at dksX2_become_2 21 rfl rfl)
theorem dX2_become_67 : decode cX2_become 67 = .ok (.aload_n 1, 1) := dk_43 (dk_at dksX2_become_2 22 rfl rfl)
theorem dX2_become_68 : decode cX2_become 68 = .ok (.getfield 38, 3) := dk_180 0 38 (dk_at dksX2_become_3 0 rfl rfl)
theorem dX2_become_71 : decode cX2_become 71 = .ok (.putfield 38, 3) := dk_181 0 38 (dk_at dksX2_become_3 3 rfl rfl)
theorem dX2_become_74 : decode cX2_become 74 = .ok (.aload_n 0, 1) := dk_42 (dk_at dksX2_become_3 6 rfl rfl)
theorem dX2_become_75 : decode cX2_become 75 = .ok (.aload_n 1, 1) := dk_43 (dk_at dksX2_become_3 7 rfl rfl)
theorem dX2_become_76 : decode cX2_become 76 = .ok (.getfield 42, 3) := dk_180 0 42 (dk_at dksX2_become_3 8 rfl rfl)
theorem dX2_become_79 : decode cX2_become 79 = .ok (.putfield 42, 3) := dk_181 0 42 (dk_at dksX2_become_3 11 rfl rfl)
theorem dX2_become_82 : decode cX2_become 82 = .ok (.aload_n 0, 1) := dk_42 (dk_at dksX2_become_3 14 rfl rfl)
theorem dX2_become_83 : decode cX2_become 83 = .ok (.aload_n 1, 1) := dk_43 (dk_at dksX2_become_3 15 rfl rfl)
theorem dX2_become_84 : decode cX2_become 84 = .ok (.getfield 45, 3) := dk_180 0 45 (dk_at dksX2_become_3 16 rfl rfl)
theorem dX2_become_87 : decode cX2_become 87 = .ok (.putfield 45, 3) := dk_181 0 45 (dk_at dksX2_become_3 19 rfl rfl)
theorem dX2_become_90 : decode cX2_become 90 = .ok (.aload_n 0, 1) := dk_42 (dk_at dksX2_become_3 22 rfl rfl)
theorem dX2_become_91 : decode cX2_become 91 = .ok (.aload_n 1, 1) := dk_43 (dk_at dksX2_become_3 23 rfl rfl)
theorem dX2_become_92 : decode cX2_become 92 = .ok (.getfield 48, 3) := dk_180 0 48 (dk_at dksX2_become_4 0 rfl rfl)
theorem dX2_become_95 : decode cX2_become 95 = .ok (.putfield 48, 3) := dk_181 0 48 (dk_at dksX2_become_4 3 rfl rfl)
theorem dX2_become_98 : decode cX2_become 98 = .ok (.return_, 1) := dk_177 (dk_at dksX2_become_4 6 rfl rfl)
abbrev cX2_goesBy : ByteArray := prog_12_method_17_code
def yX2_goesBy : MethodName := ⟨RX2, "goesBy", "()I"⟩
def dkwX2_goesBy_12 : List UInt8 := [42, 180, 0, 22, 3, 184, 0, 223, 42, 180, 0, 59, 27, 100, 172]
abbrev dktX2_goesBy_12 : List UInt8 := dkwX2_goesBy_12 ++ []
def dkwX2_goesBy_11 : List UInt8 := [28, 182, 0, 220, 42, 89, 180, 0, 38, 4, 96, 181, 0, 38, 42, 180, 0, 38, 16, 8, 112, 154, 0, 11]
abbrev dktX2_goesBy_11 : List UInt8 := dkwX2_goesBy_11 ++ dktX2_goesBy_12
def dkwX2_goesBy_10 : List UInt8 := [132, 4, 1, 167, 255, 33, 42, 180, 0, 55, 154, 0, 18, 42, 180, 0, 3, 180, 0, 179, 158, 0, 8, 42]
abbrev dktX2_goesBy_10 : List UInt8 := dkwX2_goesBy_10 ++ dktX2_goesBy_11
def dkwX2_goesBy_9 : List UInt8 := [25, 5, 182, 0, 194, 182, 0, 213, 42, 180, 0, 55, 154, 0, 12, 42, 180, 0, 3, 25, 5, 182, 0, 216]
abbrev dktX2_goesBy_9 : List UInt8 := dkwX2_goesBy_9 ++ dktX2_goesBy_10
def dkwX2_goesBy_8 : List UInt8 := [182, 0, 197, 92, 46, 4, 96, 79, 42, 89, 180, 0, 62, 4, 96, 181, 0, 62, 42, 25, 5, 182, 0, 191]
abbrev dktX2_goesBy_8 : List UInt8 := dkwX2_goesBy_8 ++ dktX2_goesBy_9
def dkwX2_goesBy_7 : List UInt8 := [182, 0, 191, 120, 128, 61, 29, 4, 25, 5, 182, 0, 194, 120, 128, 62, 42, 180, 0, 31, 25, 5]
abbrev dktX2_goesBy_7 : List UInt8 := dkwX2_goesBy_7 ++ dktX2_goesBy_8
def dkwX2_goesBy_6 : List UInt8 := [167, 0, 4, 3, 54, 6, 21, 6, 154, 0, 12, 42, 21, 4, 182, 0, 209, 167, 0, 77, 28, 4, 25, 5]
abbrev dktX2_goesBy_6 : List UInt8 := dkwX2_goesBy_6 ++ dktX2_goesBy_7
def dkwX2_goesBy_5 : List UInt8 := [46, 160, 0, 24, 42, 25, 5, 182, 0, 191, 25, 5, 182, 0, 194, 182, 0, 206, 153, 0, 7, 4]
abbrev dktX2_goesBy_5 : List UInt8 := dkwX2_goesBy_5 ++ dktX2_goesBy_6
def dkwX2_goesBy_4 : List UInt8 := [180, 0, 153, 25, 5, 182, 0, 197, 50, 182, 0, 203, 42, 180, 0, 3, 180, 0, 79, 25, 5, 182, 0, 191]
abbrev dktX2_goesBy_4 : List UInt8 := dkwX2_goesBy_4 ++ dktX2_goesBy_5
def dkwX2_goesBy_3 : List UInt8 := [184, 0, 91, 154, 0, 68, 42, 25, 5, 182, 0, 197, 182, 0, 200, 153, 0, 56, 42, 180, 0, 3]
abbrev dktX2_goesBy_3 : List UInt8 := dkwX2_goesBy_3 ++ dktX2_goesBy_4
def dkwX2_goesBy_2 : List UInt8 := [154, 0, 6, 167, 0, 183, 28, 25, 5, 182, 0, 191, 184, 0, 91, 154, 0, 80, 29, 25, 5, 182, 0, 194]
abbrev dktX2_goesBy_2 : List UInt8 := dkwX2_goesBy_2 ++ dktX2_goesBy_3
def dkwX2_goesBy_1 : List UInt8 := [162, 0, 216, 42, 180, 0, 3, 180, 0, 182, 21, 4, 50, 58, 5, 25, 5, 42, 180, 0, 38, 182, 0, 186]
abbrev dktX2_goesBy_1 : List UInt8 := dkwX2_goesBy_1 ++ dktX2_goesBy_2
def dkwX2_goesBy_0 : List UInt8 := [42, 180, 0, 59, 60, 3, 61, 3, 62, 3, 54, 4, 21, 4, 42, 180, 0, 3, 180, 0, 182, 190]
abbrev dktX2_goesBy_0 : List UInt8 := dkwX2_goesBy_0 ++ dktX2_goesBy_1
theorem dksX2_goesBy_0 : cX2_goesBy.data.toList.drop 0 = dktX2_goesBy_0 := by decide +kernel
theorem dksX2_goesBy_1 : cX2_goesBy.data.toList.drop 22 = dktX2_goesBy_1 := dk_seg dksX2_goesBy_0 22 rfl rfl
theorem dksX2_goesBy_2 : cX2_goesBy.data.toList.drop 46 = dktX2_goesBy_2 := dk_seg dksX2_goesBy_1 24 rfl rfl
theorem dksX2_goesBy_3 : cX2_goesBy.data.toList.drop 70 = dktX2_goesBy_3 := dk_seg dksX2_goesBy_2 24 rfl rfl
theorem dksX2_goesBy_4 : cX2_goesBy.data.toList.drop 92 = dktX2_goesBy_4 := dk_seg dksX2_goesBy_3 22 rfl rfl
theorem dksX2_goesBy_5 : cX2_goesBy.data.toList.drop 116 = dktX2_goesBy_5 := dk_seg dksX2_goesBy_4 24 rfl rfl
theorem dksX2_goesBy_6 : cX2_goesBy.data.toList.drop 138 = dktX2_goesBy_6 := dk_seg dksX2_goesBy_5 22 rfl rfl
theorem dksX2_goesBy_7 : cX2_goesBy.data.toList.drop 162 = dktX2_goesBy_7 := dk_seg dksX2_goesBy_6 24 rfl rfl
theorem dksX2_goesBy_8 : cX2_goesBy.data.toList.drop 184 = dktX2_goesBy_8 := dk_seg dksX2_goesBy_7 22 rfl rfl
theorem dksX2_goesBy_9 : cX2_goesBy.data.toList.drop 208 = dktX2_goesBy_9 := dk_seg dksX2_goesBy_8 24 rfl rfl
theorem dksX2_goesBy_10 : cX2_goesBy.data.toList.drop 232 = dktX2_goesBy_10 := dk_seg dksX2_goesBy_9 24 rfl rfl
theorem dksX2_goesBy_11 : cX2_goesBy.data.toList.drop 256 = dktX2_goesBy_11 := dk_seg dksX2_goesBy_10 24 rfl rfl
theorem dksX2_goesBy_12 : cX2_goesBy.data.toList.drop 280 = dktX2_goesBy_12 := dk_seg dksX2_goesBy_11 24 rfl rfl
theorem dX2_goesBy_0 : decode cX2_goesBy 0 = .ok (.aload_n 0, 1) := dk_42 (dk_at dksX2_goesBy_0 0 rfl rfl)
theorem dX2_goesBy_1 : decode cX2_goesBy 1 = .ok (.getfield 59, 3) := dk_180 0 59 (dk_at dksX2_goesBy_0 1 rfl rfl)
theorem dX2_goesBy_4 : decode cX2_goesBy 4 = .ok (.istore_n 1, 1) := dk_60 (dk_at dksX2_goesBy_0 4 rfl rfl)
theorem dX2_goesBy_5 : decode cX2_goesBy 5 = .ok (.iconst 0, 1) := dk_3 (dk_at dksX2_goesBy_0 5 rfl rfl)
theorem dX2_goesBy_6 : decode cX2_goesBy 6 = .ok (.istore_n 2, 1) := dk_61 (dk_at dksX2_goesBy_0 6 rfl rfl)
theorem dX2_goesBy_7 : decode cX2_goesBy 7 = .ok (.iconst 0, 1) := dk_3 (dk_at dksX2_goesBy_0 7 rfl rfl)
theorem dX2_goesBy_8 : decode cX2_goesBy 8 = .ok (.istore_n 3, 1) := dk_62 (dk_at dksX2_goesBy_0 8 rfl rfl)
theorem dX2_goesBy_9 : decode cX2_goesBy 9 = .ok (.iconst 0, 1) := dk_3 (dk_at dksX2_goesBy_0 9 rfl rfl)
theorem dX2_goesBy_10 : decode cX2_goesBy 10 = .ok (.istore 4, 2) := dk_54 4 (dk_at dksX2_goesBy_0 10 rfl rfl)
theorem dX2_goesBy_12 : decode cX2_goesBy 12 = .ok (.iload 4, 2) := dk_21 4 (dk_at dksX2_goesBy_0 12 rfl rfl)
theorem dX2_goesBy_14 : decode cX2_goesBy 14 = .ok (.aload_n 0, 1) := dk_42 (dk_at dksX2_goesBy_0 14 rfl rfl)
theorem dX2_goesBy_15 : decode cX2_goesBy 15 = .ok (.getfield 3, 3) := dk_180 0 3 (dk_at dksX2_goesBy_0 15 rfl rfl)
theorem dX2_goesBy_18 : decode cX2_goesBy 18 = .ok (.getfield 182, 3) := dk_180 0 182 (dk_at dksX2_goesBy_0 18 rfl rfl)
theorem dX2_goesBy_21 : decode cX2_goesBy 21 = .ok (.arraylength, 1) := dk_190 (dk_at dksX2_goesBy_0 21 rfl rfl)
theorem dX2_goesBy_22 : decode cX2_goesBy 22 = .ok (.if_icmp .ge 216, 3) := dk_162 0 216 (dk_at dksX2_goesBy_1 0 rfl rfl)
theorem dX2_goesBy_25 : decode cX2_goesBy 25 = .ok (.aload_n 0, 1) := dk_42 (dk_at dksX2_goesBy_1 3 rfl rfl)
theorem dX2_goesBy_26 : decode cX2_goesBy 26 = .ok (.getfield 3, 3) := dk_180 0 3 (dk_at dksX2_goesBy_1 4 rfl rfl)
theorem dX2_goesBy_29 : decode cX2_goesBy 29 = .ok (.getfield 182, 3) := dk_180 0 182 (dk_at dksX2_goesBy_1 7 rfl rfl)
theorem dX2_goesBy_32 : decode cX2_goesBy 32 = .ok (.iload 4, 2) := dk_21 4 (dk_at dksX2_goesBy_1 10 rfl rfl)
theorem dX2_goesBy_34 : decode cX2_goesBy 34 = .ok (.aaload, 1) := dk_50 (dk_at dksX2_goesBy_1 12 rfl rfl)
theorem dX2_goesBy_35 : decode cX2_goesBy 35 = .ok (.astore 5, 2) := dk_58 5 (dk_at dksX2_goesBy_1 13 rfl rfl)
theorem dX2_goesBy_37 : decode cX2_goesBy 37 = .ok (.aload 5, 2) := dk_25 5 (dk_at dksX2_goesBy_1 15 rfl rfl)
theorem dX2_goesBy_39 : decode cX2_goesBy 39 = .ok (.aload_n 0, 1) := dk_42 (dk_at dksX2_goesBy_1 17 rfl rfl)
theorem dX2_goesBy_40 : decode cX2_goesBy 40 = .ok (.getfield 38, 3) := dk_180 0 38 (dk_at dksX2_goesBy_1 18 rfl rfl)
theorem dX2_goesBy_43 : decode cX2_goesBy 43 = .ok (.invokevirtual 186, 3) := dk_182 0 186 (dk_at dksX2_goesBy_1 21 rfl rfl)
theorem dX2_goesBy_46 : decode cX2_goesBy 46 = .ok (.ifCond .ne 6, 3) := dk_154 0 6 (dk_at dksX2_goesBy_2 0 rfl rfl)
theorem dX2_goesBy_49 : decode cX2_goesBy 49 = .ok (.goto 183, 3) := dk_167 0 183 (dk_at dksX2_goesBy_2 3 rfl rfl)
theorem dX2_goesBy_52 : decode cX2_goesBy 52 = .ok (.iload_n 2, 1) := dk_28 (dk_at dksX2_goesBy_2 6 rfl rfl)
theorem dX2_goesBy_53 : decode cX2_goesBy 53 = .ok (.aload 5, 2) := dk_25 5 (dk_at dksX2_goesBy_2 7 rfl rfl)
theorem dX2_goesBy_55 : decode cX2_goesBy 55 = .ok (.invokevirtual 191, 3) := dk_182 0 191 (dk_at dksX2_goesBy_2 9 rfl rfl)
theorem dX2_goesBy_58 : decode cX2_goesBy 58 = .ok (.invokestatic 91, 3) := dk_184 0 91 (dk_at dksX2_goesBy_2 12 rfl rfl)
theorem dX2_goesBy_61 : decode cX2_goesBy 61 = .ok (.ifCond .ne 80, 3) := dk_154 0 80 (dk_at dksX2_goesBy_2 15 rfl rfl)
theorem dX2_goesBy_64 : decode cX2_goesBy 64 = .ok (.iload_n 3, 1) := dk_29 (dk_at dksX2_goesBy_2 18 rfl rfl)
theorem dX2_goesBy_65 : decode cX2_goesBy 65 = .ok (.aload 5, 2) := dk_25 5 (dk_at dksX2_goesBy_2 19 rfl rfl)
theorem dX2_goesBy_67 : decode cX2_goesBy 67 = .ok (.invokevirtual 194, 3) := dk_182 0 194 (dk_at dksX2_goesBy_2 21 rfl rfl)
theorem dX2_goesBy_70 : decode cX2_goesBy 70 = .ok (.invokestatic 91, 3) := dk_184 0 91 (dk_at dksX2_goesBy_3 0 rfl rfl)
theorem dX2_goesBy_73 : decode cX2_goesBy 73 = .ok (.ifCond .ne 68, 3) := dk_154 0 68 (dk_at dksX2_goesBy_3 3 rfl rfl)
theorem dX2_goesBy_76 : decode cX2_goesBy 76 = .ok (.aload_n 0, 1) := dk_42 (dk_at dksX2_goesBy_3 6 rfl rfl)
theorem dX2_goesBy_77 : decode cX2_goesBy 77 = .ok (.aload 5, 2) := dk_25 5 (dk_at dksX2_goesBy_3 7 rfl rfl)
theorem dX2_goesBy_79 : decode cX2_goesBy 79 = .ok (.invokevirtual 197, 3) := dk_182 0 197 (dk_at dksX2_goesBy_3 9 rfl rfl)
theorem dX2_goesBy_82 : decode cX2_goesBy 82 = .ok (.invokevirtual 200, 3) := dk_182 0 200 (dk_at dksX2_goesBy_3 12 rfl rfl)
theorem dX2_goesBy_85 : decode cX2_goesBy 85 = .ok (.ifCond .eq 56, 3) := dk_153 0 56 (dk_at dksX2_goesBy_3 15 rfl rfl)
theorem dX2_goesBy_88 : decode cX2_goesBy 88 = .ok (.aload_n 0, 1) := dk_42 (dk_at dksX2_goesBy_3 18 rfl rfl)
theorem dX2_goesBy_89 : decode cX2_goesBy 89 = .ok (.getfield 3, 3) := dk_180 0 3 (dk_at dksX2_goesBy_3 19 rfl rfl)
theorem dX2_goesBy_92 : decode cX2_goesBy 92 = .ok (.getfield 153, 3) := dk_180 0 153 (dk_at dksX2_goesBy_4 0 rfl rfl)
theorem dX2_goesBy_95 : decode cX2_goesBy 95 = .ok (.aload 5, 2) := dk_25 5 (dk_at dksX2_goesBy_4 3 rfl rfl)
theorem dX2_goesBy_97 : decode cX2_goesBy 97 = .ok (.invokevirtual 197, 3) := dk_182 0 197 (dk_at dksX2_goesBy_4 5 rfl rfl)
theorem dX2_goesBy_100 : decode cX2_goesBy 100 = .ok (.aaload, 1) := dk_50 (dk_at dksX2_goesBy_4 8 rfl rfl)
theorem dX2_goesBy_101 : decode cX2_goesBy 101 = .ok (.invokevirtual 203, 3) := dk_182 0 203 (dk_at dksX2_goesBy_4 9 rfl rfl)
theorem dX2_goesBy_104 : decode cX2_goesBy 104 = .ok (.aload_n 0, 1) := dk_42 (dk_at dksX2_goesBy_4 12 rfl rfl)
theorem dX2_goesBy_105 : decode cX2_goesBy 105 = .ok (.getfield 3, 3) := dk_180 0 3 (dk_at dksX2_goesBy_4 13 rfl rfl)
theorem dX2_goesBy_108 : decode cX2_goesBy 108 = .ok (.getfield 79, 3) := dk_180 0 79 (dk_at dksX2_goesBy_4 16 rfl rfl)
theorem dX2_goesBy_111 : decode cX2_goesBy 111 = .ok (.aload 5, 2) := dk_25 5 (dk_at dksX2_goesBy_4 19 rfl rfl)
theorem dX2_goesBy_113 : decode cX2_goesBy 113 = .ok (.invokevirtual 191, 3) := dk_182 0 191 (dk_at dksX2_goesBy_4 21 rfl rfl)
theorem dX2_goesBy_116 : decode cX2_goesBy 116 = .ok (.iaload, 1) := dk_46 (dk_at dksX2_goesBy_5 0 rfl rfl)
theorem dX2_goesBy_117 : decode cX2_goesBy 117 = .ok (.if_icmp .ne 24, 3) := dk_160 0 24 (dk_at dksX2_goesBy_5 1 rfl rfl)
theorem dX2_goesBy_120 : decode cX2_goesBy 120 = .ok (.aload_n 0, 1) := dk_42 (dk_at dksX2_goesBy_5 4 rfl rfl)
theorem dX2_goesBy_121 : decode cX2_goesBy 121 = .ok (.aload 5, 2) := dk_25 5 (dk_at dksX2_goesBy_5 5 rfl rfl)
theorem dX2_goesBy_123 : decode cX2_goesBy 123 = .ok (.invokevirtual 191, 3) := dk_182 0 191 (dk_at dksX2_goesBy_5 7 rfl rfl)
theorem dX2_goesBy_126 : decode cX2_goesBy 126 = .ok (.aload 5, 2) := dk_25 5 (dk_at dksX2_goesBy_5 10 rfl rfl)
theorem dX2_goesBy_128 : decode cX2_goesBy 128 = .ok (.invokevirtual 194, 3) := dk_182 0 194 (dk_at dksX2_goesBy_5 12 rfl rfl)
theorem dX2_goesBy_131 : decode cX2_goesBy 131 = .ok (.invokevirtual 206, 3) := dk_182 0 206 (dk_at dksX2_goesBy_5 15 rfl rfl)
theorem dX2_goesBy_134 : decode cX2_goesBy 134 = .ok (.ifCond .eq 7, 3) := dk_153 0 7 (dk_at dksX2_goesBy_5 18 rfl rfl)
theorem dX2_goesBy_137 : decode cX2_goesBy 137 = .ok (.iconst 1, 1) := dk_4 (dk_at dksX2_goesBy_5 21 rfl rfl)
theorem dX2_goesBy_138 : decode cX2_goesBy 138 = .ok (.goto 4, 3) := dk_167 0 4 (dk_at dksX2_goesBy_6 0 rfl rfl)
theorem dX2_goesBy_141 : decode cX2_goesBy 141 = .ok (.iconst 0, 1) := dk_3 (dk_at dksX2_goesBy_6 3 rfl rfl)
theorem dX2_goesBy_142 : decode cX2_goesBy 142 = .ok (.istore 6, 2) := dk_54 6 (dk_at dksX2_goesBy_6 4 rfl rfl)
theorem dX2_goesBy_144 : decode cX2_goesBy 144 = .ok (.iload 6, 2) := dk_21 6 (dk_at dksX2_goesBy_6 6 rfl rfl)
theorem dX2_goesBy_146 : decode cX2_goesBy 146 = .ok (.ifCond .ne 12, 3) := dk_154 0 12 (dk_at dksX2_goesBy_6 8 rfl rfl)
theorem dX2_goesBy_149 : decode cX2_goesBy 149 = .ok (.aload_n 0, 1) := dk_42 (dk_at dksX2_goesBy_6 11 rfl rfl)
theorem dX2_goesBy_150 : decode cX2_goesBy 150 = .ok (.iload 4, 2) := dk_21 4 (dk_at dksX2_goesBy_6 12 rfl rfl)
theorem dX2_goesBy_152 : decode cX2_goesBy 152 = .ok (.invokevirtual 209, 3) := dk_182 0 209 (dk_at dksX2_goesBy_6 14 rfl rfl)
theorem dX2_goesBy_155 : decode cX2_goesBy 155 = .ok (.goto 77, 3) := dk_167 0 77 (dk_at dksX2_goesBy_6 17 rfl rfl)
theorem dX2_goesBy_158 : decode cX2_goesBy 158 = .ok (.iload_n 2, 1) := dk_28 (dk_at dksX2_goesBy_6 20 rfl rfl)
theorem dX2_goesBy_159 : decode cX2_goesBy 159 = .ok (.iconst 1, 1) := dk_4 (dk_at dksX2_goesBy_6 21 rfl rfl)
theorem dX2_goesBy_160 : decode cX2_goesBy 160 = .ok (.aload 5, 2) := dk_25 5 (dk_at dksX2_goesBy_6 22 rfl rfl)
theorem dX2_goesBy_162 : decode cX2_goesBy 162 = .ok (.invokevirtual 191, 3) := dk_182 0 191 (dk_at dksX2_goesBy_7 0 rfl rfl)
theorem dX2_goesBy_165 : decode cX2_goesBy 165 = .ok (.ishl, 1) := dk_120 (dk_at dksX2_goesBy_7 3 rfl rfl)
theorem dX2_goesBy_166 : decode cX2_goesBy 166 = .ok (.ior, 1) := dk_128 (dk_at dksX2_goesBy_7 4 rfl rfl)
theorem dX2_goesBy_167 : decode cX2_goesBy 167 = .ok (.istore_n 2, 1) := dk_61 (dk_at dksX2_goesBy_7 5 rfl rfl)
theorem dX2_goesBy_168 : decode cX2_goesBy 168 = .ok (.iload_n 3, 1) := dk_29 (dk_at dksX2_goesBy_7 6 rfl rfl)
theorem dX2_goesBy_169 : decode cX2_goesBy 169 = .ok (.iconst 1, 1) := dk_4 (dk_at dksX2_goesBy_7 7 rfl rfl)
theorem dX2_goesBy_170 : decode cX2_goesBy 170 = .ok (.aload 5, 2) := dk_25 5 (dk_at dksX2_goesBy_7 8 rfl rfl)
theorem dX2_goesBy_172 : decode cX2_goesBy 172 = .ok (.invokevirtual 194, 3) := dk_182 0 194 (dk_at dksX2_goesBy_7 10 rfl rfl)
theorem dX2_goesBy_175 : decode cX2_goesBy 175 = .ok (.ishl, 1) := dk_120 (dk_at dksX2_goesBy_7 13 rfl rfl)
theorem dX2_goesBy_176 : decode cX2_goesBy 176 = .ok (.ior, 1) := dk_128 (dk_at dksX2_goesBy_7 14 rfl rfl)
theorem dX2_goesBy_177 : decode cX2_goesBy 177 = .ok (.istore_n 3, 1) := dk_62 (dk_at dksX2_goesBy_7 15 rfl rfl)
theorem dX2_goesBy_178 : decode cX2_goesBy 178 = .ok (.aload_n 0, 1) := dk_42 (dk_at dksX2_goesBy_7 16 rfl rfl)
theorem dX2_goesBy_179 : decode cX2_goesBy 179 = .ok (.getfield 31, 3) := dk_180 0 31 (dk_at dksX2_goesBy_7 17 rfl rfl)
theorem dX2_goesBy_182 : decode cX2_goesBy 182 = .ok (.aload 5, 2) := dk_25 5 (dk_at dksX2_goesBy_7 20 rfl rfl)
theorem dX2_goesBy_184 : decode cX2_goesBy 184 = .ok (.invokevirtual 197, 3) := dk_182 0 197 (dk_at dksX2_goesBy_8 0 rfl rfl)
theorem dX2_goesBy_187 : decode cX2_goesBy 187 = .ok (.dup2, 1) := dk_92 (dk_at dksX2_goesBy_8 3 rfl rfl)
theorem dX2_goesBy_188 : decode cX2_goesBy 188 = .ok (.iaload, 1) := dk_46 (dk_at dksX2_goesBy_8 4 rfl rfl)
theorem dX2_goesBy_189 : decode cX2_goesBy 189 = .ok (.iconst 1, 1) := dk_4 (dk_at dksX2_goesBy_8 5 rfl rfl)
theorem dX2_goesBy_190 : decode cX2_goesBy 190 = .ok (.iadd, 1) := dk_96 (dk_at dksX2_goesBy_8 6 rfl rfl)
theorem dX2_goesBy_191 : decode cX2_goesBy 191 = .ok (.iastore, 1) := dk_79 (dk_at dksX2_goesBy_8 7 rfl rfl)
theorem dX2_goesBy_192 : decode cX2_goesBy 192 = .ok (.aload_n 0, 1) := dk_42 (dk_at dksX2_goesBy_8 8 rfl rfl)
theorem dX2_goesBy_193 : decode cX2_goesBy 193 = .ok (.dup, 1) := dk_89 (dk_at dksX2_goesBy_8 9 rfl rfl)
theorem dX2_goesBy_194 : decode cX2_goesBy 194 = .ok (.getfield 62, 3) := dk_180 0 62 (dk_at dksX2_goesBy_8 10 rfl rfl)
theorem dX2_goesBy_197 : decode cX2_goesBy 197 = .ok (.iconst 1, 1) := dk_4 (dk_at dksX2_goesBy_8 13 rfl rfl)
theorem dX2_goesBy_198 : decode cX2_goesBy 198 = .ok (.iadd, 1) := dk_96 (dk_at dksX2_goesBy_8 14 rfl rfl)
theorem dX2_goesBy_199 : decode cX2_goesBy 199 = .ok (.putfield 62, 3) := dk_181 0 62 (dk_at dksX2_goesBy_8 15 rfl rfl)
theorem dX2_goesBy_202 : decode cX2_goesBy 202 = .ok (.aload_n 0, 1) := dk_42 (dk_at dksX2_goesBy_8 18 rfl rfl)
theorem dX2_goesBy_203 : decode cX2_goesBy 203 = .ok (.aload 5, 2) := dk_25 5 (dk_at dksX2_goesBy_8 19 rfl rfl)
theorem dX2_goesBy_205 : decode cX2_goesBy 205 = .ok (.invokevirtual 191, 3) := dk_182 0 191 (dk_at dksX2_goesBy_8 21 rfl rfl)
theorem dX2_goesBy_208 : decode cX2_goesBy 208 = .ok (.aload 5, 2) := dk_25 5 (dk_at dksX2_goesBy_9 0 rfl rfl)
theorem dX2_goesBy_210 : decode cX2_goesBy 210 = .ok (.invokevirtual 194, 3) := dk_182 0 194 (dk_at dksX2_goesBy_9 2 rfl rfl)
theorem dX2_goesBy_213 : decode cX2_goesBy 213 = .ok (.invokevirtual 213, 3) := dk_182 0 213 (dk_at dksX2_goesBy_9 5 rfl rfl)
theorem dX2_goesBy_216 : decode cX2_goesBy 216 = .ok (.aload_n 0, 1) := dk_42 (dk_at dksX2_goesBy_9 8 rfl rfl)
theorem dX2_goesBy_217 : decode cX2_goesBy 217 = .ok (.getfield 55, 3) := dk_180 0 55 (dk_at dksX2_goesBy_9 9 rfl rfl)
theorem dX2_goesBy_220 : decode cX2_goesBy 220 = .ok (.ifCond .ne 12, 3) := dk_154 0 12 (dk_at dksX2_goesBy_9 12 rfl rfl)
theorem dX2_goesBy_223 : decode cX2_goesBy 223 = .ok (.aload_n 0, 1) := dk_42 (dk_at dksX2_goesBy_9 15 rfl rfl)
theorem dX2_goesBy_224 : decode cX2_goesBy 224 = .ok (.getfield 3, 3) := dk_180 0 3 (dk_at dksX2_goesBy_9 16 rfl rfl)
theorem dX2_goesBy_227 : decode cX2_goesBy 227 = .ok (.aload 5, 2) := dk_25 5 (dk_at dksX2_goesBy_9 19 rfl rfl)
theorem dX2_goesBy_229 : decode cX2_goesBy 229 = .ok (.invokevirtual 216, 3) := dk_182 0 216 (dk_at dksX2_goesBy_9 21 rfl rfl)
theorem dX2_goesBy_232 : decode cX2_goesBy 232 = .ok (.iinc 4 1, 3) := dk_132 4 1 (dk_at dksX2_goesBy_10 0 rfl rfl)
theorem dX2_goesBy_235 : decode cX2_goesBy 235 = .ok (.goto (-223), 3) := dk_167 255 33 (dk_at dksX2_goesBy_10 3 rfl rfl)
theorem dX2_goesBy_238 : decode cX2_goesBy 238 = .ok (.aload_n 0, 1) := dk_42 (dk_at dksX2_goesBy_10 6 rfl rfl)
theorem dX2_goesBy_239 : decode cX2_goesBy 239 = .ok (.getfield 55, 3) := dk_180 0 55 (dk_at dksX2_goesBy_10 7 rfl rfl)
theorem dX2_goesBy_242 : decode cX2_goesBy 242 = .ok (.ifCond .ne 18, 3) := dk_154 0 18 (dk_at dksX2_goesBy_10 10 rfl rfl)
theorem dX2_goesBy_245 : decode cX2_goesBy 245 = .ok (.aload_n 0, 1) := dk_42 (dk_at dksX2_goesBy_10 13 rfl rfl)
theorem dX2_goesBy_246 : decode cX2_goesBy 246 = .ok (.getfield 3, 3) := dk_180 0 3 (dk_at dksX2_goesBy_10 14 rfl rfl)
theorem dX2_goesBy_249 : decode cX2_goesBy 249 = .ok (.getfield 179, 3) := dk_180 0 179 (dk_at dksX2_goesBy_10 17 rfl rfl)
theorem dX2_goesBy_252 : decode cX2_goesBy 252 = .ok (.ifCond .le 8, 3) := dk_158 0 8 (dk_at dksX2_goesBy_10 20 rfl rfl)
theorem dX2_goesBy_255 : decode cX2_goesBy 255 = .ok (.aload_n 0, 1) := dk_42 (dk_at dksX2_goesBy_10 23 rfl rfl)
theorem dX2_goesBy_256 : decode cX2_goesBy 256 = .ok (.iload_n 2, 1) := dk_28 (dk_at dksX2_goesBy_11 0 rfl rfl)
theorem dX2_goesBy_257 : decode cX2_goesBy 257 = .ok (.invokevirtual 220, 3) := dk_182 0 220 (dk_at dksX2_goesBy_11 1 rfl rfl)
theorem dX2_goesBy_260 : decode cX2_goesBy 260 = .ok (.aload_n 0, 1) := dk_42 (dk_at dksX2_goesBy_11 4 rfl rfl)
theorem dX2_goesBy_261 : decode cX2_goesBy 261 = .ok (.dup, 1) := dk_89 (dk_at dksX2_goesBy_11 5 rfl rfl)
theorem dX2_goesBy_262 : decode cX2_goesBy 262 = .ok (.getfield 38, 3) := dk_180 0 38 (dk_at dksX2_goesBy_11 6 rfl rfl)
theorem dX2_goesBy_265 : decode cX2_goesBy 265 = .ok (.iconst 1, 1) := dk_4 (dk_at dksX2_goesBy_11 9 rfl rfl)
theorem dX2_goesBy_266 : decode cX2_goesBy 266 = .ok (.iadd, 1) := dk_96 (dk_at dksX2_goesBy_11 10 rfl rfl)
theorem dX2_goesBy_267 : decode cX2_goesBy 267 = .ok (.putfield 38, 3) := dk_181 0 38 (dk_at dksX2_goesBy_11 11 rfl rfl)
theorem dX2_goesBy_270 : decode cX2_goesBy 270 = .ok (.aload_n 0, 1) := dk_42 (dk_at dksX2_goesBy_11 14 rfl rfl)
theorem dX2_goesBy_271 : decode cX2_goesBy 271 = .ok (.getfield 38, 3) := dk_180 0 38 (dk_at dksX2_goesBy_11 15 rfl rfl)
theorem dX2_goesBy_274 : decode cX2_goesBy 274 = .ok (.bipush 8, 2) := dk_16 8 (dk_at dksX2_goesBy_11 18 rfl rfl)
theorem dX2_goesBy_276 : decode cX2_goesBy 276 = .ok (.irem, 1) := dk_112 (dk_at dksX2_goesBy_11 20 rfl rfl)
theorem dX2_goesBy_277 : decode cX2_goesBy 277 = .ok (.ifCond .ne 11, 3) := dk_154 0 11 (dk_at dksX2_goesBy_11 21 rfl rfl)
theorem dX2_goesBy_280 : decode cX2_goesBy 280 = .ok (.aload_n 0, 1) := dk_42 (dk_at dksX2_goesBy_12 0 rfl rfl)
theorem dX2_goesBy_281 : decode cX2_goesBy 281 = .ok (.getfield 22, 3) := dk_180 0 22 (dk_at dksX2_goesBy_12 1 rfl rfl)
theorem dX2_goesBy_284 : decode cX2_goesBy 284 = .ok (.iconst 0, 1) := dk_3 (dk_at dksX2_goesBy_12 4 rfl rfl)
theorem dX2_goesBy_285 : decode cX2_goesBy 285 = .ok (.invokestatic 223, 3) := dk_184 0 223 (dk_at dksX2_goesBy_12 5 rfl rfl)
theorem dX2_goesBy_288 : decode cX2_goesBy 288 = .ok (.aload_n 0, 1) := dk_42 (dk_at dksX2_goesBy_12 8 rfl rfl)
theorem dX2_goesBy_289 : decode cX2_goesBy 289 = .ok (.getfield 59, 3) := dk_180 0 59 (dk_at dksX2_goesBy_12 9 rfl rfl)
theorem dX2_goesBy_292 : decode cX2_goesBy 292 = .ok (.iload_n 1, 1) := dk_27 (dk_at dksX2_goesBy_12 12 rfl rfl)
theorem dX2_goesBy_293 : decode cX2_goesBy 293 = .ok (.isub, 1) := dk_100 (dk_at dksX2_goesBy_12 13 rfl rfl)
theorem dX2_goesBy_294 : decode cX2_goesBy 294 = .ok (.ireturn, 1) := dk_172 (dk_at dksX2_goesBy_12 14 rfl rfl)
abbrev cX2_isOpen : ByteArray := prog_12_method_13_code
def yX2_isOpen : MethodName := ⟨RX2, "isOpen", "(I)Z"⟩
def dkwX2_isOpen_1 : List UInt8 := [2, 130, 126, 154, 0, 7, 4, 167, 0, 4, 3, 172]
abbrev dktX2_isOpen_1 : List UInt8 := dkwX2_isOpen_1 ++ []
def dkwX2_isOpen_0 : List UInt8 := [42, 27, 182, 0, 163, 154, 0, 29, 42, 180, 0, 3, 180, 0, 153, 27, 50, 182, 0, 166, 42, 182, 0, 169]
abbrev dktX2_isOpen_0 : List UInt8 := dkwX2_isOpen_0 ++ dktX2_isOpen_1
theorem dksX2_isOpen_0 : cX2_isOpen.data.toList.drop 0 = dktX2_isOpen_0 := by decide +kernel
theorem dksX2_isOpen_1 : cX2_isOpen.data.toList.drop 24 = dktX2_isOpen_1 := dk_seg dksX2_isOpen_0 24 rfl rfl
theorem dX2_isOpen_0 : decode cX2_isOpen 0 = .ok (.aload_n 0, 1) := dk_42 (dk_at dksX2_isOpen_0 0 rfl rfl)
theorem dX2_isOpen_1 : decode cX2_isOpen 1 = .ok (.iload_n 1, 1) := dk_27 (dk_at dksX2_isOpen_0 1 rfl rfl)
theorem dX2_isOpen_2 : decode cX2_isOpen 2 = .ok (.invokevirtual 163, 3) := dk_182 0 163 (dk_at dksX2_isOpen_0 2 rfl rfl)
theorem dX2_isOpen_5 : decode cX2_isOpen 5 = .ok (.ifCond .ne 29, 3) := dk_154 0 29 (dk_at dksX2_isOpen_0 5 rfl rfl)
theorem dX2_isOpen_8 : decode cX2_isOpen 8 = .ok (.aload_n 0, 1) := dk_42 (dk_at dksX2_isOpen_0 8 rfl rfl)
theorem dX2_isOpen_9 : decode cX2_isOpen 9 = .ok (.getfield 3, 3) := dk_180 0 3 (dk_at dksX2_isOpen_0 9 rfl rfl)
theorem dX2_isOpen_12 : decode cX2_isOpen 12 = .ok (.getfield 153, 3) := dk_180 0 153 (dk_at dksX2_isOpen_0 12 rfl rfl)
theorem dX2_isOpen_15 : decode cX2_isOpen 15 = .ok (.iload_n 1, 1) := dk_27 (dk_at dksX2_isOpen_0 15 rfl rfl)
theorem dX2_isOpen_16 : decode cX2_isOpen 16 = .ok (.aaload, 1) := dk_50 (dk_at dksX2_isOpen_0 16 rfl rfl)
theorem dX2_isOpen_17 : decode cX2_isOpen 17 = .ok (.invokevirtual 166, 3) := dk_182 0 166 (dk_at dksX2_isOpen_0 17 rfl rfl)
theorem dX2_isOpen_20 : decode cX2_isOpen 20 = .ok (.aload_n 0, 1) := dk_42 (dk_at dksX2_isOpen_0 20 rfl rfl)
theorem dX2_isOpen_21 : decode cX2_isOpen 21 = .ok (.invokevirtual 169, 3) := dk_182 0 169 (dk_at dksX2_isOpen_0 21 rfl rfl)
theorem dX2_isOpen_24 : decode cX2_isOpen 24 = .ok (.iconst (-1), 1) := dk_2 (dk_at dksX2_isOpen_1 0 rfl rfl)
theorem dX2_isOpen_25 : decode cX2_isOpen 25 = .ok (.ixor, 1) := dk_130 (dk_at dksX2_isOpen_1 1 rfl rfl)
theorem dX2_isOpen_26 : decode cX2_isOpen 26 = .ok (.iand, 1) := dk_126 (dk_at dksX2_isOpen_1 2 rfl rfl)
theorem dX2_isOpen_27 : decode cX2_isOpen 27 = .ok (.ifCond .ne 7, 3) := dk_154 0 7 (dk_at dksX2_isOpen_1 3 rfl rfl)
theorem dX2_isOpen_30 : decode cX2_isOpen 30 = .ok (.iconst 1, 1) := dk_4 (dk_at dksX2_isOpen_1 6 rfl rfl)
theorem dX2_isOpen_31 : decode cX2_isOpen 31 = .ok (.goto 4, 3) := dk_167 0 4 (dk_at dksX2_isOpen_1 7 rfl rfl)
theorem dX2_isOpen_34 : decode cX2_isOpen 34 = .ok (.iconst 0, 1) := dk_3 (dk_at dksX2_isOpen_1 10 rfl rfl)
theorem dX2_isOpen_35 : decode cX2_isOpen 35 = .ok (.ireturn, 1) := dk_172 (dk_at dksX2_isOpen_1 11 rfl rfl)
abbrev cX2_isDone : ByteArray := prog_12_method_11_code
def yX2_isDone : MethodName := ⟨RX2, "isDone", "(I)Z"⟩
def dkwX2_isDone_1 : List UInt8 := [167, 0, 4, 3, 172]
abbrev dktX2_isDone_1 : List UInt8 := dkwX2_isDone_1 ++ []
def dkwX2_isDone_0 : List UInt8 := [42, 180, 0, 31, 27, 46, 42, 180, 0, 3, 180, 0, 153, 27, 50, 182, 0, 157, 160, 0, 7, 4]
abbrev dktX2_isDone_0 : List UInt8 := dkwX2_isDone_0 ++ dktX2_isDone_1
theorem dksX2_isDone_0 : cX2_isDone.data.toList.drop 0 = dktX2_isDone_0 := by decide +kernel
theorem dksX2_isDone_1 : cX2_isDone.data.toList.drop 22 = dktX2_isDone_1 := dk_seg dksX2_isDone_0 22 rfl rfl
theorem dX2_isDone_0 : decode cX2_isDone 0 = .ok (.aload_n 0, 1) := dk_42 (dk_at dksX2_isDone_0 0 rfl rfl)
theorem dX2_isDone_1 : decode cX2_isDone 1 = .ok (.getfield 31, 3) := dk_180 0 31 (dk_at dksX2_isDone_0 1 rfl rfl)
theorem dX2_isDone_4 : decode cX2_isDone 4 = .ok (.iload_n 1, 1) := dk_27 (dk_at dksX2_isDone_0 4 rfl rfl)
theorem dX2_isDone_5 : decode cX2_isDone 5 = .ok (.iaload, 1) := dk_46 (dk_at dksX2_isDone_0 5 rfl rfl)
theorem dX2_isDone_6 : decode cX2_isDone 6 = .ok (.aload_n 0, 1) := dk_42 (dk_at dksX2_isDone_0 6 rfl rfl)
theorem dX2_isDone_7 : decode cX2_isDone 7 = .ok (.getfield 3, 3) := dk_180 0 3 (dk_at dksX2_isDone_0 7 rfl rfl)
theorem dX2_isDone_10 : decode cX2_isDone 10 = .ok (.getfield 153, 3) := dk_180 0 153 (dk_at dksX2_isDone_0 10 rfl rfl)
theorem dX2_isDone_13 : decode cX2_isDone 13 = .ok (.iload_n 1, 1) := dk_27 (dk_at dksX2_isDone_0 13 rfl rfl)
theorem dX2_isDone_14 : decode cX2_isDone 14 = .ok (.aaload, 1) := dk_50 (dk_at dksX2_isDone_0 14 rfl rfl)
theorem dX2_isDone_15 : decode cX2_isDone 15 = .ok (.invokevirtual 157, 3) := dk_182 0 157 (dk_at dksX2_isDone_0 15 rfl rfl)
theorem dX2_isDone_18 : decode cX2_isDone 18 = .ok (.if_icmp .ne 7, 3) := dk_160 0 7 (dk_at dksX2_isDone_0 18 rfl rfl)
theorem dX2_isDone_21 : decode cX2_isDone 21 = .ok (.iconst 1, 1) := dk_4 (dk_at dksX2_isDone_0 21 rfl rfl)
theorem dX2_isDone_22 : decode cX2_isDone 22 = .ok (.goto 4, 3) := dk_167 0 4 (dk_at dksX2_isDone_1 0 rfl rfl)
theorem dX2_isDone_25 : decode cX2_isDone 25 = .ok (.iconst 0, 1) := dk_3 (dk_at dksX2_isDone_1 3 rfl rfl)
theorem dX2_isDone_26 : decode cX2_isDone 26 = .ok (.ireturn, 1) := dk_172 (dk_at dksX2_isDone_1 4 rfl rfl)
abbrev cX2_doneSet : ByteArray := prog_12_method_12_code
def yX2_doneSet : MethodName := ⟨RX2, "doneSet", "()I"⟩
def dkwX2_doneSet_1 : List UInt8 := [153, 0, 9, 4, 28, 120, 167, 0, 4, 3, 128, 60, 132, 2, 1, 167, 255, 223, 27, 172]
abbrev dktX2_doneSet_1 : List UInt8 := dkwX2_doneSet_1 ++ []
def dkwX2_doneSet_0 : List UInt8 := [3, 60, 3, 61, 28, 42, 180, 0, 3, 180, 0, 153, 190, 162, 0, 27, 27, 42, 28, 182, 0, 163]
abbrev dktX2_doneSet_0 : List UInt8 := dkwX2_doneSet_0 ++ dktX2_doneSet_1
theorem dksX2_doneSet_0 : cX2_doneSet.data.toList.drop 0 = dktX2_doneSet_0 := by decide +kernel
theorem dksX2_doneSet_1 : cX2_doneSet.data.toList.drop 22 = dktX2_doneSet_1 := dk_seg dksX2_doneSet_0 22 rfl rfl
theorem dX2_doneSet_0 : decode cX2_doneSet 0 = .ok (.iconst 0, 1) := dk_3 (dk_at dksX2_doneSet_0 0 rfl rfl)
theorem dX2_doneSet_1 : decode cX2_doneSet 1 = .ok (.istore_n 1, 1) := dk_60 (dk_at dksX2_doneSet_0 1 rfl rfl)
theorem dX2_doneSet_2 : decode cX2_doneSet 2 = .ok (.iconst 0, 1) := dk_3 (dk_at dksX2_doneSet_0 2 rfl rfl)
theorem dX2_doneSet_3 : decode cX2_doneSet 3 = .ok (.istore_n 2, 1) := dk_61 (dk_at dksX2_doneSet_0 3 rfl rfl)
theorem dX2_doneSet_4 : decode cX2_doneSet 4 = .ok (.iload_n 2, 1) := dk_28 (dk_at dksX2_doneSet_0 4 rfl rfl)
theorem dX2_doneSet_5 : decode cX2_doneSet 5 = .ok (.aload_n 0, 1) := dk_42 (dk_at dksX2_doneSet_0 5 rfl rfl)
theorem dX2_doneSet_6 : decode cX2_doneSet 6 = .ok (.getfield 3, 3) := dk_180 0 3 (dk_at dksX2_doneSet_0 6 rfl rfl)
theorem dX2_doneSet_9 : decode cX2_doneSet 9 = .ok (.getfield 153, 3) := dk_180 0 153 (dk_at dksX2_doneSet_0 9 rfl rfl)
theorem dX2_doneSet_12 : decode cX2_doneSet 12 = .ok (.arraylength, 1) := dk_190 (dk_at dksX2_doneSet_0 12 rfl rfl)
theorem dX2_doneSet_13 : decode cX2_doneSet 13 = .ok (.if_icmp .ge 27, 3) := dk_162 0 27 (dk_at dksX2_doneSet_0 13 rfl rfl)
theorem dX2_doneSet_16 : decode cX2_doneSet 16 = .ok (.iload_n 1, 1) := dk_27 (dk_at dksX2_doneSet_0 16 rfl rfl)
theorem dX2_doneSet_17 : decode cX2_doneSet 17 = .ok (.aload_n 0, 1) := dk_42 (dk_at dksX2_doneSet_0 17 rfl rfl)
theorem dX2_doneSet_18 : decode cX2_doneSet 18 = .ok (.iload_n 2, 1) := dk_28 (dk_at dksX2_doneSet_0 18 rfl rfl)
theorem dX2_doneSet_19 : decode cX2_doneSet 19 = .ok (.invokevirtual 163, 3) := dk_182 0 163 (dk_at dksX2_doneSet_0 19 rfl rfl)
theorem dX2_doneSet_22 : decode cX2_doneSet 22 = .ok (.ifCond .eq 9, 3) := dk_153 0 9 (dk_at dksX2_doneSet_1 0 rfl rfl)
theorem dX2_doneSet_25 : decode cX2_doneSet 25 = .ok (.iconst 1, 1) := dk_4 (dk_at dksX2_doneSet_1 3 rfl rfl)
theorem dX2_doneSet_26 : decode cX2_doneSet 26 = .ok (.iload_n 2, 1) := dk_28 (dk_at dksX2_doneSet_1 4 rfl rfl)
theorem dX2_doneSet_27 : decode cX2_doneSet 27 = .ok (.ishl, 1) := dk_120 (dk_at dksX2_doneSet_1 5 rfl rfl)
theorem dX2_doneSet_28 : decode cX2_doneSet 28 = .ok (.goto 4, 3) := dk_167 0 4 (dk_at dksX2_doneSet_1 6 rfl rfl)
theorem dX2_doneSet_31 : decode cX2_doneSet 31 = .ok (.iconst 0, 1) := dk_3 (dk_at dksX2_doneSet_1 9 rfl rfl)
theorem dX2_doneSet_32 : decode cX2_doneSet 32 = .ok (.ior, 1) := dk_128 (dk_at dksX2_doneSet_1 10 rfl rfl)
theorem dX2_doneSet_33 : decode cX2_doneSet 33 = .ok (.istore_n 1, 1) := dk_60 (dk_at dksX2_doneSet_1 11 rfl rfl)
theorem dX2_doneSet_34 : decode cX2_doneSet 34 = .ok (.iinc 2 1, 3) := dk_132 2 1 (dk_at dksX2_doneSet_1 12 rfl rfl)
theorem dX2_doneSet_37 : decode cX2_doneSet 37 = .ok (.goto (-33), 3) := dk_167 255 223 (dk_at dksX2_doneSet_1 15 rfl rfl)
theorem dX2_doneSet_40 : decode cX2_doneSet 40 = .ok (.iload_n 1, 1) := dk_27 (dk_at dksX2_doneSet_1 18 rfl rfl)
theorem dX2_doneSet_41 : decode cX2_doneSet 41 = .ok (.ireturn, 1) := dk_172 (dk_at dksX2_doneSet_1 19 rfl rfl)
abbrev cX2_serves : ByteArray := prog_12_method_8_code
def yX2_serves : MethodName := ⟨RX2, "serves", "(II)Z"⟩
def dkwX2_serves_0 : List UInt8 := [42, 27, 182, 0, 115, 153, 0, 16, 42, 27, 28, 182, 0, 119, 153, 0, 7, 4, 167, 0, 4, 3, 172]
abbrev dktX2_serves_0 : List UInt8 := dkwX2_serves_0 ++ []
theorem dksX2_serves_0 : cX2_serves.data.toList.drop 0 = dktX2_serves_0 := by decide +kernel
theorem dX2_serves_0 : decode cX2_serves 0 = .ok (.aload_n 0, 1) := dk_42 (dk_at dksX2_serves_0 0 rfl rfl)
theorem dX2_serves_1 : decode cX2_serves 1 = .ok (.iload_n 1, 1) := dk_27 (dk_at dksX2_serves_0 1 rfl rfl)
theorem dX2_serves_2 : decode cX2_serves 2 = .ok (.invokevirtual 115, 3) := dk_182 0 115 (dk_at dksX2_serves_0 2 rfl rfl)
theorem dX2_serves_5 : decode cX2_serves 5 = .ok (.ifCond .eq 16, 3) := dk_153 0 16 (dk_at dksX2_serves_0 5 rfl rfl)
theorem dX2_serves_8 : decode cX2_serves 8 = .ok (.aload_n 0, 1) := dk_42 (dk_at dksX2_serves_0 8 rfl rfl)
theorem dX2_serves_9 : decode cX2_serves 9 = .ok (.iload_n 1, 1) := dk_27 (dk_at dksX2_serves_0 9 rfl rfl)
theorem dX2_serves_10 : decode cX2_serves 10 = .ok (.iload_n 2, 1) := dk_28 (dk_at dksX2_serves_0 10 rfl rfl)
theorem dX2_serves_11 : decode cX2_serves 11 = .ok (.invokevirtual 119, 3) := dk_182 0 119 (dk_at dksX2_serves_0 11 rfl rfl)
theorem dX2_serves_14 : decode cX2_serves 14 = .ok (.ifCond .eq 7, 3) := dk_153 0 7 (dk_at dksX2_serves_0 14 rfl rfl)
theorem dX2_serves_17 : decode cX2_serves 17 = .ok (.iconst 1, 1) := dk_4 (dk_at dksX2_serves_0 17 rfl rfl)
theorem dX2_serves_18 : decode cX2_serves 18 = .ok (.goto 4, 3) := dk_167 0 4 (dk_at dksX2_serves_0 18 rfl rfl)
theorem dX2_serves_21 : decode cX2_serves 21 = .ok (.iconst 0, 1) := dk_3 (dk_at dksX2_serves_0 21 rfl rfl)
theorem dX2_serves_22 : decode cX2_serves 22 = .ok (.ireturn, 1) := dk_172 (dk_at dksX2_serves_0 22 rfl rfl)
abbrev cX2_mayDo : ByteArray := prog_12_method_6_code
def yX2_mayDo : MethodName := ⟨RX2, "mayDo", "(I)Z"⟩
def dkwX2_mayDo_1 : List UInt8 := [184, 0, 91, 172]
abbrev dktX2_mayDo_1 : List UInt8 := dkwX2_mayDo_1 ++ []
def dkwX2_mayDo_0 : List UInt8 := [42, 180, 0, 28, 42, 180, 0, 3, 180, 0, 88, 27, 46, 46, 42, 180, 0, 3, 180, 0, 79, 27, 46]
abbrev dktX2_mayDo_0 : List UInt8 := dkwX2_mayDo_0 ++ dktX2_mayDo_1
theorem dksX2_mayDo_0 : cX2_mayDo.data.toList.drop 0 = dktX2_mayDo_0 := by decide +kernel
theorem dksX2_mayDo_1 : cX2_mayDo.data.toList.drop 23 = dktX2_mayDo_1 := dk_seg dksX2_mayDo_0 23 rfl rfl
theorem dX2_mayDo_0 : decode cX2_mayDo 0 = .ok (.aload_n 0, 1) := dk_42 (dk_at dksX2_mayDo_0 0 rfl rfl)
theorem dX2_mayDo_1 : decode cX2_mayDo 1 = .ok (.getfield 28, 3) := dk_180 0 28 (dk_at dksX2_mayDo_0 1 rfl rfl)
theorem dX2_mayDo_4 : decode cX2_mayDo 4 = .ok (.aload_n 0, 1) := dk_42 (dk_at dksX2_mayDo_0 4 rfl rfl)
theorem dX2_mayDo_5 : decode cX2_mayDo 5 = .ok (.getfield 3, 3) := dk_180 0 3 (dk_at dksX2_mayDo_0 5 rfl rfl)
theorem dX2_mayDo_8 : decode cX2_mayDo 8 = .ok (.getfield 88, 3) := dk_180 0 88 (dk_at dksX2_mayDo_0 8 rfl rfl)
theorem dX2_mayDo_11 : decode cX2_mayDo 11 = .ok (.iload_n 1, 1) := dk_27 (dk_at dksX2_mayDo_0 11 rfl rfl)
theorem dX2_mayDo_12 : decode cX2_mayDo 12 = .ok (.iaload, 1) := dk_46 (dk_at dksX2_mayDo_0 12 rfl rfl)
theorem dX2_mayDo_13 : decode cX2_mayDo 13 = .ok (.iaload, 1) := dk_46 (dk_at dksX2_mayDo_0 13 rfl rfl)
theorem dX2_mayDo_14 : decode cX2_mayDo 14 = .ok (.aload_n 0, 1) := dk_42 (dk_at dksX2_mayDo_0 14 rfl rfl)
theorem dX2_mayDo_15 : decode cX2_mayDo 15 = .ok (.getfield 3, 3) := dk_180 0 3 (dk_at dksX2_mayDo_0 15 rfl rfl)
theorem dX2_mayDo_18 : decode cX2_mayDo 18 = .ok (.getfield 79, 3) := dk_180 0 79 (dk_at dksX2_mayDo_0 18 rfl rfl)
theorem dX2_mayDo_21 : decode cX2_mayDo 21 = .ok (.iload_n 1, 1) := dk_27 (dk_at dksX2_mayDo_0 21 rfl rfl)
theorem dX2_mayDo_22 : decode cX2_mayDo 22 = .ok (.iaload, 1) := dk_46 (dk_at dksX2_mayDo_0 22 rfl rfl)
theorem dX2_mayDo_23 : decode cX2_mayDo 23 = .ok (.invokestatic 91, 3) := dk_184 0 91 (dk_at dksX2_mayDo_1 0 rfl rfl)
theorem dX2_mayDo_26 : decode cX2_mayDo 26 = .ok (.ireturn, 1) := dk_172 (dk_at dksX2_mayDo_1 3 rfl rfl)
abbrev cX2_would : ByteArray := prog_12_method_7_code
def yX2_would : MethodName := ⟨RX2, "would", "(II)Z"⟩
def dkwX2_would_4 : List UInt8 := [154, 0, 7, 4, 167, 0, 4, 3, 172]
abbrev dktX2_would_4 : List UInt8 := dkwX2_would_4 ++ []
def dkwX2_would_3 : List UInt8 := [180, 0, 73, 182, 0, 106, 62, 29, 2, 159, 0, 18, 42, 180, 0, 3, 180, 0, 102, 180, 0, 112, 29, 46]
abbrev dktX2_would_3 : List UInt8 := dkwX2_would_3 ++ dktX2_would_4
def dkwX2_would_2 : List UInt8 := [154, 0, 5, 3, 172, 42, 27, 28, 182, 0, 98, 42, 180, 0, 3, 180, 0, 102, 42, 180, 0, 3]
abbrev dktX2_would_2 : List UInt8 := dkwX2_would_2 ++ dktX2_would_3
def dkwX2_would_1 : List UInt8 := [180, 0, 95, 27, 46, 42, 180, 0, 38, 16, 8, 108, 16, 7, 112, 159, 0, 12, 42, 180, 0, 15, 27, 46]
abbrev dktX2_would_1 : List UInt8 := dkwX2_would_1 ++ dktX2_would_2
def dkwX2_would_0 : List UInt8 := [42, 180, 0, 42, 42, 180, 0, 3, 180, 0, 88, 27, 46, 184, 0, 91, 154, 0, 34, 42, 180, 0, 3]
abbrev dktX2_would_0 : List UInt8 := dkwX2_would_0 ++ dktX2_would_1
theorem dksX2_would_0 : cX2_would.data.toList.drop 0 = dktX2_would_0 := by decide +kernel
theorem dksX2_would_1 : cX2_would.data.toList.drop 23 = dktX2_would_1 := dk_seg dksX2_would_0 23 rfl rfl
theorem dksX2_would_2 : cX2_would.data.toList.drop 47 = dktX2_would_2 := dk_seg dksX2_would_1 24 rfl rfl
theorem dksX2_would_3 : cX2_would.data.toList.drop 69 = dktX2_would_3 := dk_seg dksX2_would_2 22 rfl rfl
theorem dksX2_would_4 : cX2_would.data.toList.drop 93 = dktX2_would_4 := dk_seg dksX2_would_3 24 rfl rfl
theorem dX2_would_0 : decode cX2_would 0 = .ok (.aload_n 0, 1) := dk_42 (dk_at dksX2_would_0 0 rfl rfl)
theorem dX2_would_1 : decode cX2_would 1 = .ok (.getfield 42, 3) := dk_180 0 42 (dk_at dksX2_would_0 1 rfl rfl)
theorem dX2_would_4 : decode cX2_would 4 = .ok (.aload_n 0, 1) := dk_42 (dk_at dksX2_would_0 4 rfl rfl)
theorem dX2_would_5 : decode cX2_would 5 = .ok (.getfield 3, 3) := dk_180 0 3 (dk_at dksX2_would_0 5 rfl rfl)
theorem dX2_would_8 : decode cX2_would 8 = .ok (.getfield 88, 3) := dk_180 0 88 (dk_at dksX2_would_0 8 rfl rfl)
theorem dX2_would_11 : decode cX2_would 11 = .ok (.iload_n 1, 1) := dk_27 (dk_at dksX2_would_0 11 rfl rfl)
theorem dX2_would_12 : decode cX2_would 12 = .ok (.iaload, 1) := dk_46 (dk_at dksX2_would_0 12 rfl rfl)
theorem dX2_would_13 : decode cX2_would 13 = .ok (.invokestatic 91, 3) := dk_184 0 91 (dk_at dksX2_would_0 13 rfl rfl)
theorem dX2_would_16 : decode cX2_would 16 = .ok (.ifCond .ne 34, 3) := dk_154 0 34 (dk_at dksX2_would_0 16 rfl rfl)
theorem dX2_would_19 : decode cX2_would 19 = .ok (.aload_n 0, 1) := dk_42 (dk_at dksX2_would_0 19 rfl rfl)
theorem dX2_would_20 : decode cX2_would 20 = .ok (.getfield 3, 3) := dk_180 0 3 (dk_at dksX2_would_0 20 rfl rfl)
theorem dX2_would_23 : decode cX2_would 23 = .ok (.getfield 95, 3) := dk_180 0 95 (dk_at dksX2_would_1 0 rfl rfl)
theorem dX2_would_26 : decode cX2_would 26 = .ok (.iload_n 1, 1) := dk_27 (dk_at dksX2_would_1 3 rfl rfl)
theorem dX2_would_27 : decode cX2_would 27 = .ok (.iaload, 1) := dk_46 (dk_at dksX2_would_1 4 rfl rfl)
theorem dX2_would_28 : decode cX2_would 28 = .ok (.aload_n 0, 1) := dk_42 (dk_at dksX2_would_1 5 rfl rfl)
theorem dX2_would_29 : decode cX2_would 29 = .ok (.getfield 38, 3) := dk_180 0 38 (dk_at dksX2_would_1 6 rfl rfl)
theorem dX2_would_32 : decode cX2_would 32 = .ok (.bipush 8, 2) := dk_16 8 (dk_at dksX2_would_1 9 rfl rfl)
theorem dX2_would_34 : decode cX2_would 34 = .ok (.idiv, 1) := dk_108 (dk_at dksX2_would_1 11 rfl rfl)
theorem dX2_would_35 : decode cX2_would 35 = .ok (.bipush 7, 2) := dk_16 7 (dk_at dksX2_would_1 12 rfl rfl)
theorem dX2_would_37 : decode cX2_would 37 = .ok (.irem, 1) := dk_112 (dk_at dksX2_would_1 14 rfl rfl)
theorem dX2_would_38 : decode cX2_would 38 = .ok (.if_icmp .eq 12, 3) := dk_159 0 12 (dk_at dksX2_would_1 15 rfl rfl)
theorem dX2_would_41 : decode cX2_would 41 = .ok (.aload_n 0, 1) := dk_42 (dk_at dksX2_would_1 18 rfl rfl)
theorem dX2_would_42 : decode cX2_would 42 = .ok (.getfield 15, 3) := dk_180 0 15 (dk_at dksX2_would_1 19 rfl rfl)
theorem dX2_would_45 : decode cX2_would 45 = .ok (.iload_n 1, 1) := dk_27 (dk_at dksX2_would_1 22 rfl rfl)
theorem dX2_would_46 : decode cX2_would 46 = .ok (.iaload, 1) := dk_46 (dk_at dksX2_would_1 23 rfl rfl)
theorem dX2_would_47 : decode cX2_would 47 = .ok (.ifCond .ne 5, 3) := dk_154 0 5 (dk_at dksX2_would_2 0 rfl rfl)
theorem dX2_would_50 : decode cX2_would 50 = .ok (.iconst 0, 1) := dk_3 (dk_at dksX2_would_2 3 rfl rfl)
theorem dX2_would_51 : decode cX2_would 51 = .ok (.ireturn, 1) := dk_172 (dk_at dksX2_would_2 4 rfl rfl)
theorem dX2_would_52 : decode cX2_would 52 = .ok (.aload_n 0, 1) := dk_42 (dk_at dksX2_would_2 5 rfl rfl)
theorem dX2_would_53 : decode cX2_would 53 = .ok (.iload_n 1, 1) := dk_27 (dk_at dksX2_would_2 6 rfl rfl)
theorem dX2_would_54 : decode cX2_would 54 = .ok (.iload_n 2, 1) := dk_28 (dk_at dksX2_would_2 7 rfl rfl)
theorem dX2_would_55 : decode cX2_would 55 = .ok (.invokevirtual 98, 3) := dk_182 0 98 (dk_at dksX2_would_2 8 rfl rfl)
theorem dX2_would_58 : decode cX2_would 58 = .ok (.aload_n 0, 1) := dk_42 (dk_at dksX2_would_2 11 rfl rfl)
theorem dX2_would_59 : decode cX2_would 59 = .ok (.getfield 3, 3) := dk_180 0 3 (dk_at dksX2_would_2 12 rfl rfl)
theorem dX2_would_62 : decode cX2_would 62 = .ok (.getfield 102, 3) := dk_180 0 102 (dk_at dksX2_would_2 15 rfl rfl)
theorem dX2_would_65 : decode cX2_would 65 = .ok (.aload_n 0, 1) := dk_42 (dk_at dksX2_would_2 18 rfl rfl)
theorem dX2_would_66 : decode cX2_would 66 = .ok (.getfield 3, 3) := dk_180 0 3 (dk_at dksX2_would_2 19 rfl rfl)
theorem dX2_would_69 : decode cX2_would 69 = .ok (.getfield 73, 3) := dk_180 0 73 (dk_at dksX2_would_3 0 rfl rfl)
theorem dX2_would_72 : decode cX2_would 72 = .ok (.invokevirtual 106, 3) := dk_182 0 106 (dk_at dksX2_would_3 3 rfl rfl)
theorem dX2_would_75 : decode cX2_would 75 = .ok (.istore_n 3, 1) := dk_62 (dk_at dksX2_would_3 6 rfl rfl)
theorem dX2_would_76 : decode cX2_would 76 = .ok (.iload_n 3, 1) := dk_29 (dk_at dksX2_would_3 7 rfl rfl)
theorem dX2_would_77 : decode cX2_would 77 = .ok (.iconst (-1), 1) := dk_2 (dk_at dksX2_would_3 8 rfl rfl)
theorem dX2_would_78 : decode cX2_would 78 = .ok (.if_icmp .eq 18, 3) := dk_159 0 18 (dk_at dksX2_would_3 9 rfl rfl)
theorem dX2_would_81 : decode cX2_would 81 = .ok (.aload_n 0, 1) := dk_42 (dk_at dksX2_would_3 12 rfl rfl)
theorem dX2_would_82 : decode cX2_would 82 = .ok (.getfield 3, 3) := dk_180 0 3 (dk_at dksX2_would_3 13 rfl rfl)
theorem dX2_would_85 : decode cX2_would 85 = .ok (.getfield 102, 3) := dk_180 0 102 (dk_at dksX2_would_3 16 rfl rfl)
theorem dX2_would_88 : decode cX2_would 88 = .ok (.getfield 112, 3) := dk_180 0 112 (dk_at dksX2_would_3 19 rfl rfl)
theorem dX2_would_91 : decode cX2_would 91 = .ok (.iload_n 3, 1) := dk_29 (dk_at dksX2_would_3 22 rfl rfl)
theorem dX2_would_92 : decode cX2_would 92 = .ok (.iaload, 1) := dk_46 (dk_at dksX2_would_3 23 rfl rfl)
theorem dX2_would_93 : decode cX2_would 93 = .ok (.ifCond .ne 7, 3) := dk_154 0 7 (dk_at dksX2_would_4 0 rfl rfl)
theorem dX2_would_96 : decode cX2_would 96 = .ok (.iconst 1, 1) := dk_4 (dk_at dksX2_would_4 3 rfl rfl)
theorem dX2_would_97 : decode cX2_would 97 = .ok (.goto 4, 3) := dk_167 0 4 (dk_at dksX2_would_4 4 rfl rfl)
theorem dX2_would_100 : decode cX2_would 100 = .ok (.iconst 0, 1) := dk_3 (dk_at dksX2_would_4 7 rfl rfl)
theorem dX2_would_101 : decode cX2_would 101 = .ok (.ireturn, 1) := dk_172 (dk_at dksX2_would_4 8 rfl rfl)
abbrev cX2_asks : ByteArray := prog_12_method_5_code
def yX2_asks : MethodName := ⟨RX2, "asks", "(II)V"⟩
def dkwX2_asks_8 : List UInt8 := [46, 79, 177]
abbrev dktX2_asks_8 : List UInt8 := dkwX2_asks_8 ++ []
def dkwX2_asks_7 : List UInt8 := [180, 0, 38, 16, 8, 108, 16, 7, 112, 79, 42, 180, 0, 3, 180, 0, 73, 16, 9, 42, 180, 0, 25, 27]
abbrev dktX2_asks_7 : List UInt8 := dkwX2_asks_7 ++ dktX2_asks_8
def dkwX2_asks_6 : List UInt8 := [180, 0, 73, 16, 7, 42, 180, 0, 38, 16, 8, 112, 79, 42, 180, 0, 3, 180, 0, 73, 16, 8, 42]
abbrev dktX2_asks_6 : List UInt8 := dkwX2_asks_6 ++ dktX2_asks_7
def dkwX2_asks_5 : List UInt8 := [180, 0, 3, 180, 0, 73, 16, 6, 42, 180, 0, 3, 180, 0, 88, 27, 46, 79, 42, 180, 0, 3]
abbrev dktX2_asks_5 : List UInt8 := dkwX2_asks_5 ++ dktX2_asks_6
def dkwX2_asks_4 : List UInt8 := [180, 0, 82, 27, 46, 42, 180, 0, 3, 180, 0, 85, 28, 46, 160, 0, 7, 4, 167, 0, 4, 3, 79, 42]
abbrev dktX2_asks_4 : List UInt8 := dkwX2_asks_4 ++ dktX2_asks_5
def dkwX2_asks_3 : List UInt8 := [7, 42, 180, 0, 3, 180, 0, 79, 27, 46, 79, 42, 180, 0, 3, 180, 0, 73, 8, 42, 180, 0, 3]
abbrev dktX2_asks_3 : List UInt8 := dkwX2_asks_3 ++ dktX2_asks_4
def dkwX2_asks_2 : List UInt8 := [46, 79, 42, 180, 0, 3, 180, 0, 73, 6, 42, 180, 0, 22, 27, 46, 79, 42, 180, 0, 3, 180, 0, 73]
abbrev dktX2_asks_2 : List UInt8 := dkwX2_asks_2 ++ dktX2_asks_3
def dkwX2_asks_1 : List UInt8 := [180, 0, 73, 4, 42, 180, 0, 15, 27, 46, 79, 42, 180, 0, 3, 180, 0, 73, 5, 42, 180, 0, 19, 27]
abbrev dktX2_asks_1 : List UInt8 := dkwX2_asks_1 ++ dktX2_asks_2
def dkwX2_asks_0 : List UInt8 := [42, 180, 0, 3, 180, 0, 73, 3, 42, 180, 0, 3, 180, 0, 76, 28, 46, 79, 42, 180, 0, 3]
abbrev dktX2_asks_0 : List UInt8 := dkwX2_asks_0 ++ dktX2_asks_1
theorem dksX2_asks_0 : cX2_asks.data.toList.drop 0 = dktX2_asks_0 := by decide +kernel
theorem dksX2_asks_1 : cX2_asks.data.toList.drop 22 = dktX2_asks_1 := dk_seg dksX2_asks_0 22 rfl rfl
theorem dksX2_asks_2 : cX2_asks.data.toList.drop 46 = dktX2_asks_2 := dk_seg dksX2_asks_1 24 rfl rfl
theorem dksX2_asks_3 : cX2_asks.data.toList.drop 70 = dktX2_asks_3 := dk_seg dksX2_asks_2 24 rfl rfl
theorem dksX2_asks_4 : cX2_asks.data.toList.drop 93 = dktX2_asks_4 := dk_seg dksX2_asks_3 23 rfl rfl
theorem dksX2_asks_5 : cX2_asks.data.toList.drop 117 = dktX2_asks_5 := dk_seg dksX2_asks_4 24 rfl rfl
theorem dksX2_asks_6 : cX2_asks.data.toList.drop 139 = dktX2_asks_6 := dk_seg dksX2_asks_5 22 rfl rfl
theorem dksX2_asks_7 : cX2_asks.data.toList.drop 162 = dktX2_asks_7 := dk_seg dksX2_asks_6 23 rfl rfl
theorem dksX2_asks_8 : cX2_asks.data.toList.drop 186 = dktX2_asks_8 := dk_seg dksX2_asks_7 24 rfl rfl
theorem dX2_asks_0 : decode cX2_asks 0 = .ok (.aload_n 0, 1) := dk_42 (dk_at dksX2_asks_0 0 rfl rfl)
theorem dX2_asks_1 : decode cX2_asks 1 = .ok (.getfield 3, 3) := dk_180 0 3 (dk_at dksX2_asks_0 1 rfl rfl)
theorem dX2_asks_4 : decode cX2_asks 4 = .ok (.getfield 73, 3) := dk_180 0 73 (dk_at dksX2_asks_0 4 rfl rfl)
theorem dX2_asks_7 : decode cX2_asks 7 = .ok (.iconst 0, 1) := dk_3 (dk_at dksX2_asks_0 7 rfl rfl)
theorem dX2_asks_8 : decode cX2_asks 8 = .ok (.aload_n 0, 1) := dk_42 (dk_at dksX2_asks_0 8 rfl rfl)
theorem dX2_asks_9 : decode cX2_asks 9 = .ok (.getfield 3, 3) := dk_180 0 3 (dk_at dksX2_asks_0 9 rfl rfl)
theorem dX2_asks_12 : decode cX2_asks 12 = .ok (.getfield 76, 3) := dk_180 0 76 (dk_at dksX2_asks_0 12 rfl rfl)
theorem dX2_asks_15 : decode cX2_asks 15 = .ok (.iload_n 2, 1) := dk_28 (dk_at dksX2_asks_0 15 rfl rfl)
theorem dX2_asks_16 : decode cX2_asks 16 = .ok (.iaload, 1) := dk_46 (dk_at dksX2_asks_0 16 rfl rfl)
theorem dX2_asks_17 : decode cX2_asks 17 = .ok (.iastore, 1) := dk_79 (dk_at dksX2_asks_0 17 rfl rfl)
theorem dX2_asks_18 : decode cX2_asks 18 = .ok (.aload_n 0, 1) := dk_42 (dk_at dksX2_asks_0 18 rfl rfl)
theorem dX2_asks_19 : decode cX2_asks 19 = .ok (.getfield 3, 3) := dk_180 0 3 (dk_at dksX2_asks_0 19 rfl rfl)
theorem dX2_asks_22 : decode cX2_asks 22 = .ok (.getfield 73, 3) := dk_180 0 73 (dk_at dksX2_asks_1 0 rfl rfl)
theorem dX2_asks_25 : decode cX2_asks 25 = .ok (.iconst 1, 1) := dk_4 (dk_at dksX2_asks_1 3 rfl rfl)
theorem dX2_asks_26 : decode cX2_asks 26 = .ok (.aload_n 0, 1) := dk_42 (dk_at dksX2_asks_1 4 rfl rfl)
theorem dX2_asks_27 : decode cX2_asks 27 = .ok (.getfield 15, 3) := dk_180 0 15 (dk_at dksX2_asks_1 5 rfl rfl)
theorem dX2_asks_30 : decode cX2_asks 30 = .ok (.iload_n 1, 1) := dk_27 (dk_at dksX2_asks_1 8 rfl rfl)
theorem dX2_asks_31 : decode cX2_asks 31 = .ok (.iaload, 1) := dk_46 (dk_at dksX2_asks_1 9 rfl rfl)
theorem dX2_asks_32 : decode cX2_asks 32 = .ok (.iastore, 1) := dk_79 (dk_at dksX2_asks_1 10 rfl rfl)
theorem dX2_asks_33 : decode cX2_asks 33 = .ok (.aload_n 0, 1) := dk_42 (dk_at dksX2_asks_1 11 rfl rfl)
theorem dX2_asks_34 : decode cX2_asks 34 = .ok (.getfield 3, 3) := dk_180 0 3 (dk_at dksX2_asks_1 12 rfl rfl)
theorem dX2_asks_37 : decode cX2_asks 37 = .ok (.getfield 73, 3) := dk_180 0 73 (dk_at dksX2_asks_1 15 rfl rfl)
theorem dX2_asks_40 : decode cX2_asks 40 = .ok (.iconst 2, 1) := dk_5 (dk_at dksX2_asks_1 18 rfl rfl)
theorem dX2_asks_41 : decode cX2_asks 41 = .ok (.aload_n 0, 1) := dk_42 (dk_at dksX2_asks_1 19 rfl rfl)
theorem dX2_asks_42 : decode cX2_asks 42 = .ok (.getfield 19, 3) := dk_180 0 19 (dk_at dksX2_asks_1 20 rfl rfl)
theorem dX2_asks_45 : decode cX2_asks 45 = .ok (.iload_n 1, 1) := dk_27 (dk_at dksX2_asks_1 23 rfl rfl)
theorem dX2_asks_46 : decode cX2_asks 46 = .ok (.iaload, 1) := dk_46 (dk_at dksX2_asks_2 0 rfl rfl)
theorem dX2_asks_47 : decode cX2_asks 47 = .ok (.iastore, 1) := dk_79 (dk_at dksX2_asks_2 1 rfl rfl)
theorem dX2_asks_48 : decode cX2_asks 48 = .ok (.aload_n 0, 1) := dk_42 (dk_at dksX2_asks_2 2 rfl rfl)
theorem dX2_asks_49 : decode cX2_asks 49 = .ok (.getfield 3, 3) := dk_180 0 3 (dk_at dksX2_asks_2 3 rfl rfl)
theorem dX2_asks_52 : decode cX2_asks 52 = .ok (.getfield 73, 3) := dk_180 0 73 (dk_at dksX2_asks_2 6 rfl rfl)
theorem dX2_asks_55 : decode cX2_asks 55 = .ok (.iconst 3, 1) := dk_6 (dk_at dksX2_asks_2 9 rfl rfl)
theorem dX2_asks_56 : decode cX2_asks 56 = .ok (.aload_n 0, 1) := dk_42 (dk_at dksX2_asks_2 10 rfl rfl)
theorem dX2_asks_57 : decode cX2_asks 57 = .ok (.getfield 22, 3) := dk_180 0 22 (dk_at dksX2_asks_2 11 rfl rfl)
theorem dX2_asks_60 : decode cX2_asks 60 = .ok (.iload_n 1, 1) := dk_27 (dk_at dksX2_asks_2 14 rfl rfl)
theorem dX2_asks_61 : decode cX2_asks 61 = .ok (.iaload, 1) := dk_46 (dk_at dksX2_asks_2 15 rfl rfl)
theorem dX2_asks_62 : decode cX2_asks 62 = .ok (.iastore, 1) := dk_79 (dk_at dksX2_asks_2 16 rfl rfl)
theorem dX2_asks_63 : decode cX2_asks 63 = .ok (.aload_n 0, 1) := dk_42 (dk_at dksX2_asks_2 17 rfl rfl)
theorem dX2_asks_64 : decode cX2_asks 64 = .ok (.getfield 3, 3) := dk_180 0 3 (dk_at dksX2_asks_2 18 rfl rfl)
theorem dX2_asks_67 : decode cX2_asks 67 = .ok (.getfield 73, 3) := dk_180 0 73 (dk_at dksX2_asks_2 21 rfl rfl)
theorem dX2_asks_70 : decode cX2_asks 70 = .ok (.iconst 4, 1) := dk_7 (dk_at dksX2_asks_3 0 rfl rfl)
theorem dX2_asks_71 : decode cX2_asks 71 = .ok (.aload_n 0, 1) := dk_42 (dk_at dksX2_asks_3 1 rfl rfl)
theorem dX2_asks_72 : decode cX2_asks 72 = .ok (.getfield 3, 3) := dk_180 0 3 (dk_at dksX2_asks_3 2 rfl rfl)
theorem dX2_asks_75 : decode cX2_asks 75 = .ok (.getfield 79, 3) := dk_180 0 79 (dk_at dksX2_asks_3 5 rfl rfl)
theorem dX2_asks_78 : decode cX2_asks 78 = .ok (.iload_n 1, 1) := dk_27 (dk_at dksX2_asks_3 8 rfl rfl)
theorem dX2_asks_79 : decode cX2_asks 79 = .ok (.iaload, 1) := dk_46 (dk_at dksX2_asks_3 9 rfl rfl)
theorem dX2_asks_80 : decode cX2_asks 80 = .ok (.iastore, 1) := dk_79 (dk_at dksX2_asks_3 10 rfl rfl)
theorem dX2_asks_81 : decode cX2_asks 81 = .ok (.aload_n 0, 1) := dk_42 (dk_at dksX2_asks_3 11 rfl rfl)
theorem dX2_asks_82 : decode cX2_asks 82 = .ok (.getfield 3, 3) := dk_180 0 3 (dk_at dksX2_asks_3 12 rfl rfl)
theorem dX2_asks_85 : decode cX2_asks 85 = .ok (.getfield 73, 3) := dk_180 0 73 (dk_at dksX2_asks_3 15 rfl rfl)
theorem dX2_asks_88 : decode cX2_asks 88 = .ok (.iconst 5, 1) := dk_8 (dk_at dksX2_asks_3 18 rfl rfl)
theorem dX2_asks_89 : decode cX2_asks 89 = .ok (.aload_n 0, 1) := dk_42 (dk_at dksX2_asks_3 19 rfl rfl)
theorem dX2_asks_90 : decode cX2_asks 90 = .ok (.getfield 3, 3) := dk_180 0 3 (dk_at dksX2_asks_3 20 rfl rfl)
theorem dX2_asks_93 : decode cX2_asks 93 = .ok (.getfield 82, 3) := dk_180 0 82 (dk_at dksX2_asks_4 0 rfl rfl)
theorem dX2_asks_96 : decode cX2_asks 96 = .ok (.iload_n 1, 1) := dk_27 (dk_at dksX2_asks_4 3 rfl rfl)
theorem dX2_asks_97 : decode cX2_asks 97 = .ok (.iaload, 1) := dk_46 (dk_at dksX2_asks_4 4 rfl rfl)
theorem dX2_asks_98 : decode cX2_asks 98 = .ok (.aload_n 0, 1) := dk_42 (dk_at dksX2_asks_4 5 rfl rfl)
theorem dX2_asks_99 : decode cX2_asks 99 = .ok (.getfield 3, 3) := dk_180 0 3 (dk_at dksX2_asks_4 6 rfl rfl)
theorem dX2_asks_102 : decode cX2_asks 102 = .ok (.getfield 85, 3) := dk_180 0 85 (dk_at dksX2_asks_4 9 rfl rfl)
theorem dX2_asks_105 : decode cX2_asks 105 = .ok (.iload_n 2, 1) := dk_28 (dk_at dksX2_asks_4 12 rfl rfl)
theorem dX2_asks_106 : decode cX2_asks 106 = .ok (.iaload, 1) := dk_46 (dk_at dksX2_asks_4 13 rfl rfl)
theorem dX2_asks_107 : decode cX2_asks 107 = .ok (.if_icmp .ne 7, 3) := dk_160 0 7 (dk_at dksX2_asks_4 14 rfl rfl)
theorem dX2_asks_110 : decode cX2_asks 110 = .ok (.iconst 1, 1) := dk_4 (dk_at dksX2_asks_4 17 rfl rfl)
theorem dX2_asks_111 : decode cX2_asks 111 = .ok (.goto 4, 3) := dk_167 0 4 (dk_at dksX2_asks_4 18 rfl rfl)
theorem dX2_asks_114 : decode cX2_asks 114 = .ok (.iconst 0, 1) := dk_3 (dk_at dksX2_asks_4 21 rfl rfl)
theorem dX2_asks_115 : decode cX2_asks 115 = .ok (.iastore, 1) := dk_79 (dk_at dksX2_asks_4 22 rfl rfl)
theorem dX2_asks_116 : decode cX2_asks 116 = .ok (.aload_n 0, 1) := dk_42 (dk_at dksX2_asks_4 23 rfl rfl)
theorem dX2_asks_117 : decode cX2_asks 117 = .ok (.getfield 3, 3) := dk_180 0 3 (dk_at dksX2_asks_5 0 rfl rfl)
theorem dX2_asks_120 : decode cX2_asks 120 = .ok (.getfield 73, 3) := dk_180 0 73 (dk_at dksX2_asks_5 3 rfl rfl)
theorem dX2_asks_123 : decode cX2_asks 123 = .ok (.bipush 6, 2) := dk_16 6 (dk_at dksX2_asks_5 6 rfl rfl)
theorem dX2_asks_125 : decode cX2_asks 125 = .ok (.aload_n 0, 1) := dk_42 (dk_at dksX2_asks_5 8 rfl rfl)
theorem dX2_asks_126 : decode cX2_asks 126 = .ok (.getfield 3, 3) := dk_180 0 3 (dk_at dksX2_asks_5 9 rfl rfl)
theorem dX2_asks_129 : decode cX2_asks 129 = .ok (.getfield 88, 3) := dk_180 0 88 (dk_at dksX2_asks_5 12 rfl rfl)
theorem dX2_asks_132 : decode cX2_asks 132 = .ok (.iload_n 1, 1) := dk_27 (dk_at dksX2_asks_5 15 rfl rfl)
theorem dX2_asks_133 : decode cX2_asks 133 = .ok (.iaload, 1) := dk_46 (dk_at dksX2_asks_5 16 rfl rfl)
theorem dX2_asks_134 : decode cX2_asks 134 = .ok (.iastore, 1) := dk_79 (dk_at dksX2_asks_5 17 rfl rfl)
theorem dX2_asks_135 : decode cX2_asks 135 = .ok (.aload_n 0, 1) := dk_42 (dk_at dksX2_asks_5 18 rfl rfl)
theorem dX2_asks_136 : decode cX2_asks 136 = .ok (.getfield 3, 3) := dk_180 0 3 (dk_at dksX2_asks_5 19 rfl rfl)
theorem dX2_asks_139 : decode cX2_asks 139 = .ok (.getfield 73, 3) := dk_180 0 73 (dk_at dksX2_asks_6 0 rfl rfl)
theorem dX2_asks_142 : decode cX2_asks 142 = .ok (.bipush 7, 2) := dk_16 7 (dk_at dksX2_asks_6 3 rfl rfl)
theorem dX2_asks_144 : decode cX2_asks 144 = .ok (.aload_n 0, 1) := dk_42 (dk_at dksX2_asks_6 5 rfl rfl)
theorem dX2_asks_145 : decode cX2_asks 145 = .ok (.getfield 38, 3) := dk_180 0 38 (dk_at dksX2_asks_6 6 rfl rfl)
theorem dX2_asks_148 : decode cX2_asks 148 = .ok (.bipush 8, 2) := dk_16 8 (dk_at dksX2_asks_6 9 rfl rfl)
theorem dX2_asks_150 : decode cX2_asks 150 = .ok (.irem, 1) := dk_112 (dk_at dksX2_asks_6 11 rfl rfl)
theorem dX2_asks_151 : decode cX2_asks 151 = .ok (.iastore, 1) := dk_79 (dk_at dksX2_asks_6 12 rfl rfl)
theorem dX2_asks_152 : decode cX2_asks 152 = .ok (.aload_n 0, 1) := dk_42 (dk_at dksX2_asks_6 13 rfl rfl)
theorem dX2_asks_153 : decode cX2_asks 153 = .ok (.getfield 3, 3) := dk_180 0 3 (dk_at dksX2_asks_6 14 rfl rfl)
theorem dX2_asks_156 : decode cX2_asks 156 = .ok (.getfield 73, 3) := dk_180 0 73 (dk_at dksX2_asks_6 17 rfl rfl)
theorem dX2_asks_159 : decode cX2_asks 159 = .ok (.bipush 8, 2) := dk_16 8 (dk_at dksX2_asks_6 20 rfl rfl)
theorem dX2_asks_161 : decode cX2_asks 161 = .ok (.aload_n 0, 1) := dk_42 (dk_at dksX2_asks_6 22 rfl rfl)
theorem dX2_asks_162 : decode cX2_asks 162 = .ok (.getfield 38, 3) := dk_180 0 38 (dk_at dksX2_asks_7 0 rfl rfl)
theorem dX2_asks_165 : decode cX2_asks 165 = .ok (.bipush 8, 2) := dk_16 8 (dk_at dksX2_asks_7 3 rfl rfl)
theorem dX2_asks_167 : decode cX2_asks 167 = .ok (.idiv, 1) := dk_108 (dk_at dksX2_asks_7 5 rfl rfl)
theorem dX2_asks_168 : decode cX2_asks 168 = .ok (.bipush 7, 2) := dk_16 7 (dk_at dksX2_asks_7 6 rfl rfl)
theorem dX2_asks_170 : decode cX2_asks 170 = .ok (.irem, 1) := dk_112 (dk_at dksX2_asks_7 8 rfl rfl)
theorem dX2_asks_171 : decode cX2_asks 171 = .ok (.iastore, 1) := dk_79 (dk_at dksX2_asks_7 9 rfl rfl)
theorem dX2_asks_172 : decode cX2_asks 172 = .ok (.aload_n 0, 1) := dk_42 (dk_at dksX2_asks_7 10 rfl rfl)
theorem dX2_asks_173 : decode cX2_asks 173 = .ok (.getfield 3, 3) := dk_180 0 3 (dk_at dksX2_asks_7 11 rfl rfl)
theorem dX2_asks_176 : decode cX2_asks 176 = .ok (.getfield 73, 3) := dk_180 0 73 (dk_at dksX2_asks_7 14 rfl rfl)
theorem dX2_asks_179 : decode cX2_asks 179 = .ok (.bipush 9, 2) := dk_16 9 (dk_at dksX2_asks_7 17 rfl rfl)
theorem dX2_asks_181 : decode cX2_asks 181 = .ok (.aload_n 0, 1) := dk_42 (dk_at dksX2_asks_7 19 rfl rfl)
theorem dX2_asks_182 : decode cX2_asks 182 = .ok (.getfield 25, 3) := dk_180 0 25 (dk_at dksX2_asks_7 20 rfl rfl)
theorem dX2_asks_185 : decode cX2_asks 185 = .ok (.iload_n 1, 1) := dk_27 (dk_at dksX2_asks_7 23 rfl rfl)
theorem dX2_asks_186 : decode cX2_asks 186 = .ok (.iaload, 1) := dk_46 (dk_at dksX2_asks_8 0 rfl rfl)
theorem dX2_asks_187 : decode cX2_asks 187 = .ok (.iastore, 1) := dk_79 (dk_at dksX2_asks_8 1 rfl rfl)
theorem dX2_asks_188 : decode cX2_asks 188 = .ok (.return_, 1) := dk_177 (dk_at dksX2_asks_8 2 rfl rfl)
abbrev cX2_refuses : ByteArray := prog_12_method_15_code
def yX2_refuses : MethodName := ⟨RX2, "refuses", "(I)V"⟩
def dkwX2_refuses_1 : List UInt8 := [181, 0, 65, 42, 27, 181, 0, 68, 177]
abbrev dktX2_refuses_1 : List UInt8 := dkwX2_refuses_1 ++ []
def dkwX2_refuses_0 : List UInt8 := [42, 89, 180, 0, 59, 4, 96, 181, 0, 59, 42, 180, 0, 68, 2, 159, 0, 4, 177, 42, 42, 180, 0, 38]
abbrev dktX2_refuses_0 : List UInt8 := dkwX2_refuses_0 ++ dktX2_refuses_1
theorem dksX2_refuses_0 : cX2_refuses.data.toList.drop 0 = dktX2_refuses_0 := by decide +kernel
theorem dksX2_refuses_1 : cX2_refuses.data.toList.drop 24 = dktX2_refuses_1 := dk_seg dksX2_refuses_0 24 rfl rfl
theorem dX2_refuses_0 : decode cX2_refuses 0 = .ok (.aload_n 0, 1) := dk_42 (dk_at dksX2_refuses_0 0 rfl rfl)
theorem dX2_refuses_1 : decode cX2_refuses 1 = .ok (.dup, 1) := dk_89 (dk_at dksX2_refuses_0 1 rfl rfl)
theorem dX2_refuses_2 : decode cX2_refuses 2 = .ok (.getfield 59, 3) := dk_180 0 59 (dk_at dksX2_refuses_0 2 rfl rfl)
theorem dX2_refuses_5 : decode cX2_refuses 5 = .ok (.iconst 1, 1) := dk_4 (dk_at dksX2_refuses_0 5 rfl rfl)
theorem dX2_refuses_6 : decode cX2_refuses 6 = .ok (.iadd, 1) := dk_96 (dk_at dksX2_refuses_0 6 rfl rfl)
theorem dX2_refuses_7 : decode cX2_refuses 7 = .ok (.putfield 59, 3) := dk_181 0 59 (dk_at dksX2_refuses_0 7 rfl rfl)
theorem dX2_refuses_10 : decode cX2_refuses 10 = .ok (.aload_n 0, 1) := dk_42 (dk_at dksX2_refuses_0 10 rfl rfl)
theorem dX2_refuses_11 : decode cX2_refuses 11 = .ok (.getfield 68, 3) := dk_180 0 68 (dk_at dksX2_refuses_0 11 rfl rfl)
theorem dX2_refuses_14 : decode cX2_refuses 14 = .ok (.iconst (-1), 1) := dk_2 (dk_at dksX2_refuses_0 14 rfl rfl)
theorem dX2_refuses_15 : decode cX2_refuses 15 = .ok (.if_icmp .eq 4, 3) := dk_159 0 4 (dk_at dksX2_refuses_0 15 rfl rfl)
theorem dX2_refuses_18 : decode cX2_refuses 18 = .ok (.return_, 1) := dk_177 (dk_at dksX2_refuses_0 18 rfl rfl)
theorem dX2_refuses_19 : decode cX2_refuses 19 = .ok (.aload_n 0, 1) := dk_42 (dk_at dksX2_refuses_0 19 rfl rfl)
theorem dX2_refuses_20 : decode cX2_refuses 20 = .ok (.aload_n 0, 1) := dk_42 (dk_at dksX2_refuses_0 20 rfl rfl)
theorem dX2_refuses_21 : decode cX2_refuses 21 = .ok (.getfield 38, 3) := dk_180 0 38 (dk_at dksX2_refuses_0 21 rfl rfl)
theorem dX2_refuses_24 : decode cX2_refuses 24 = .ok (.putfield 65, 3) := dk_181 0 65 (dk_at dksX2_refuses_1 0 rfl rfl)
theorem dX2_refuses_27 : decode cX2_refuses 27 = .ok (.aload_n 0, 1) := dk_42 (dk_at dksX2_refuses_1 3 rfl rfl)
theorem dX2_refuses_28 : decode cX2_refuses 28 = .ok (.iload_n 1, 1) := dk_27 (dk_at dksX2_refuses_1 4 rfl rfl)
theorem dX2_refuses_29 : decode cX2_refuses 29 = .ok (.putfield 68, 3) := dk_181 0 68 (dk_at dksX2_refuses_1 5 rfl rfl)
theorem dX2_refuses_32 : decode cX2_refuses 32 = .ok (.return_, 1) := dk_177 (dk_at dksX2_refuses_1 8 rfl rfl)
abbrev cX2_wears : ByteArray := prog_12_method_10_code
def yX2_wears : MethodName := ⟨RX2, "wears", "(II)V"⟩
def dkwX2_wears_3 : List UInt8 := [46, 4, 96, 79, 177]
abbrev dktX2_wears_3 : List UInt8 := dkwX2_wears_3 ++ []
def dkwX2_wears_2 : List UInt8 := [96, 3, 16, 99, 184, 0, 140, 79, 42, 180, 0, 22, 27, 92, 46, 4, 96, 79, 42, 180, 0, 25, 27, 92]
abbrev dktX2_wears_2 : List UInt8 := dkwX2_wears_2 ++ dktX2_wears_3
def dkwX2_wears_1 : List UInt8 := [180, 0, 15, 27, 46, 29, 100, 184, 0, 147, 79, 42, 180, 0, 19, 27, 42, 180, 0, 19, 27, 46, 21, 4]
abbrev dktX2_wears_1 : List UInt8 := dkwX2_wears_1 ++ dktX2_wears_2
def dkwX2_wears_0 : List UInt8 := [42, 27, 28, 3, 182, 0, 144, 62, 42, 27, 28, 4, 182, 0, 144, 54, 4, 42, 180, 0, 15, 27, 3, 42]
abbrev dktX2_wears_0 : List UInt8 := dkwX2_wears_0 ++ dktX2_wears_1
theorem dksX2_wears_0 : cX2_wears.data.toList.drop 0 = dktX2_wears_0 := by decide +kernel
theorem dksX2_wears_1 : cX2_wears.data.toList.drop 24 = dktX2_wears_1 := dk_seg dksX2_wears_0 24 rfl rfl
theorem dksX2_wears_2 : cX2_wears.data.toList.drop 48 = dktX2_wears_2 := dk_seg dksX2_wears_1 24 rfl rfl
theorem dksX2_wears_3 : cX2_wears.data.toList.drop 72 = dktX2_wears_3 := dk_seg dksX2_wears_2 24 rfl rfl
theorem dX2_wears_0 : decode cX2_wears 0 = .ok (.aload_n 0, 1) := dk_42 (dk_at dksX2_wears_0 0 rfl rfl)
theorem dX2_wears_1 : decode cX2_wears 1 = .ok (.iload_n 1, 1) := dk_27 (dk_at dksX2_wears_0 1 rfl rfl)
theorem dX2_wears_2 : decode cX2_wears 2 = .ok (.iload_n 2, 1) := dk_28 (dk_at dksX2_wears_0 2 rfl rfl)
theorem dX2_wears_3 : decode cX2_wears 3 = .ok (.iconst 0, 1) := dk_3 (dk_at dksX2_wears_0 3 rfl rfl)
theorem dX2_wears_4 : decode cX2_wears 4 = .ok (.invokevirtual 144, 3) := dk_182 0 144 (dk_at dksX2_wears_0 4 rfl rfl)
theorem dX2_wears_7 : decode cX2_wears 7 = .ok (.istore_n 3, 1) := dk_62 (dk_at dksX2_wears_0 7 rfl rfl)
theorem dX2_wears_8 : decode cX2_wears 8 = .ok (.aload_n 0, 1) := dk_42 (dk_at dksX2_wears_0 8 rfl rfl)
theorem dX2_wears_9 : decode cX2_wears 9 = .ok (.iload_n 1, 1) := dk_27 (dk_at dksX2_wears_0 9 rfl rfl)
theorem dX2_wears_10 : decode cX2_wears 10 = .ok (.iload_n 2, 1) := dk_28 (dk_at dksX2_wears_0 10 rfl rfl)
theorem dX2_wears_11 : decode cX2_wears 11 = .ok (.iconst 1, 1) := dk_4 (dk_at dksX2_wears_0 11 rfl rfl)
theorem dX2_wears_12 : decode cX2_wears 12 = .ok (.invokevirtual 144, 3) := dk_182 0 144 (dk_at dksX2_wears_0 12 rfl rfl)
theorem dX2_wears_15 : decode cX2_wears 15 = .ok (.istore 4, 2) := dk_54 4 (dk_at dksX2_wears_0 15 rfl rfl)
theorem dX2_wears_17 : decode cX2_wears 17 = .ok (.aload_n 0, 1) := dk_42 (dk_at dksX2_wears_0 17 rfl rfl)
theorem dX2_wears_18 : decode cX2_wears 18 = .ok (.getfield 15, 3) := dk_180 0 15 (dk_at dksX2_wears_0 18 rfl rfl)
theorem dX2_wears_21 : decode cX2_wears 21 = .ok (.iload_n 1, 1) := dk_27 (dk_at dksX2_wears_0 21 rfl rfl)
theorem dX2_wears_22 : decode cX2_wears 22 = .ok (.iconst 0, 1) := dk_3 (dk_at dksX2_wears_0 22 rfl rfl)
theorem dX2_wears_23 : decode cX2_wears 23 = .ok (.aload_n 0, 1) := dk_42 (dk_at dksX2_wears_0 23 rfl rfl)
theorem dX2_wears_24 : decode cX2_wears 24 = .ok (.getfield 15, 3) := dk_180 0 15 (dk_at dksX2_wears_1 0 rfl rfl)
theorem dX2_wears_27 : decode cX2_wears 27 = .ok (.iload_n 1, 1) := dk_27 (dk_at dksX2_wears_1 3 rfl rfl)
theorem dX2_wears_28 : decode cX2_wears 28 = .ok (.iaload, 1) := dk_46 (dk_at dksX2_wears_1 4 rfl rfl)
theorem dX2_wears_29 : decode cX2_wears 29 = .ok (.iload_n 3, 1) := dk_29 (dk_at dksX2_wears_1 5 rfl rfl)
theorem dX2_wears_30 : decode cX2_wears 30 = .ok (.isub, 1) := dk_100 (dk_at dksX2_wears_1 6 rfl rfl)
theorem dX2_wears_31 : decode cX2_wears 31 = .ok (.invokestatic 147, 3) := dk_184 0 147 (dk_at dksX2_wears_1 7 rfl rfl)
theorem dX2_wears_34 : decode cX2_wears 34 = .ok (.iastore, 1) := dk_79 (dk_at dksX2_wears_1 10 rfl rfl)
theorem dX2_wears_35 : decode cX2_wears 35 = .ok (.aload_n 0, 1) := dk_42 (dk_at dksX2_wears_1 11 rfl rfl)
theorem dX2_wears_36 : decode cX2_wears 36 = .ok (.getfield 19, 3) := dk_180 0 19 (dk_at dksX2_wears_1 12 rfl rfl)
theorem dX2_wears_39 : decode cX2_wears 39 = .ok (.iload_n 1, 1) := dk_27 (dk_at dksX2_wears_1 15 rfl rfl)
theorem dX2_wears_40 : decode cX2_wears 40 = .ok (.aload_n 0, 1) := dk_42 (dk_at dksX2_wears_1 16 rfl rfl)
theorem dX2_wears_41 : decode cX2_wears 41 = .ok (.getfield 19, 3) := dk_180 0 19 (dk_at dksX2_wears_1 17 rfl rfl)
theorem dX2_wears_44 : decode cX2_wears 44 = .ok (.iload_n 1, 1) := dk_27 (dk_at dksX2_wears_1 20 rfl rfl)
theorem dX2_wears_45 : decode cX2_wears 45 = .ok (.iaload, 1) := dk_46 (dk_at dksX2_wears_1 21 rfl rfl)
theorem dX2_wears_46 : decode cX2_wears 46 = .ok (.iload 4, 2) := dk_21 4 (dk_at dksX2_wears_1 22 rfl rfl)
theorem dX2_wears_48 : decode cX2_wears 48 = .ok (.iadd, 1) := dk_96 (dk_at dksX2_wears_2 0 rfl rfl)
theorem dX2_wears_49 : decode cX2_wears 49 = .ok (.iconst 0, 1) := dk_3 (dk_at dksX2_wears_2 1 rfl rfl)
theorem dX2_wears_50 : decode cX2_wears 50 = .ok (.bipush 99, 2) := dk_16 99 (dk_at dksX2_wears_2 2 rfl rfl)
theorem dX2_wears_52 : decode cX2_wears 52 = .ok (.invokestatic 140, 3) := dk_184 0 140 (dk_at dksX2_wears_2 4 rfl rfl)
theorem dX2_wears_55 : decode cX2_wears 55 = .ok (.iastore, 1) := dk_79 (dk_at dksX2_wears_2 7 rfl rfl)
theorem dX2_wears_56 : decode cX2_wears 56 = .ok (.aload_n 0, 1) := dk_42 (dk_at dksX2_wears_2 8 rfl rfl)
theorem dX2_wears_57 : decode cX2_wears 57 = .ok (.getfield 22, 3) := dk_180 0 22 (dk_at dksX2_wears_2 9 rfl rfl)
theorem dX2_wears_60 : decode cX2_wears 60 = .ok (.iload_n 1, 1) := dk_27 (dk_at dksX2_wears_2 12 rfl rfl)
theorem dX2_wears_61 : decode cX2_wears 61 = .ok (.dup2, 1) := dk_92 (dk_at dksX2_wears_2 13 rfl rfl)
theorem dX2_wears_62 : decode cX2_wears 62 = .ok (.iaload, 1) := dk_46 (dk_at dksX2_wears_2 14 rfl rfl)
theorem dX2_wears_63 : decode cX2_wears 63 = .ok (.iconst 1, 1) := dk_4 (dk_at dksX2_wears_2 15 rfl rfl)
theorem dX2_wears_64 : decode cX2_wears 64 = .ok (.iadd, 1) := dk_96 (dk_at dksX2_wears_2 16 rfl rfl)
theorem dX2_wears_65 : decode cX2_wears 65 = .ok (.iastore, 1) := dk_79 (dk_at dksX2_wears_2 17 rfl rfl)
theorem dX2_wears_66 : decode cX2_wears 66 = .ok (.aload_n 0, 1) := dk_42 (dk_at dksX2_wears_2 18 rfl rfl)
theorem dX2_wears_67 : decode cX2_wears 67 = .ok (.getfield 25, 3) := dk_180 0 25 (dk_at dksX2_wears_2 19 rfl rfl)
theorem dX2_wears_70 : decode cX2_wears 70 = .ok (.iload_n 1, 1) := dk_27 (dk_at dksX2_wears_2 22 rfl rfl)
theorem dX2_wears_71 : decode cX2_wears 71 = .ok (.dup2, 1) := dk_92 (dk_at dksX2_wears_2 23 rfl rfl)
theorem dX2_wears_72 : decode cX2_wears 72 = .ok (.iaload, 1) := dk_46 (dk_at dksX2_wears_3 0 rfl rfl)
theorem dX2_wears_73 : decode cX2_wears 73 = .ok (.iconst 1, 1) := dk_4 (dk_at dksX2_wears_3 1 rfl rfl)
theorem dX2_wears_74 : decode cX2_wears 74 = .ok (.iadd, 1) := dk_96 (dk_at dksX2_wears_3 2 rfl rfl)
theorem dX2_wears_75 : decode cX2_wears 75 = .ok (.iastore, 1) := dk_79 (dk_at dksX2_wears_3 3 rfl rfl)
theorem dX2_wears_76 : decode cX2_wears 76 = .ok (.return_, 1) := dk_177 (dk_at dksX2_wears_3 4 rfl rfl)
abbrev cX2_tells : ByteArray := prog_12_method_9_code
def yX2_tells : MethodName := ⟨RX2, "tells", "(III)I"⟩
def dkwX2_tells_7 : List UInt8 := [167, 0, 14, 21, 4, 17, 252, 25, 17, 3, 231, 184, 0, 140, 172]
abbrev dktX2_tells_7 : List UInt8 := dkwX2_tells_7 ++ []
def dkwX2_tells_6 : List UInt8 := [16, 20, 184, 0, 140, 167, 0, 31, 29, 4, 160, 0, 15, 21, 4, 16, 236, 16, 20, 184, 0, 140]
abbrev dktX2_tells_6 : List UInt8 := dkwX2_tells_6 ++ dktX2_tells_7
def dkwX2_tells_5 : List UInt8 := [180, 0, 73, 182, 0, 132, 54, 4, 167, 0, 9, 132, 5, 1, 167, 255, 148, 29, 154, 0, 14, 21, 4, 3]
abbrev dktX2_tells_5 : List UInt8 := dkwX2_tells_5 ++ dktX2_tells_6
def dkwX2_tells_4 : List UInt8 := [154, 0, 6, 167, 0, 31, 42, 180, 0, 3, 180, 0, 122, 180, 0, 137, 21, 5, 50, 42, 180, 0, 3]
abbrev dktX2_tells_4 : List UInt8 := dkwX2_tells_4 ++ dktX2_tells_5
def dkwX2_tells_3 : List UInt8 := [180, 0, 3, 180, 0, 122, 180, 0, 128, 21, 5, 50, 42, 180, 0, 3, 180, 0, 73, 182, 0, 132]
abbrev dktX2_tells_3 : List UInt8 := dkwX2_tells_3 ++ dktX2_tells_4
def dkwX2_tells_2 : List UInt8 := [46, 29, 160, 0, 76, 42, 180, 0, 3, 180, 0, 122, 180, 0, 128, 21, 5, 50, 198, 0, 32, 42]
abbrev dktX2_tells_2 : List UInt8 := dkwX2_tells_2 ++ dktX2_tells_3
def dkwX2_tells_1 : List UInt8 := [180, 0, 3, 180, 0, 122, 180, 0, 125, 162, 0, 99, 42, 180, 0, 3, 180, 0, 122, 180, 0, 112, 21, 5]
abbrev dktX2_tells_1 : List UInt8 := dkwX2_tells_1 ++ dktX2_tells_2
def dkwX2_tells_0 : List UInt8 := [42, 27, 28, 182, 0, 98, 29, 154, 0, 7, 4, 167, 0, 4, 3, 54, 4, 3, 54, 5, 21, 5, 42]
abbrev dktX2_tells_0 : List UInt8 := dkwX2_tells_0 ++ dktX2_tells_1
theorem dksX2_tells_0 : cX2_tells.data.toList.drop 0 = dktX2_tells_0 := by decide +kernel
theorem dksX2_tells_1 : cX2_tells.data.toList.drop 23 = dktX2_tells_1 := dk_seg dksX2_tells_0 23 rfl rfl
theorem dksX2_tells_2 : cX2_tells.data.toList.drop 47 = dktX2_tells_2 := dk_seg dksX2_tells_1 24 rfl rfl
theorem dksX2_tells_3 : cX2_tells.data.toList.drop 69 = dktX2_tells_3 := dk_seg dksX2_tells_2 22 rfl rfl
theorem dksX2_tells_4 : cX2_tells.data.toList.drop 91 = dktX2_tells_4 := dk_seg dksX2_tells_3 22 rfl rfl
theorem dksX2_tells_5 : cX2_tells.data.toList.drop 114 = dktX2_tells_5 := dk_seg dksX2_tells_4 23 rfl rfl
theorem dksX2_tells_6 : cX2_tells.data.toList.drop 138 = dktX2_tells_6 := dk_seg dksX2_tells_5 24 rfl rfl
theorem dksX2_tells_7 : cX2_tells.data.toList.drop 160 = dktX2_tells_7 := dk_seg dksX2_tells_6 22 rfl rfl
theorem dX2_tells_0 : decode cX2_tells 0 = .ok (.aload_n 0, 1) := dk_42 (dk_at dksX2_tells_0 0 rfl rfl)
theorem dX2_tells_1 : decode cX2_tells 1 = .ok (.iload_n 1, 1) := dk_27 (dk_at dksX2_tells_0 1 rfl rfl)
theorem dX2_tells_2 : decode cX2_tells 2 = .ok (.iload_n 2, 1) := dk_28 (dk_at dksX2_tells_0 2 rfl rfl)
theorem dX2_tells_3 : decode cX2_tells 3 = .ok (.invokevirtual 98, 3) := dk_182 0 98 (dk_at dksX2_tells_0 3 rfl rfl)
theorem dX2_tells_6 : decode cX2_tells 6 = .ok (.iload_n 3, 1) := dk_29 (dk_at dksX2_tells_0 6 rfl rfl)
theorem dX2_tells_7 : decode cX2_tells 7 = .ok (.ifCond .ne 7, 3) := dk_154 0 7 (dk_at dksX2_tells_0 7 rfl rfl)
theorem dX2_tells_10 : decode cX2_tells 10 = .ok (.iconst 1, 1) := dk_4 (dk_at dksX2_tells_0 10 rfl rfl)
theorem dX2_tells_11 : decode cX2_tells 11 = .ok (.goto 4, 3) := dk_167 0 4 (dk_at dksX2_tells_0 11 rfl rfl)
theorem dX2_tells_14 : decode cX2_tells 14 = .ok (.iconst 0, 1) := dk_3 (dk_at dksX2_tells_0 14 rfl rfl)
theorem dX2_tells_15 : decode cX2_tells 15 = .ok (.istore 4, 2) := dk_54 4 (dk_at dksX2_tells_0 15 rfl rfl)
theorem dX2_tells_17 : decode cX2_tells 17 = .ok (.iconst 0, 1) := dk_3 (dk_at dksX2_tells_0 17 rfl rfl)
theorem dX2_tells_18 : decode cX2_tells 18 = .ok (.istore 5, 2) := dk_54 5 (dk_at dksX2_tells_0 18 rfl rfl)
theorem dX2_tells_20 : decode cX2_tells 20 = .ok (.iload 5, 2) := dk_21 5 (dk_at dksX2_tells_0 20 rfl rfl)
theorem dX2_tells_22 : decode cX2_tells 22 = .ok (.aload_n 0, 1) := dk_42 (dk_at dksX2_tells_0 22 rfl rfl)
theorem dX2_tells_23 : decode cX2_tells 23 = .ok (.getfield 3, 3) := dk_180 0 3 (dk_at dksX2_tells_1 0 rfl rfl)
theorem dX2_tells_26 : decode cX2_tells 26 = .ok (.getfield 122, 3) := dk_180 0 122 (dk_at dksX2_tells_1 3 rfl rfl)
theorem dX2_tells_29 : decode cX2_tells 29 = .ok (.getfield 125, 3) := dk_180 0 125 (dk_at dksX2_tells_1 6 rfl rfl)
theorem dX2_tells_32 : decode cX2_tells 32 = .ok (.if_icmp .ge 99, 3) := dk_162 0 99 (dk_at dksX2_tells_1 9 rfl rfl)
theorem dX2_tells_35 : decode cX2_tells 35 = .ok (.aload_n 0, 1) := dk_42 (dk_at dksX2_tells_1 12 rfl rfl)
theorem dX2_tells_36 : decode cX2_tells 36 = .ok (.getfield 3, 3) := dk_180 0 3 (dk_at dksX2_tells_1 13 rfl rfl)
theorem dX2_tells_39 : decode cX2_tells 39 = .ok (.getfield 122, 3) := dk_180 0 122 (dk_at dksX2_tells_1 16 rfl rfl)
theorem dX2_tells_42 : decode cX2_tells 42 = .ok (.getfield 112, 3) := dk_180 0 112 (dk_at dksX2_tells_1 19 rfl rfl)
theorem dX2_tells_45 : decode cX2_tells 45 = .ok (.iload 5, 2) := dk_21 5 (dk_at dksX2_tells_1 22 rfl rfl)
theorem dX2_tells_47 : decode cX2_tells 47 = .ok (.iaload, 1) := dk_46 (dk_at dksX2_tells_2 0 rfl rfl)
theorem dX2_tells_48 : decode cX2_tells 48 = .ok (.iload_n 3, 1) := dk_29 (dk_at dksX2_tells_2 1 rfl rfl)
theorem dX2_tells_49 : decode cX2_tells 49 = .ok (.if_icmp .ne 76, 3) := dk_160 0 76 (dk_at dksX2_tells_2 2 rfl rfl)
theorem dX2_tells_52 : decode cX2_tells 52 = .ok (.aload_n 0, 1) := dk_42 (dk_at dksX2_tells_2 5 rfl rfl)
theorem dX2_tells_53 : decode cX2_tells 53 = .ok (.getfield 3, 3) := dk_180 0 3 (dk_at dksX2_tells_2 6 rfl rfl)
theorem dX2_tells_56 : decode cX2_tells 56 = .ok (.getfield 122, 3) := dk_180 0 122 (dk_at dksX2_tells_2 9 rfl rfl)
theorem dX2_tells_59 : decode cX2_tells 59 = .ok (.getfield 128, 3) := dk_180 0 128 (dk_at dksX2_tells_2 12 rfl rfl)
theorem dX2_tells_62 : decode cX2_tells 62 = .ok (.iload 5, 2) := dk_21 5 (dk_at dksX2_tells_2 15 rfl rfl)
theorem dX2_tells_64 : decode cX2_tells 64 = .ok (.aaload, 1) := dk_50 (dk_at dksX2_tells_2 17 rfl rfl)
theorem dX2_tells_65 : decode cX2_tells 65 = .ok (.ifnull 32, 3) := dk_198 0 32 (dk_at dksX2_tells_2 18 rfl rfl)
theorem dX2_tells_68 : decode cX2_tells 68 = .ok (.aload_n 0, 1) := dk_42 (dk_at dksX2_tells_2 21 rfl rfl)
theorem dX2_tells_69 : decode cX2_tells 69 = .ok (.getfield 3, 3) := dk_180 0 3 (dk_at dksX2_tells_3 0 rfl rfl)
theorem dX2_tells_72 : decode cX2_tells 72 = .ok (.getfield 122, 3) := dk_180 0 122 (dk_at dksX2_tells_3 3 rfl rfl)
theorem dX2_tells_75 : decode cX2_tells 75 = .ok (.getfield 128, 3) := dk_180 0 128 (dk_at dksX2_tells_3 6 rfl rfl)
theorem dX2_tells_78 : decode cX2_tells 78 = .ok (.iload 5, 2) := dk_21 5 (dk_at dksX2_tells_3 9 rfl rfl)
theorem dX2_tells_80 : decode cX2_tells 80 = .ok (.aaload, 1) := dk_50 (dk_at dksX2_tells_3 11 rfl rfl)
theorem dX2_tells_81 : decode cX2_tells 81 = .ok (.aload_n 0, 1) := dk_42 (dk_at dksX2_tells_3 12 rfl rfl)
theorem dX2_tells_82 : decode cX2_tells 82 = .ok (.getfield 3, 3) := dk_180 0 3 (dk_at dksX2_tells_3 13 rfl rfl)
theorem dX2_tells_85 : decode cX2_tells 85 = .ok (.getfield 73, 3) := dk_180 0 73 (dk_at dksX2_tells_3 16 rfl rfl)
theorem dX2_tells_88 : decode cX2_tells 88 = .ok (.invokevirtual 132, 3) := dk_182 0 132 (dk_at dksX2_tells_3 19 rfl rfl)
theorem dX2_tells_91 : decode cX2_tells 91 = .ok (.ifCond .ne 6, 3) := dk_154 0 6 (dk_at dksX2_tells_4 0 rfl rfl)
theorem dX2_tells_94 : decode cX2_tells 94 = .ok (.goto 31, 3) := dk_167 0 31 (dk_at dksX2_tells_4 3 rfl rfl)
theorem dX2_tells_97 : decode cX2_tells 97 = .ok (.aload_n 0, 1) := dk_42 (dk_at dksX2_tells_4 6 rfl rfl)
theorem dX2_tells_98 : decode cX2_tells 98 = .ok (.getfield 3, 3) := dk_180 0 3 (dk_at dksX2_tells_4 7 rfl rfl)
theorem dX2_tells_101 : decode cX2_tells 101 = .ok (.getfield 122, 3) := dk_180 0 122 (dk_at dksX2_tells_4 10 rfl rfl)
theorem dX2_tells_104 : decode cX2_tells 104 = .ok (.getfield 137, 3) := dk_180 0 137 (dk_at dksX2_tells_4 13 rfl rfl)
theorem dX2_tells_107 : decode cX2_tells 107 = .ok (.iload 5, 2) := dk_21 5 (dk_at dksX2_tells_4 16 rfl rfl)
theorem dX2_tells_109 : decode cX2_tells 109 = .ok (.aaload, 1) := dk_50 (dk_at dksX2_tells_4 18 rfl rfl)
theorem dX2_tells_110 : decode cX2_tells 110 = .ok (.aload_n 0, 1) := dk_42 (dk_at dksX2_tells_4 19 rfl rfl)
theorem dX2_tells_111 : decode cX2_tells 111 = .ok (.getfield 3, 3) := dk_180 0 3 (dk_at dksX2_tells_4 20 rfl rfl)
theorem dX2_tells_114 : decode cX2_tells 114 = .ok (.getfield 73, 3) := dk_180 0 73 (dk_at dksX2_tells_5 0 rfl rfl)
theorem dX2_tells_117 : decode cX2_tells 117 = .ok (.invokevirtual 132, 3) := dk_182 0 132 (dk_at dksX2_tells_5 3 rfl rfl)
theorem dX2_tells_120 : decode cX2_tells 120 = .ok (.istore 4, 2) := dk_54 4 (dk_at dksX2_tells_5 6 rfl rfl)
theorem dX2_tells_122 : decode cX2_tells 122 = .ok (.goto 9, 3) := dk_167 0 9 (dk_at dksX2_tells_5 8 rfl rfl)
theorem dX2_tells_125 : decode cX2_tells 125 = .ok (.iinc 5 1, 3) := dk_132 5 1 (dk_at dksX2_tells_5 11 rfl rfl)
theorem dX2_tells_128 : decode cX2_tells 128 = .ok (.goto (-108), 3) := dk_167 255 148 (dk_at dksX2_tells_5 14 rfl rfl)
theorem dX2_tells_131 : decode cX2_tells 131 = .ok (.iload_n 3, 1) := dk_29 (dk_at dksX2_tells_5 17 rfl rfl)
theorem dX2_tells_132 : decode cX2_tells 132 = .ok (.ifCond .ne 14, 3) := dk_154 0 14 (dk_at dksX2_tells_5 18 rfl rfl)
theorem dX2_tells_135 : decode cX2_tells 135 = .ok (.iload 4, 2) := dk_21 4 (dk_at dksX2_tells_5 21 rfl rfl)
theorem dX2_tells_137 : decode cX2_tells 137 = .ok (.iconst 0, 1) := dk_3 (dk_at dksX2_tells_5 23 rfl rfl)
theorem dX2_tells_138 : decode cX2_tells 138 = .ok (.bipush 20, 2) := dk_16 20 (dk_at dksX2_tells_6 0 rfl rfl)
theorem dX2_tells_140 : decode cX2_tells 140 = .ok (.invokestatic 140, 3) := dk_184 0 140 (dk_at dksX2_tells_6 2 rfl rfl)
theorem dX2_tells_143 : decode cX2_tells 143 = .ok (.goto 31, 3) := dk_167 0 31 (dk_at dksX2_tells_6 5 rfl rfl)
theorem dX2_tells_146 : decode cX2_tells 146 = .ok (.iload_n 3, 1) := dk_29 (dk_at dksX2_tells_6 8 rfl rfl)
theorem dX2_tells_147 : decode cX2_tells 147 = .ok (.iconst 1, 1) := dk_4 (dk_at dksX2_tells_6 9 rfl rfl)
theorem dX2_tells_148 : decode cX2_tells 148 = .ok (.if_icmp .ne 15, 3) := dk_160 0 15 (dk_at dksX2_tells_6 10 rfl rfl)
theorem dX2_tells_151 : decode cX2_tells 151 = .ok (.iload 4, 2) := dk_21 4 (dk_at dksX2_tells_6 13 rfl rfl)
theorem dX2_tells_153 : decode cX2_tells 153 = .ok (.bipush (-20), 2) := dk_16 236 (dk_at dksX2_tells_6 15 rfl rfl)
theorem dX2_tells_155 : decode cX2_tells 155 = .ok (.bipush 20, 2) := dk_16 20 (dk_at dksX2_tells_6 17 rfl rfl)
theorem dX2_tells_157 : decode cX2_tells 157 = .ok (.invokestatic 140, 3) := dk_184 0 140 (dk_at dksX2_tells_6 19 rfl rfl)
theorem dX2_tells_160 : decode cX2_tells 160 = .ok (.goto 14, 3) := dk_167 0 14 (dk_at dksX2_tells_7 0 rfl rfl)
theorem dX2_tells_163 : decode cX2_tells 163 = .ok (.iload 4, 2) := dk_21 4 (dk_at dksX2_tells_7 3 rfl rfl)
theorem dX2_tells_165 : decode cX2_tells 165 = .ok (.sipush (-999), 3) := dk_17 252 25 (dk_at dksX2_tells_7 5 rfl rfl)
theorem dX2_tells_168 : decode cX2_tells 168 = .ok (.sipush 999, 3) := dk_17 3 231 (dk_at dksX2_tells_7 8 rfl rfl)
theorem dX2_tells_171 : decode cX2_tells 171 = .ok (.invokestatic 140, 3) := dk_184 0 140 (dk_at dksX2_tells_7 11 rfl rfl)
theorem dX2_tells_174 : decode cX2_tells 174 = .ok (.ireturn, 1) := dk_172 (dk_at dksX2_tells_7 14 rfl rfl)
abbrev cX2_rusts : ByteArray := prog_12_method_16_code
def yX2_rusts : MethodName := ⟨RX2, "rusts", "(I)V"⟩
def dkwX2_rusts_2 : List UInt8 := [162, 0, 13, 42, 180, 0, 15, 28, 92, 46, 4, 100, 79, 132, 2, 1, 167, 255, 198, 177]
abbrev dktX2_rusts_2 : List UInt8 := dkwX2_rusts_2 ++ []
def dkwX2_rusts_1 : List UInt8 := [180, 0, 15, 28, 46, 158, 0, 30, 42, 17, 3, 232, 182, 0, 175, 42, 180, 0, 3, 180, 0, 179]
abbrev dktX2_rusts_1 : List UInt8 := dkwX2_rusts_1 ++ dktX2_rusts_2
def dkwX2_rusts_0 : List UInt8 := [3, 61, 28, 42, 180, 0, 3, 180, 0, 172, 162, 0, 53, 27, 28, 184, 0, 91, 154, 0, 39, 42]
abbrev dktX2_rusts_0 : List UInt8 := dkwX2_rusts_0 ++ dktX2_rusts_1
theorem dksX2_rusts_0 : cX2_rusts.data.toList.drop 0 = dktX2_rusts_0 := by decide +kernel
theorem dksX2_rusts_1 : cX2_rusts.data.toList.drop 22 = dktX2_rusts_1 := dk_seg dksX2_rusts_0 22 rfl rfl
theorem dksX2_rusts_2 : cX2_rusts.data.toList.drop 44 = dktX2_rusts_2 := dk_seg dksX2_rusts_1 22 rfl rfl
theorem dX2_rusts_0 : decode cX2_rusts 0 = .ok (.iconst 0, 1) := dk_3 (dk_at dksX2_rusts_0 0 rfl rfl)
theorem dX2_rusts_1 : decode cX2_rusts 1 = .ok (.istore_n 2, 1) := dk_61 (dk_at dksX2_rusts_0 1 rfl rfl)
theorem dX2_rusts_2 : decode cX2_rusts 2 = .ok (.iload_n 2, 1) := dk_28 (dk_at dksX2_rusts_0 2 rfl rfl)
theorem dX2_rusts_3 : decode cX2_rusts 3 = .ok (.aload_n 0, 1) := dk_42 (dk_at dksX2_rusts_0 3 rfl rfl)
theorem dX2_rusts_4 : decode cX2_rusts 4 = .ok (.getfield 3, 3) := dk_180 0 3 (dk_at dksX2_rusts_0 4 rfl rfl)
theorem dX2_rusts_7 : decode cX2_rusts 7 = .ok (.getfield 172, 3) := dk_180 0 172 (dk_at dksX2_rusts_0 7 rfl rfl)
theorem dX2_rusts_10 : decode cX2_rusts 10 = .ok (.if_icmp .ge 53, 3) := dk_162 0 53 (dk_at dksX2_rusts_0 10 rfl rfl)
theorem dX2_rusts_13 : decode cX2_rusts 13 = .ok (.iload_n 1, 1) := dk_27 (dk_at dksX2_rusts_0 13 rfl rfl)
theorem dX2_rusts_14 : decode cX2_rusts 14 = .ok (.iload_n 2, 1) := dk_28 (dk_at dksX2_rusts_0 14 rfl rfl)
theorem dX2_rusts_15 : decode cX2_rusts 15 = .ok (.invokestatic 91, 3) := dk_184 0 91 (dk_at dksX2_rusts_0 15 rfl rfl)
theorem dX2_rusts_18 : decode cX2_rusts 18 = .ok (.ifCond .ne 39, 3) := dk_154 0 39 (dk_at dksX2_rusts_0 18 rfl rfl)
theorem dX2_rusts_21 : decode cX2_rusts 21 = .ok (.aload_n 0, 1) := dk_42 (dk_at dksX2_rusts_0 21 rfl rfl)
theorem dX2_rusts_22 : decode cX2_rusts 22 = .ok (.getfield 15, 3) := dk_180 0 15 (dk_at dksX2_rusts_1 0 rfl rfl)
theorem dX2_rusts_25 : decode cX2_rusts 25 = .ok (.iload_n 2, 1) := dk_28 (dk_at dksX2_rusts_1 3 rfl rfl)
theorem dX2_rusts_26 : decode cX2_rusts 26 = .ok (.iaload, 1) := dk_46 (dk_at dksX2_rusts_1 4 rfl rfl)
theorem dX2_rusts_27 : decode cX2_rusts 27 = .ok (.ifCond .le 30, 3) := dk_158 0 30 (dk_at dksX2_rusts_1 5 rfl rfl)
theorem dX2_rusts_30 : decode cX2_rusts 30 = .ok (.aload_n 0, 1) := dk_42 (dk_at dksX2_rusts_1 8 rfl rfl)
theorem dX2_rusts_31 : decode cX2_rusts 31 = .ok (.sipush 1000, 3) := dk_17 3 232 (dk_at dksX2_rusts_1 9 rfl rfl)
theorem dX2_rusts_34 : decode cX2_rusts 34 = .ok (.invokevirtual 175, 3) := dk_182 0 175 (dk_at dksX2_rusts_1 12 rfl rfl)
theorem dX2_rusts_37 : decode cX2_rusts 37 = .ok (.aload_n 0, 1) := dk_42 (dk_at dksX2_rusts_1 15 rfl rfl)
theorem dX2_rusts_38 : decode cX2_rusts 38 = .ok (.getfield 3, 3) := dk_180 0 3 (dk_at dksX2_rusts_1 16 rfl rfl)
theorem dX2_rusts_41 : decode cX2_rusts 41 = .ok (.getfield 179, 3) := dk_180 0 179 (dk_at dksX2_rusts_1 19 rfl rfl)
theorem dX2_rusts_44 : decode cX2_rusts 44 = .ok (.if_icmp .ge 13, 3) := dk_162 0 13 (dk_at dksX2_rusts_2 0 rfl rfl)
theorem dX2_rusts_47 : decode cX2_rusts 47 = .ok (.aload_n 0, 1) := dk_42 (dk_at dksX2_rusts_2 3 rfl rfl)
theorem dX2_rusts_48 : decode cX2_rusts 48 = .ok (.getfield 15, 3) := dk_180 0 15 (dk_at dksX2_rusts_2 4 rfl rfl)
theorem dX2_rusts_51 : decode cX2_rusts 51 = .ok (.iload_n 2, 1) := dk_28 (dk_at dksX2_rusts_2 7 rfl rfl)
theorem dX2_rusts_52 : decode cX2_rusts 52 = .ok (.dup2, 1) := dk_92 (dk_at dksX2_rusts_2 8 rfl rfl)
theorem dX2_rusts_53 : decode cX2_rusts 53 = .ok (.iaload, 1) := dk_46 (dk_at dksX2_rusts_2 9 rfl rfl)
theorem dX2_rusts_54 : decode cX2_rusts 54 = .ok (.iconst 1, 1) := dk_4 (dk_at dksX2_rusts_2 10 rfl rfl)
theorem dX2_rusts_55 : decode cX2_rusts 55 = .ok (.isub, 1) := dk_100 (dk_at dksX2_rusts_2 11 rfl rfl)
theorem dX2_rusts_56 : decode cX2_rusts 56 = .ok (.iastore, 1) := dk_79 (dk_at dksX2_rusts_2 12 rfl rfl)
theorem dX2_rusts_57 : decode cX2_rusts 57 = .ok (.iinc 2 1, 3) := dk_132 2 1 (dk_at dksX2_rusts_2 13 rfl rfl)
theorem dX2_rusts_60 : decode cX2_rusts 60 = .ok (.goto (-58), 3) := dk_167 255 198 (dk_at dksX2_rusts_2 16 rfl rfl)
theorem dX2_rusts_63 : decode cX2_rusts 63 = .ok (.return_, 1) := dk_177 (dk_at dksX2_rusts_2 19 rfl rfl)
abbrev cX2_draw : ByteArray := prog_12_method_4_code
def yX2_draw : MethodName := ⟨RX2, "draw", "(I)I"⟩
def dkwX2_draw_0 : List UInt8 := [42, 18, 71, 42, 180, 0, 45, 104, 18, 72, 96, 181, 0, 45, 42, 180, 0, 45, 16, 8, 124, 27, 112, 172]
abbrev dktX2_draw_0 : List UInt8 := dkwX2_draw_0 ++ []
theorem dksX2_draw_0 : cX2_draw.data.toList.drop 0 = dktX2_draw_0 := by decide +kernel
theorem dX2_draw_0 : decode cX2_draw 0 = .ok (.aload_n 0, 1) := dk_42 (dk_at dksX2_draw_0 0 rfl rfl)
theorem dX2_draw_1 : decode cX2_draw 1 = .ok (.ldc 71, 2) := dk_18 71 (dk_at dksX2_draw_0 1 rfl rfl)
theorem dX2_draw_3 : decode cX2_draw 3 = .ok (.aload_n 0, 1) := dk_42 (dk_at dksX2_draw_0 3 rfl rfl)
theorem dX2_draw_4 : decode cX2_draw 4 = .ok (.getfield 45, 3) := dk_180 0 45 (dk_at dksX2_draw_0 4 rfl rfl)
theorem dX2_draw_7 : decode cX2_draw 7 = .ok (.imul, 1) := dk_104 (dk_at dksX2_draw_0 7 rfl rfl)
theorem dX2_draw_8 : decode cX2_draw 8 = .ok (.ldc 72, 2) := dk_18 72 (dk_at dksX2_draw_0 8 rfl rfl)
theorem dX2_draw_10 : decode cX2_draw 10 = .ok (.iadd, 1) := dk_96 (dk_at dksX2_draw_0 10 rfl rfl)
theorem dX2_draw_11 : decode cX2_draw 11 = .ok (.putfield 45, 3) := dk_181 0 45 (dk_at dksX2_draw_0 11 rfl rfl)
theorem dX2_draw_14 : decode cX2_draw 14 = .ok (.aload_n 0, 1) := dk_42 (dk_at dksX2_draw_0 14 rfl rfl)
theorem dX2_draw_15 : decode cX2_draw 15 = .ok (.getfield 45, 3) := dk_180 0 45 (dk_at dksX2_draw_0 15 rfl rfl)
theorem dX2_draw_18 : decode cX2_draw 18 = .ok (.bipush 8, 2) := dk_16 8 (dk_at dksX2_draw_0 18 rfl rfl)
theorem dX2_draw_20 : decode cX2_draw 20 = .ok (.iushr, 1) := dk_124 (dk_at dksX2_draw_0 20 rfl rfl)
theorem dX2_draw_21 : decode cX2_draw 21 = .ok (.iload_n 1, 1) := dk_27 (dk_at dksX2_draw_0 21 rfl rfl)
theorem dX2_draw_22 : decode cX2_draw 22 = .ok (.irem, 1) := dk_112 (dk_at dksX2_draw_0 22 rfl rfl)
theorem dX2_draw_23 : decode cX2_draw 23 = .ok (.ireturn, 1) := dk_172 (dk_at dksX2_draw_0 23 rfl rfl)
abbrev cX2_thinks : ByteArray := prog_12_method_3_code
def yX2_thinks : MethodName := ⟨RX2, "thinks", "(LToolUnion$Yard;)LToolUnion$Yard;"⟩
def dkwX2_thinks_1 : List UInt8 := [181, 0, 65, 42, 2, 181, 0, 68, 42, 176]
abbrev dktX2_thinks_1 : List UInt8 := dkwX2_thinks_1 ++ []
def dkwX2_thinks_0 : List UInt8 := [42, 43, 182, 0, 51, 42, 4, 181, 0, 55, 42, 3, 181, 0, 59, 42, 3, 181, 0, 62, 42, 2]
abbrev dktX2_thinks_0 : List UInt8 := dkwX2_thinks_0 ++ dktX2_thinks_1
theorem dksX2_thinks_0 : cX2_thinks.data.toList.drop 0 = dktX2_thinks_0 := by decide +kernel
theorem dksX2_thinks_1 : cX2_thinks.data.toList.drop 22 = dktX2_thinks_1 := dk_seg dksX2_thinks_0 22 rfl rfl
theorem dX2_thinks_0 : decode cX2_thinks 0 = .ok (.aload_n 0, 1) := dk_42 (dk_at dksX2_thinks_0 0 rfl rfl)
theorem dX2_thinks_1 : decode cX2_thinks 1 = .ok (.aload_n 1, 1) := dk_43 (dk_at dksX2_thinks_0 1 rfl rfl)
theorem dX2_thinks_2 : decode cX2_thinks 2 = .ok (.invokevirtual 51, 3) := dk_182 0 51 (dk_at dksX2_thinks_0 2 rfl rfl)
theorem dX2_thinks_5 : decode cX2_thinks 5 = .ok (.aload_n 0, 1) := dk_42 (dk_at dksX2_thinks_0 5 rfl rfl)
theorem dX2_thinks_6 : decode cX2_thinks 6 = .ok (.iconst 1, 1) := dk_4 (dk_at dksX2_thinks_0 6 rfl rfl)
theorem dX2_thinks_7 : decode cX2_thinks 7 = .ok (.putfield 55, 3) := dk_181 0 55 (dk_at dksX2_thinks_0 7 rfl rfl)
theorem dX2_thinks_10 : decode cX2_thinks 10 = .ok (.aload_n 0, 1) := dk_42 (dk_at dksX2_thinks_0 10 rfl rfl)
theorem dX2_thinks_11 : decode cX2_thinks 11 = .ok (.iconst 0, 1) := dk_3 (dk_at dksX2_thinks_0 11 rfl rfl)
theorem dX2_thinks_12 : decode cX2_thinks 12 = .ok (.putfield 59, 3) := dk_181 0 59 (dk_at dksX2_thinks_0 12 rfl rfl)
theorem dX2_thinks_15 : decode cX2_thinks 15 = .ok (.aload_n 0, 1) := dk_42 (dk_at dksX2_thinks_0 15 rfl rfl)
theorem dX2_thinks_16 : decode cX2_thinks 16 = .ok (.iconst 0, 1) := dk_3 (dk_at dksX2_thinks_0 16 rfl rfl)
theorem dX2_thinks_17 : decode cX2_thinks 17 = .ok (.putfield 62, 3) := dk_181 0 62 (dk_at dksX2_thinks_0 17 rfl rfl)
theorem dX2_thinks_20 : decode cX2_thinks 20 = .ok (.aload_n 0, 1) := dk_42 (dk_at dksX2_thinks_0 20 rfl rfl)
theorem dX2_thinks_21 : decode cX2_thinks 21 = .ok (.iconst (-1), 1) := dk_2 (dk_at dksX2_thinks_0 21 rfl rfl)
theorem dX2_thinks_22 : decode cX2_thinks 22 = .ok (.putfield 65, 3) := dk_181 0 65 (dk_at dksX2_thinks_1 0 rfl rfl)
theorem dX2_thinks_25 : decode cX2_thinks 25 = .ok (.aload_n 0, 1) := dk_42 (dk_at dksX2_thinks_1 3 rfl rfl)
theorem dX2_thinks_26 : decode cX2_thinks 26 = .ok (.iconst (-1), 1) := dk_2 (dk_at dksX2_thinks_1 4 rfl rfl)
theorem dX2_thinks_27 : decode cX2_thinks 27 = .ok (.putfield 68, 3) := dk_181 0 68 (dk_at dksX2_thinks_1 5 rfl rfl)
theorem dX2_thinks_30 : decode cX2_thinks 30 = .ok (.aload_n 0, 1) := dk_42 (dk_at dksX2_thinks_1 8 rfl rfl)
theorem dX2_thinks_31 : decode cX2_thinks 31 = .ok (.areturn, 1) := dk_176 (dk_at dksX2_thinks_1 9 rfl rfl)
abbrev cX2_isReady : ByteArray := prog_12_method_14_code
def yX2_isReady : MethodName := ⟨RX2, "isReady", "()Z"⟩
def dkwX2_isReady_1 : List UInt8 := [172]
abbrev dktX2_isReady_1 : List UInt8 := dkwX2_isReady_1 ++ []
def dkwX2_isReady_0 : List UInt8 := [42, 182, 0, 169, 4, 42, 180, 0, 3, 180, 0, 153, 190, 120, 4, 100, 160, 0, 7, 4, 167, 0, 4, 3]
abbrev dktX2_isReady_0 : List UInt8 := dkwX2_isReady_0 ++ dktX2_isReady_1
theorem dksX2_isReady_0 : cX2_isReady.data.toList.drop 0 = dktX2_isReady_0 := by decide +kernel
theorem dksX2_isReady_1 : cX2_isReady.data.toList.drop 24 = dktX2_isReady_1 := dk_seg dksX2_isReady_0 24 rfl rfl
theorem dX2_isReady_0 : decode cX2_isReady 0 = .ok (.aload_n 0, 1) := dk_42 (dk_at dksX2_isReady_0 0 rfl rfl)
theorem dX2_isReady_1 : decode cX2_isReady 1 = .ok (.invokevirtual 169, 3) := dk_182 0 169 (dk_at dksX2_isReady_0 1 rfl rfl)
theorem dX2_isReady_4 : decode cX2_isReady 4 = .ok (.iconst 1, 1) := dk_4 (dk_at dksX2_isReady_0 4 rfl rfl)
theorem dX2_isReady_5 : decode cX2_isReady 5 = .ok (.aload_n 0, 1) := dk_42 (dk_at dksX2_isReady_0 5 rfl rfl)
theorem dX2_isReady_6 : decode cX2_isReady 6 = .ok (.getfield 3, 3) := dk_180 0 3 (dk_at dksX2_isReady_0 6 rfl rfl)
theorem dX2_isReady_9 : decode cX2_isReady 9 = .ok (.getfield 153, 3) := dk_180 0 153 (dk_at dksX2_isReady_0 9 rfl rfl)
theorem dX2_isReady_12 : decode cX2_isReady 12 = .ok (.arraylength, 1) := dk_190 (dk_at dksX2_isReady_0 12 rfl rfl)
theorem dX2_isReady_13 : decode cX2_isReady 13 = .ok (.ishl, 1) := dk_120 (dk_at dksX2_isReady_0 13 rfl rfl)
theorem dX2_isReady_14 : decode cX2_isReady 14 = .ok (.iconst 1, 1) := dk_4 (dk_at dksX2_isReady_0 14 rfl rfl)
theorem dX2_isReady_15 : decode cX2_isReady 15 = .ok (.isub, 1) := dk_100 (dk_at dksX2_isReady_0 15 rfl rfl)
theorem dX2_isReady_16 : decode cX2_isReady 16 = .ok (.if_icmp .ne 7, 3) := dk_160 0 7 (dk_at dksX2_isReady_0 16 rfl rfl)
theorem dX2_isReady_19 : decode cX2_isReady 19 = .ok (.iconst 1, 1) := dk_4 (dk_at dksX2_isReady_0 19 rfl rfl)
theorem dX2_isReady_20 : decode cX2_isReady 20 = .ok (.goto 4, 3) := dk_167 0 4 (dk_at dksX2_isReady_0 20 rfl rfl)
theorem dX2_isReady_23 : decode cX2_isReady 23 = .ok (.iconst 0, 1) := dk_3 (dk_at dksX2_isReady_0 23 rfl rfl)
theorem dX2_isReady_24 : decode cX2_isReady 24 = .ok (.ireturn, 1) := dk_172 (dk_at dksX2_isReady_1 0 rfl rfl)
theorem q156 : (Jvm.Cond.initialized "ToolUnion$Yard") ∈ lw_all := lw_g (lw_at lw_m1 3 rfl) rfl
theorem q227 : (Jvm.Cond.fieldLink "ToolUnion$Yard" (112 : Nat) "ToolUnion$Text" "word" "[I") ∈ lw_all := lw_g (lw_at lw_m1 74 rfl) rfl
theorem q230 : (Jvm.Cond.fieldLink "ToolUnion$Yard" (137 : Nat) "ToolUnion$Text" "worth" "[LToolUnion$Term;") ∈ lw_all := lw_g (lw_at lw_m1 77 rfl) rfl
theorem q233 : (Jvm.Cond.fieldLink "ToolUnion$Yard" (128 : Nat) "ToolUnion$Text" "when" "[LToolUnion$Term;") ∈ lw_all := lw_g (lw_at lw_m1 80 rfl) rfl
theorem q236 : (Jvm.Cond.fieldLink "ToolUnion$Yard" (125 : Nat) "ToolUnion$Text" "many" "I") ∈ lw_all := lw_g (lw_at lw_m1 83 rfl) rfl
theorem q254 : (Jvm.Cond.instantiable "ToolUnion$Yard" (16 : Nat)) ∈ lw_all := lw_g (lw_at lw_m1 101 rfl) rfl
theorem q256 : (Jvm.Cond.instanceMethod ({ cls := "ToolUnion$Yard", name := "<init>", desc := "(LToolUnion;)V" } : Jvm.MethodName)) ∈ lw_all := lw_g (lw_at lw_m1 103 rfl) rfl
theorem q257 : (Jvm.Cond.code ({ cls := "ToolUnion$Yard", name := "<init>", desc := "(LToolUnion;)V" } : Jvm.MethodName) prog_12_method_1_code (2 : Nat) (Option.none : Option Jvm.ClassFile.FieldType)) ∈ lw_all := lw_g (lw_at lw_m1 104 rfl) rfl
theorem q258 : (Jvm.Cond.methodLink "ToolUnion$Yard" (9 : Nat) ({ cls := "java/lang/Object", name := "<init>", desc := "()V" } : Jvm.MethodName)) ∈ lw_all := lw_g (lw_at lw_m1 105 rfl) rfl
theorem q259 : (Jvm.Cond.fieldLink "ToolUnion$Yard" (15 : Nat) "ToolUnion$Yard" "edge" "[I") ∈ lw_all := lw_g (lw_at lw_m1 106 rfl) rfl
theorem q261 : (Jvm.Cond.fieldLink "ToolUnion$Yard" (19 : Nat) "ToolUnion$Yard" "mood" "[I") ∈ lw_all := lw_g (lw_at lw_m1 108 rfl) rfl
theorem q263 : (Jvm.Cond.fieldLink "ToolUnion$Yard" (22 : Nat) "ToolUnion$Yard" "today" "[I") ∈ lw_all := lw_g (lw_at lw_m1 110 rfl) rfl
theorem q265 : (Jvm.Cond.fieldLink "ToolUnion$Yard" (25 : Nat) "ToolUnion$Yard" "served" "[I") ∈ lw_all := lw_g (lw_at lw_m1 112 rfl) rfl
theorem q267 : (Jvm.Cond.fieldLink "ToolUnion$Yard" (28 : Nat) "ToolUnion$Yard" "may" "[I") ∈ lw_all := lw_g (lw_at lw_m1 114 rfl) rfl
theorem q269 : (Jvm.Cond.fieldLink "ToolUnion$Yard" (31 : Nat) "ToolUnion$Yard" "done" "[I") ∈ lw_all := lw_g (lw_at lw_m1 116 rfl) rfl
theorem q271 : (Jvm.Cond.fieldLink "ToolUnion$Yard" (38 : Nat) "ToolUnion$Yard" "hour" "I") ∈ lw_all := lw_g (lw_at lw_m1 118 rfl) rfl
theorem q273 : (Jvm.Cond.fieldLink "ToolUnion$Yard" (42 : Nat) "ToolUnion$Yard" "strikes" "I") ∈ lw_all := lw_g (lw_at lw_m1 120 rfl) rfl
theorem q275 : (Jvm.Cond.fieldLink "ToolUnion$Yard" (45 : Nat) "ToolUnion$Yard" "state" "I") ∈ lw_all := lw_g (lw_at lw_m1 122 rfl) rfl
theorem q277 : (Jvm.Cond.fieldLink "ToolUnion$Yard" (48 : Nat) "ToolUnion$Yard" "bookMany" "I") ∈ lw_all := lw_g (lw_at lw_m1 124 rfl) rfl
theorem q279 : (Jvm.Cond.fieldLink "ToolUnion$Yard" (55 : Nat) "ToolUnion$Yard" "isThought" "Z") ∈ lw_all := lw_g (lw_at lw_m1 126 rfl) rfl
theorem q280 : (Jvm.Cond.fieldLink "ToolUnion$Yard" (59 : Nat) "ToolUnion$Yard" "refused" "I") ∈ lw_all := lw_g (lw_at lw_m1 127 rfl) rfl
theorem q282 : (Jvm.Cond.fieldLink "ToolUnion$Yard" (65 : Nat) "ToolUnion$Yard" "firstHour" "I") ∈ lw_all := lw_g (lw_at lw_m1 129 rfl) rfl
theorem q284 : (Jvm.Cond.fieldLink "ToolUnion$Yard" (68 : Nat) "ToolUnion$Yard" "firstLine" "I") ∈ lw_all := lw_g (lw_at lw_m1 131 rfl) rfl
theorem q286 : (Jvm.Cond.fieldLink "ToolUnion$Yard" (62 : Nat) "ToolUnion$Yard" "worked" "I") ∈ lw_all := lw_g (lw_at lw_m1 133 rfl) rfl
theorem q288 : (Jvm.Cond.fieldLink "ToolUnion$Yard" (3 : Nat) "ToolUnion$Yard" "this$0" "LToolUnion;") ∈ lw_all := lw_g (lw_at lw_m1 135 rfl) rfl
theorem q289 : (Jvm.Cond.laysFinal "ToolUnion$Yard" "ToolUnion$Yard" "edge" "[I") ∈ lw_all := lw_g (lw_at lw_m1 136 rfl) rfl
theorem q290 : (Jvm.Cond.soleField "ToolUnion$Yard" "edge") ∈ lw_all := lw_g (lw_at lw_m1 137 rfl) rfl
theorem q291 : (Jvm.Cond.laysFinal "ToolUnion$Yard" "ToolUnion$Yard" "mood" "[I") ∈ lw_all := lw_g (lw_at lw_m1 138 rfl) rfl
theorem q292 : (Jvm.Cond.soleField "ToolUnion$Yard" "mood") ∈ lw_all := lw_g (lw_at lw_m1 139 rfl) rfl
theorem q293 : (Jvm.Cond.laysFinal "ToolUnion$Yard" "ToolUnion$Yard" "today" "[I") ∈ lw_all := lw_g (lw_at lw_m1 140 rfl) rfl
theorem q294 : (Jvm.Cond.soleField "ToolUnion$Yard" "today") ∈ lw_all := lw_g (lw_at lw_m1 141 rfl) rfl
theorem q295 : (Jvm.Cond.laysFinal "ToolUnion$Yard" "ToolUnion$Yard" "served" "[I") ∈ lw_all := lw_g (lw_at lw_m1 142 rfl) rfl
theorem q296 : (Jvm.Cond.soleField "ToolUnion$Yard" "served") ∈ lw_all := lw_g (lw_at lw_m1 143 rfl) rfl
theorem q297 : (Jvm.Cond.laysFinal "ToolUnion$Yard" "ToolUnion$Yard" "may" "[I") ∈ lw_all := lw_g (lw_at lw_m1 144 rfl) rfl
theorem q298 : (Jvm.Cond.soleField "ToolUnion$Yard" "may") ∈ lw_all := lw_g (lw_at lw_m1 145 rfl) rfl
theorem q299 : (Jvm.Cond.laysFinal "ToolUnion$Yard" "ToolUnion$Yard" "done" "[I") ∈ lw_all := lw_g (lw_at lw_m1 146 rfl) rfl
theorem q300 : (Jvm.Cond.soleField "ToolUnion$Yard" "done") ∈ lw_all := lw_g (lw_at lw_m1 147 rfl) rfl
theorem q301 : (Jvm.Cond.lays "ToolUnion$Yard" "ToolUnion$Yard" "hour" "I") ∈ lw_all := lw_g (lw_at lw_m1 148 rfl) rfl
theorem q302 : (Jvm.Cond.soleField "ToolUnion$Yard" "hour") ∈ lw_all := lw_g (lw_at lw_m1 149 rfl) rfl
theorem q303 : (Jvm.Cond.lays "ToolUnion$Yard" "ToolUnion$Yard" "strikes" "I") ∈ lw_all := lw_g (lw_at lw_m1 150 rfl) rfl
theorem q304 : (Jvm.Cond.soleField "ToolUnion$Yard" "strikes") ∈ lw_all := lw_g (lw_at lw_m1 151 rfl) rfl
theorem q305 : (Jvm.Cond.lays "ToolUnion$Yard" "ToolUnion$Yard" "state" "I") ∈ lw_all := lw_g (lw_at lw_m1 152 rfl) rfl
theorem q306 : (Jvm.Cond.soleField "ToolUnion$Yard" "state") ∈ lw_all := lw_g (lw_at lw_m1 153 rfl) rfl
theorem q307 : (Jvm.Cond.lays "ToolUnion$Yard" "ToolUnion$Yard" "bookMany" "I") ∈ lw_all := lw_g (lw_at lw_m1 154 rfl) rfl
theorem q308 : (Jvm.Cond.soleField "ToolUnion$Yard" "bookMany") ∈ lw_all := lw_g (lw_at lw_m1 155 rfl) rfl
theorem q309 : (Jvm.Cond.lays "ToolUnion$Yard" "ToolUnion$Yard" "isThought" "Z") ∈ lw_all := lw_g (lw_at lw_m1 156 rfl) rfl
theorem q310 : (Jvm.Cond.soleField "ToolUnion$Yard" "isThought") ∈ lw_all := lw_g (lw_at lw_m1 157 rfl) rfl
theorem q311 : (Jvm.Cond.lays "ToolUnion$Yard" "ToolUnion$Yard" "refused" "I") ∈ lw_all := lw_g (lw_at lw_m1 158 rfl) rfl
theorem q312 : (Jvm.Cond.soleField "ToolUnion$Yard" "refused") ∈ lw_all := lw_g (lw_at lw_m1 159 rfl) rfl
theorem q313 : (Jvm.Cond.lays "ToolUnion$Yard" "ToolUnion$Yard" "firstHour" "I") ∈ lw_all := lw_g (lw_at lw_m1 160 rfl) rfl
theorem q314 : (Jvm.Cond.soleField "ToolUnion$Yard" "firstHour") ∈ lw_all := lw_g (lw_at lw_m1 161 rfl) rfl
theorem q315 : (Jvm.Cond.lays "ToolUnion$Yard" "ToolUnion$Yard" "firstLine" "I") ∈ lw_all := lw_g (lw_at lw_m1 162 rfl) rfl
theorem q316 : (Jvm.Cond.soleField "ToolUnion$Yard" "firstLine") ∈ lw_all := lw_g (lw_at lw_m1 163 rfl) rfl
theorem q317 : (Jvm.Cond.lays "ToolUnion$Yard" "ToolUnion$Yard" "worked" "I") ∈ lw_all := lw_g (lw_at lw_m1 164 rfl) rfl
theorem q318 : (Jvm.Cond.soleField "ToolUnion$Yard" "worked") ∈ lw_all := lw_g (lw_at lw_m1 165 rfl) rfl
theorem q319 : (Jvm.Cond.laysFinal "ToolUnion$Yard" "ToolUnion$Yard" "this$0" "LToolUnion;") ∈ lw_all := lw_g (lw_at lw_m1 166 rfl) rfl
theorem q320 : (Jvm.Cond.soleField "ToolUnion$Yard" "this$0") ∈ lw_all := lw_g (lw_at lw_m1 167 rfl) rfl
theorem q321 : (Jvm.Cond.superclass "ToolUnion$Yard" "java/lang/Object") ∈ lw_all := lw_g (lw_at lw_m1 168 rfl) rfl
theorem q346 : (Jvm.Cond.fieldLinkNest "ToolUnion$Yard" (102 : Nat) "ToolUnion" "serving" "LToolUnion$Text;" "ToolUnion") ∈ lw_tbl := lw_at lw_m1 193 rfl
theorem q348 : (Jvm.Cond.fieldLinkNest "ToolUnion$Yard" (122 : Nat) "ToolUnion" "edges" "LToolUnion$Text;" "ToolUnion") ∈ lw_tbl := lw_at lw_m1 195 rfl
theorem q350 : (Jvm.Cond.fieldLinkNest "ToolUnion$Yard" (153 : Nat) "ToolUnion" "hull" "[LToolUnion$Work;" "ToolUnion") ∈ lw_tbl := lw_at lw_m1 197 rfl
theorem q352 : (Jvm.Cond.fieldLinkNest "ToolUnion$Yard" (182 : Nat) "ToolUnion" "rota" "[LToolUnion$Turn;" "ToolUnion") ∈ lw_tbl := lw_at lw_m1 199 rfl
theorem q353 : (Jvm.Cond.fieldLinkNest "ToolUnion$Yard" (79 : Nat) "ToolUnion" "kindOf" "[I" "ToolUnion") ∈ lw_tbl := lw_at lw_m1 200 rfl
theorem q355 : (Jvm.Cond.fieldLinkNest "ToolUnion$Yard" (88 : Nat) "ToolUnion" "branchOf" "[I" "ToolUnion") ∈ lw_tbl := lw_at lw_m1 202 rfl
theorem q357 : (Jvm.Cond.fieldLinkNest "ToolUnion$Yard" (82 : Nat) "ToolUnion" "toolLeft" "[I" "ToolUnion") ∈ lw_tbl := lw_at lw_m1 204 rfl
theorem q361 : (Jvm.Cond.fieldLinkNest "ToolUnion$Yard" (95 : Nat) "ToolUnion" "off" "[I" "ToolUnion") ∈ lw_tbl := lw_at lw_m1 208 rfl
theorem q362 : (Jvm.Cond.fieldLinkNest "ToolUnion$Yard" (76 : Nat) "ToolUnion" "skill" "[I" "ToolUnion") ∈ lw_tbl := lw_at lw_m1 209 rfl
theorem q364 : (Jvm.Cond.fieldLinkNest "ToolUnion$Yard" (85 : Nat) "ToolUnion" "manLeft" "[I" "ToolUnion") ∈ lw_tbl := lw_at lw_m1 211 rfl
theorem q366 : (Jvm.Cond.fieldLinkNest "ToolUnion$Yard" (172 : Nat) "ToolUnion" "tools" "I" "ToolUnion") ∈ lw_tbl := lw_at lw_m1 213 rfl
theorem q369 : (Jvm.Cond.fieldLinkNest "ToolUnion$Yard" (179 : Nat) "ToolUnion" "rust" "I" "ToolUnion") ∈ lw_tbl := lw_at lw_m1 216 rfl
theorem q372 : (Jvm.Cond.fieldLinkNest "ToolUnion$Yard" (73 : Nat) "ToolUnion" "lawHas" "[I" "ToolUnion") ∈ lw_tbl := lw_at lw_m1 219 rfl
theorem q927 : (Jvm.Cond.instanceMethod ({ cls := "ToolUnion$Yard", name := "become", desc := "(LToolUnion$Yard;)V" } : Jvm.MethodName)) ∈ lw_all := lw_g (lw_at lw_m4 54 rfl) rfl
theorem q928 : (Jvm.Cond.selects "ToolUnion$Yard" ({ cls := "ToolUnion$Yard", name := "become", desc := "(LToolUnion$Yard;)V" } : Jvm.MethodName) ({ cls := "ToolUnion$Yard", name := "become", desc := "(LToolUnion$Yard;)V" } : Jvm.MethodName)) ∈ lw_all := lw_g (lw_at lw_m4 55 rfl) rfl
theorem q929 : (Jvm.Cond.code ({ cls := "ToolUnion$Yard", name := "become", desc := "(LToolUnion$Yard;)V" } : Jvm.MethodName) prog_12_method_2_code (2 : Nat) (Option.none : Option Jvm.ClassFile.FieldType)) ∈ lw_all := lw_g (lw_at lw_m4 56 rfl) rfl
theorem q930 : (Jvm.Cond.methodLinkNest "ToolUnion$Yard" (34 : Nat) ({ cls := "ToolUnion", name := "copies", desc := "([I[I)V" } : Jvm.MethodName) "ToolUnion") ∈ lw_tbl := lw_at lw_m4 57 rfl
theorem q998 : (Jvm.Cond.instanceMethod ({ cls := "ToolUnion$Yard", name := "goesBy", desc := "()I" } : Jvm.MethodName)) ∈ lw_all := lw_g (lw_at lw_m4 125 rfl) rfl
theorem q999 : (Jvm.Cond.selects "ToolUnion$Yard" ({ cls := "ToolUnion$Yard", name := "goesBy", desc := "()I" } : Jvm.MethodName) ({ cls := "ToolUnion$Yard", name := "goesBy", desc := "()I" } : Jvm.MethodName)) ∈ lw_all := lw_g (lw_at lw_m4 126 rfl) rfl
theorem q1000 : (Jvm.Cond.code ({ cls := "ToolUnion$Yard", name := "goesBy", desc := "()I" } : Jvm.MethodName) prog_12_method_17_code (7 : Nat) (Option.some Jvm.ClassFile.FieldType.int)) ∈ lw_all := lw_g (lw_at lw_m4 127 rfl) rfl
theorem q1001 : (Jvm.Cond.methodLink "ToolUnion$Yard" (186 : Nat) ({ cls := "ToolUnion$Turn", name := "isOn", desc := "(I)Z" } : Jvm.MethodName)) ∈ lw_all := lw_g (lw_at lw_m4 128 rfl) rfl
theorem q1005 : (Jvm.Cond.methodLink "ToolUnion$Yard" (191 : Nat) ({ cls := "ToolUnion$Turn", name := "tool", desc := "()I" } : Jvm.MethodName)) ∈ lw_all := lw_g (lw_at lw_m4 132 rfl) rfl
theorem q1009 : (Jvm.Cond.methodLinkNest "ToolUnion$Yard" (91 : Nat) ({ cls := "ToolUnion", name := "has", desc := "(II)Z" } : Jvm.MethodName) "ToolUnion") ∈ lw_tbl := lw_at lw_m4 136 rfl
theorem q1010 : (Jvm.Cond.methodLink "ToolUnion$Yard" (194 : Nat) ({ cls := "ToolUnion$Turn", name := "man", desc := "()I" } : Jvm.MethodName)) ∈ lw_all := lw_g (lw_at lw_m4 137 rfl) rfl
theorem q1014 : (Jvm.Cond.methodLink "ToolUnion$Yard" (197 : Nat) ({ cls := "ToolUnion$Turn", name := "work", desc := "()I" } : Jvm.MethodName)) ∈ lw_all := lw_g (lw_at lw_m4 141 rfl) rfl
theorem q1018 : (Jvm.Cond.methodLink "ToolUnion$Yard" (200 : Nat) ({ cls := "ToolUnion$Yard", name := "isOpen", desc := "(I)Z" } : Jvm.MethodName)) ∈ lw_all := lw_g (lw_at lw_m4 145 rfl) rfl
theorem q1019 : (Jvm.Cond.instanceMethod ({ cls := "ToolUnion$Yard", name := "isOpen", desc := "(I)Z" } : Jvm.MethodName)) ∈ lw_all := lw_g (lw_at lw_m4 146 rfl) rfl
theorem q1020 : (Jvm.Cond.selects "ToolUnion$Yard" ({ cls := "ToolUnion$Yard", name := "isOpen", desc := "(I)Z" } : Jvm.MethodName) ({ cls := "ToolUnion$Yard", name := "isOpen", desc := "(I)Z" } : Jvm.MethodName)) ∈ lw_all := lw_g (lw_at lw_m4 147 rfl) rfl
theorem q1021 : (Jvm.Cond.code ({ cls := "ToolUnion$Yard", name := "isOpen", desc := "(I)Z" } : Jvm.MethodName) prog_12_method_13_code (2 : Nat) (Option.some Jvm.ClassFile.FieldType.boolean)) ∈ lw_all := lw_g (lw_at lw_m4 148 rfl) rfl
theorem q1022 : (Jvm.Cond.methodLink "ToolUnion$Yard" (163 : Nat) ({ cls := "ToolUnion$Yard", name := "isDone", desc := "(I)Z" } : Jvm.MethodName)) ∈ lw_all := lw_g (lw_at lw_m4 149 rfl) rfl
theorem q1023 : (Jvm.Cond.instanceMethod ({ cls := "ToolUnion$Yard", name := "isDone", desc := "(I)Z" } : Jvm.MethodName)) ∈ lw_all := lw_g (lw_at lw_m4 150 rfl) rfl
theorem q1024 : (Jvm.Cond.selects "ToolUnion$Yard" ({ cls := "ToolUnion$Yard", name := "isDone", desc := "(I)Z" } : Jvm.MethodName) ({ cls := "ToolUnion$Yard", name := "isDone", desc := "(I)Z" } : Jvm.MethodName)) ∈ lw_all := lw_g (lw_at lw_m4 151 rfl) rfl
theorem q1025 : (Jvm.Cond.code ({ cls := "ToolUnion$Yard", name := "isDone", desc := "(I)Z" } : Jvm.MethodName) prog_12_method_11_code (2 : Nat) (Option.some Jvm.ClassFile.FieldType.boolean)) ∈ lw_all := lw_g (lw_at lw_m4 152 rfl) rfl
theorem q1026 : (Jvm.Cond.methodLink "ToolUnion$Yard" (157 : Nat) ({ cls := "ToolUnion$Work", name := "takes", desc := "()I" } : Jvm.MethodName)) ∈ lw_all := lw_g (lw_at lw_m4 153 rfl) rfl
theorem q1030 : (Jvm.Cond.methodLink "ToolUnion$Yard" (166 : Nat) ({ cls := "ToolUnion$Work", name := "after", desc := "()I" } : Jvm.MethodName)) ∈ lw_all := lw_g (lw_at lw_m4 157 rfl) rfl
theorem q1034 : (Jvm.Cond.methodLink "ToolUnion$Yard" (169 : Nat) ({ cls := "ToolUnion$Yard", name := "doneSet", desc := "()I" } : Jvm.MethodName)) ∈ lw_all := lw_g (lw_at lw_m4 161 rfl) rfl
theorem q1035 : (Jvm.Cond.instanceMethod ({ cls := "ToolUnion$Yard", name := "doneSet", desc := "()I" } : Jvm.MethodName)) ∈ lw_all := lw_g (lw_at lw_m4 162 rfl) rfl
theorem q1036 : (Jvm.Cond.selects "ToolUnion$Yard" ({ cls := "ToolUnion$Yard", name := "doneSet", desc := "()I" } : Jvm.MethodName) ({ cls := "ToolUnion$Yard", name := "doneSet", desc := "()I" } : Jvm.MethodName)) ∈ lw_all := lw_g (lw_at lw_m4 163 rfl) rfl
theorem q1037 : (Jvm.Cond.code ({ cls := "ToolUnion$Yard", name := "doneSet", desc := "()I" } : Jvm.MethodName) prog_12_method_12_code (3 : Nat) (Option.some Jvm.ClassFile.FieldType.int)) ∈ lw_all := lw_g (lw_at lw_m4 164 rfl) rfl
theorem q1038 : (Jvm.Cond.methodLink "ToolUnion$Yard" (203 : Nat) ({ cls := "ToolUnion$Work", name := "kind", desc := "()I" } : Jvm.MethodName)) ∈ lw_all := lw_g (lw_at lw_m4 165 rfl) rfl
theorem q1042 : (Jvm.Cond.methodLink "ToolUnion$Yard" (206 : Nat) ({ cls := "ToolUnion$Yard", name := "serves", desc := "(II)Z" } : Jvm.MethodName)) ∈ lw_all := lw_g (lw_at lw_m4 169 rfl) rfl
theorem q1043 : (Jvm.Cond.instanceMethod ({ cls := "ToolUnion$Yard", name := "serves", desc := "(II)Z" } : Jvm.MethodName)) ∈ lw_all := lw_g (lw_at lw_m4 170 rfl) rfl
theorem q1044 : (Jvm.Cond.selects "ToolUnion$Yard" ({ cls := "ToolUnion$Yard", name := "serves", desc := "(II)Z" } : Jvm.MethodName) ({ cls := "ToolUnion$Yard", name := "serves", desc := "(II)Z" } : Jvm.MethodName)) ∈ lw_all := lw_g (lw_at lw_m4 171 rfl) rfl
theorem q1045 : (Jvm.Cond.code ({ cls := "ToolUnion$Yard", name := "serves", desc := "(II)Z" } : Jvm.MethodName) prog_12_method_8_code (3 : Nat) (Option.some Jvm.ClassFile.FieldType.boolean)) ∈ lw_all := lw_g (lw_at lw_m4 172 rfl) rfl
theorem q1046 : (Jvm.Cond.methodLink "ToolUnion$Yard" (115 : Nat) ({ cls := "ToolUnion$Yard", name := "mayDo", desc := "(I)Z" } : Jvm.MethodName)) ∈ lw_all := lw_g (lw_at lw_m4 173 rfl) rfl
theorem q1047 : (Jvm.Cond.instanceMethod ({ cls := "ToolUnion$Yard", name := "mayDo", desc := "(I)Z" } : Jvm.MethodName)) ∈ lw_all := lw_g (lw_at lw_m4 174 rfl) rfl
theorem q1048 : (Jvm.Cond.selects "ToolUnion$Yard" ({ cls := "ToolUnion$Yard", name := "mayDo", desc := "(I)Z" } : Jvm.MethodName) ({ cls := "ToolUnion$Yard", name := "mayDo", desc := "(I)Z" } : Jvm.MethodName)) ∈ lw_all := lw_g (lw_at lw_m4 175 rfl) rfl
theorem q1049 : (Jvm.Cond.code ({ cls := "ToolUnion$Yard", name := "mayDo", desc := "(I)Z" } : Jvm.MethodName) prog_12_method_6_code (2 : Nat) (Option.some Jvm.ClassFile.FieldType.boolean)) ∈ lw_all := lw_g (lw_at lw_m4 176 rfl) rfl
theorem q1050 : (Jvm.Cond.methodLink "ToolUnion$Yard" (119 : Nat) ({ cls := "ToolUnion$Yard", name := "would", desc := "(II)Z" } : Jvm.MethodName)) ∈ lw_all := lw_g (lw_at lw_m4 177 rfl) rfl
theorem q1051 : (Jvm.Cond.instanceMethod ({ cls := "ToolUnion$Yard", name := "would", desc := "(II)Z" } : Jvm.MethodName)) ∈ lw_all := lw_g (lw_at lw_m4 178 rfl) rfl
theorem q1052 : (Jvm.Cond.selects "ToolUnion$Yard" ({ cls := "ToolUnion$Yard", name := "would", desc := "(II)Z" } : Jvm.MethodName) ({ cls := "ToolUnion$Yard", name := "would", desc := "(II)Z" } : Jvm.MethodName)) ∈ lw_all := lw_g (lw_at lw_m4 179 rfl) rfl
theorem q1053 : (Jvm.Cond.code ({ cls := "ToolUnion$Yard", name := "would", desc := "(II)Z" } : Jvm.MethodName) prog_12_method_7_code (4 : Nat) (Option.some Jvm.ClassFile.FieldType.boolean)) ∈ lw_all := lw_g (lw_at lw_m4 180 rfl) rfl
theorem q1054 : (Jvm.Cond.methodLink "ToolUnion$Yard" (98 : Nat) ({ cls := "ToolUnion$Yard", name := "asks", desc := "(II)V" } : Jvm.MethodName)) ∈ lw_all := lw_g (lw_at lw_m4 181 rfl) rfl
theorem q1055 : (Jvm.Cond.privateMethod ({ cls := "ToolUnion$Yard", name := "asks", desc := "(II)V" } : Jvm.MethodName)) ∈ lw_tbl := lw_at lw_m4 182 rfl
theorem q1056 : (Jvm.Cond.instanceMethod ({ cls := "ToolUnion$Yard", name := "asks", desc := "(II)V" } : Jvm.MethodName)) ∈ lw_all := lw_g (lw_at lw_m4 183 rfl) rfl
theorem q1057 : (Jvm.Cond.code ({ cls := "ToolUnion$Yard", name := "asks", desc := "(II)V" } : Jvm.MethodName) prog_12_method_5_code (3 : Nat) (Option.none : Option Jvm.ClassFile.FieldType)) ∈ lw_all := lw_g (lw_at lw_m4 184 rfl) rfl
theorem q1058 : (Jvm.Cond.methodLink "ToolUnion$Yard" (106 : Nat) ({ cls := "ToolUnion$Text", name := "first", desc := "([I)I" } : Jvm.MethodName)) ∈ lw_all := lw_g (lw_at lw_m4 185 rfl) rfl
theorem q1079 : (Jvm.Cond.methodLink "ToolUnion$Yard" (209 : Nat) ({ cls := "ToolUnion$Yard", name := "refuses", desc := "(I)V" } : Jvm.MethodName)) ∈ lw_all := lw_g (lw_at lw_m4 206 rfl) rfl
theorem q1080 : (Jvm.Cond.privateMethod ({ cls := "ToolUnion$Yard", name := "refuses", desc := "(I)V" } : Jvm.MethodName)) ∈ lw_tbl := lw_at lw_m4 207 rfl
theorem q1081 : (Jvm.Cond.instanceMethod ({ cls := "ToolUnion$Yard", name := "refuses", desc := "(I)V" } : Jvm.MethodName)) ∈ lw_all := lw_g (lw_at lw_m4 208 rfl) rfl
theorem q1082 : (Jvm.Cond.code ({ cls := "ToolUnion$Yard", name := "refuses", desc := "(I)V" } : Jvm.MethodName) prog_12_method_15_code (2 : Nat) (Option.none : Option Jvm.ClassFile.FieldType)) ∈ lw_all := lw_g (lw_at lw_m4 209 rfl) rfl
theorem q1083 : (Jvm.Cond.methodLink "ToolUnion$Yard" (213 : Nat) ({ cls := "ToolUnion$Yard", name := "wears", desc := "(II)V" } : Jvm.MethodName)) ∈ lw_all := lw_g (lw_at lw_m4 210 rfl) rfl
theorem q1084 : (Jvm.Cond.instanceMethod ({ cls := "ToolUnion$Yard", name := "wears", desc := "(II)V" } : Jvm.MethodName)) ∈ lw_all := lw_g (lw_at lw_m4 211 rfl) rfl
theorem q1085 : (Jvm.Cond.selects "ToolUnion$Yard" ({ cls := "ToolUnion$Yard", name := "wears", desc := "(II)V" } : Jvm.MethodName) ({ cls := "ToolUnion$Yard", name := "wears", desc := "(II)V" } : Jvm.MethodName)) ∈ lw_all := lw_g (lw_at lw_m4 212 rfl) rfl
theorem q1086 : (Jvm.Cond.code ({ cls := "ToolUnion$Yard", name := "wears", desc := "(II)V" } : Jvm.MethodName) prog_12_method_10_code (5 : Nat) (Option.none : Option Jvm.ClassFile.FieldType)) ∈ lw_all := lw_g (lw_at lw_m4 213 rfl) rfl
theorem q1087 : (Jvm.Cond.methodLink "ToolUnion$Yard" (144 : Nat) ({ cls := "ToolUnion$Yard", name := "tells", desc := "(III)I" } : Jvm.MethodName)) ∈ lw_all := lw_g (lw_at lw_m4 214 rfl) rfl
theorem q1088 : (Jvm.Cond.instanceMethod ({ cls := "ToolUnion$Yard", name := "tells", desc := "(III)I" } : Jvm.MethodName)) ∈ lw_all := lw_g (lw_at lw_m4 215 rfl) rfl
theorem q1089 : (Jvm.Cond.selects "ToolUnion$Yard" ({ cls := "ToolUnion$Yard", name := "tells", desc := "(III)I" } : Jvm.MethodName) ({ cls := "ToolUnion$Yard", name := "tells", desc := "(III)I" } : Jvm.MethodName)) ∈ lw_all := lw_g (lw_at lw_m4 216 rfl) rfl
theorem q1090 : (Jvm.Cond.code ({ cls := "ToolUnion$Yard", name := "tells", desc := "(III)I" } : Jvm.MethodName) prog_12_method_9_code (6 : Nat) (Option.some Jvm.ClassFile.FieldType.int)) ∈ lw_all := lw_g (lw_at lw_m4 217 rfl) rfl
theorem q1091 : (Jvm.Cond.methodLink "ToolUnion$Yard" (132 : Nat) ({ cls := "ToolUnion$Term", name := "of", desc := "([I)I" } : Jvm.MethodName)) ∈ lw_all := lw_g (lw_at lw_m4 218 rfl) rfl
theorem q1092 : (Jvm.Cond.methodLinkNest "ToolUnion$Yard" (140 : Nat) ({ cls := "ToolUnion", name := "held", desc := "(III)I" } : Jvm.MethodName) "ToolUnion") ∈ lw_tbl := lw_at lw_m4 219 rfl
theorem q1093 : (Jvm.Cond.methodLink "ToolUnion$Yard" (147 : Nat) ({ cls := "java/lang/Math", name := "max", desc := "(II)I" } : Jvm.MethodName)) ∈ lw_all := lw_g (lw_at lw_m4 220 rfl) rfl
theorem q1094 : (Jvm.Cond.methodLinkNest "ToolUnion$Yard" (216 : Nat) ({ cls := "ToolUnion", name := "notes", desc := "(LToolUnion$Turn;)V" } : Jvm.MethodName) "ToolUnion") ∈ lw_tbl := lw_at lw_m4 221 rfl
theorem q1101 : (Jvm.Cond.methodLink "ToolUnion$Yard" (220 : Nat) ({ cls := "ToolUnion$Yard", name := "rusts", desc := "(I)V" } : Jvm.MethodName)) ∈ lw_all := lw_g (lw_at lw_m4 228 rfl) rfl
theorem q1102 : (Jvm.Cond.privateMethod ({ cls := "ToolUnion$Yard", name := "rusts", desc := "(I)V" } : Jvm.MethodName)) ∈ lw_tbl := lw_at lw_m4 229 rfl
theorem q1103 : (Jvm.Cond.instanceMethod ({ cls := "ToolUnion$Yard", name := "rusts", desc := "(I)V" } : Jvm.MethodName)) ∈ lw_all := lw_g (lw_at lw_m4 230 rfl) rfl
theorem q1104 : (Jvm.Cond.code ({ cls := "ToolUnion$Yard", name := "rusts", desc := "(I)V" } : Jvm.MethodName) prog_12_method_16_code (3 : Nat) (Option.none : Option Jvm.ClassFile.FieldType)) ∈ lw_all := lw_g (lw_at lw_m4 231 rfl) rfl
theorem q1105 : (Jvm.Cond.methodLink "ToolUnion$Yard" (175 : Nat) ({ cls := "ToolUnion$Yard", name := "draw", desc := "(I)I" } : Jvm.MethodName)) ∈ lw_all := lw_g (lw_at lw_m4 232 rfl) rfl
theorem q1106 : (Jvm.Cond.privateMethod ({ cls := "ToolUnion$Yard", name := "draw", desc := "(I)I" } : Jvm.MethodName)) ∈ lw_tbl := lw_at lw_m4 233 rfl
theorem q1107 : (Jvm.Cond.instanceMethod ({ cls := "ToolUnion$Yard", name := "draw", desc := "(I)I" } : Jvm.MethodName)) ∈ lw_all := lw_g (lw_at lw_m4 234 rfl) rfl
theorem q1108 : (Jvm.Cond.code ({ cls := "ToolUnion$Yard", name := "draw", desc := "(I)I" } : Jvm.MethodName) prog_12_method_4_code (2 : Nat) (Option.some Jvm.ClassFile.FieldType.int)) ∈ lw_all := lw_g (lw_at lw_m4 235 rfl) rfl
theorem q1109 : (Jvm.Cond.constant "ToolUnion$Yard" (71 : Nat) (1664525 : Int32)) ∈ lw_all := lw_g (lw_at lw_m4 236 rfl) rfl
theorem q1110 : (Jvm.Cond.constant "ToolUnion$Yard" (72 : Nat) (1013904223 : Int32)) ∈ lw_all := lw_g (lw_at lw_m4 237 rfl) rfl
theorem q1111 : (Jvm.Cond.methodLink "ToolUnion$Yard" (223 : Nat) ({ cls := "java/util/Arrays", name := "fill", desc := "([II)V" } : Jvm.MethodName)) ∈ lw_all := lw_g (lw_at lw_m4 238 rfl) rfl
theorem q1275 : (Jvm.Cond.instanceMethod ({ cls := "ToolUnion$Yard", name := "thinks", desc := "(LToolUnion$Yard;)LToolUnion$Yard;" } : Jvm.MethodName)) ∈ lw_all := lw_g (lw_at lw_m5 162 rfl) rfl
theorem q1276 : (Jvm.Cond.selects "ToolUnion$Yard" ({ cls := "ToolUnion$Yard", name := "thinks", desc := "(LToolUnion$Yard;)LToolUnion$Yard;" } : Jvm.MethodName) ({ cls := "ToolUnion$Yard", name := "thinks", desc := "(LToolUnion$Yard;)LToolUnion$Yard;" } : Jvm.MethodName)) ∈ lw_all := lw_g (lw_at lw_m5 163 rfl) rfl
theorem q1277 : (Jvm.Cond.code ({ cls := "ToolUnion$Yard", name := "thinks", desc := "(LToolUnion$Yard;)LToolUnion$Yard;" } : Jvm.MethodName) prog_12_method_3_code (2 : Nat) (Option.some (Jvm.ClassFile.FieldType.object "ToolUnion$Yard"))) ∈ lw_all := lw_g (lw_at lw_m5 164 rfl) rfl
theorem q1278 : (Jvm.Cond.methodLink "ToolUnion$Yard" (51 : Nat) ({ cls := "ToolUnion$Yard", name := "become", desc := "(LToolUnion$Yard;)V" } : Jvm.MethodName)) ∈ lw_all := lw_g (lw_at lw_m5 165 rfl) rfl
theorem q1301 : (Jvm.Cond.instanceMethod ({ cls := "ToolUnion$Yard", name := "isReady", desc := "()Z" } : Jvm.MethodName)) ∈ lw_all := lw_g (lw_at lw_m5 188 rfl) rfl
theorem q1302 : (Jvm.Cond.selects "ToolUnion$Yard" ({ cls := "ToolUnion$Yard", name := "isReady", desc := "()Z" } : Jvm.MethodName) ({ cls := "ToolUnion$Yard", name := "isReady", desc := "()Z" } : Jvm.MethodName)) ∈ lw_all := lw_g (lw_at lw_m5 189 rfl) rfl
theorem q1303 : (Jvm.Cond.code ({ cls := "ToolUnion$Yard", name := "isReady", desc := "()Z" } : Jvm.MethodName) prog_12_method_14_code (1 : Nat) (Option.some Jvm.ClassFile.FieldType.boolean)) ∈ lw_all := lw_g (lw_at lw_m5 190 rfl) rfl
theorem in_X2 : ∀ w ∈ wsX20, w ∈ lw_all := lw_in wsX20 [289, 291, 293, 295, 297, 299, 301, 303, 305, 307, 309, 311, 313, 315, 317, 319] (by decide +kernel) (by decide +kernel)
/-! ToolUnion$Fault -/
set_option maxRecDepth 100000
def RX4 : String := "ToolUnion$Fault"
def TX4 : u_T := fun k => match k with
  | 0 => ("java/lang/Throwable", "cause", "Ljava/lang/Throwable;", false)
  | 1 => ("java/lang/Throwable", "stackTrace", "[Ljava/lang/StackTraceElement;", false)
  | 2 => ("java/lang/Throwable", "suppressedExceptions", "Ljava/util/List;", false)
  | 3 => ("java/lang/Throwable", "detailMessage", "Ljava/lang/String;", false)
  | 4 => ("java/lang/Throwable", "backtrace", "Ljava/lang/Object;", false)
  | 5 => ("java/lang/Throwable", "depth", "I", false)
  | 6 => ("ToolUnion$Fault", "kind", "I", true)
  | _ => ("ToolUnion$Fault", "place", "I", true)
def tyX4 : Nat → FieldType := fun k => match k with
  | 0 => .object "java/lang/Throwable"
  | 1 => .array (.object "java/lang/StackTraceElement")
  | 2 => .object "java/util/List"
  | 3 => .object "java/lang/String"
  | 4 => .object "java/lang/Object"
  | 5 => .int
  | 6 => .int
  | _ => .int
abbrev wsX40 : List Cond := u_ws RX4 TX4 8
theorem nmX4 : ∀ a, a < 8 → ∀ b, b < 8 → a ≠ b → (TX4 a).2.1 ≠ (TX4 b).2.1 := by decide +kernel
theorem tyX4_ok : ∀ k, k < 8 → parseFieldDescriptor (TX4 k).2.2.1 = some (tyX4 k) := by decide +kernel
abbrev cX4_init : ByteArray := prog_2_method_1_code
def yX4_init : MethodName := ⟨RX4, "<init>", "(II)V"⟩
def dkwX4_init_0 : List UInt8 := [42, 1, 1, 3, 3, 183, 0, 1, 42, 27, 181, 0, 7, 42, 28, 181, 0, 13, 177]
abbrev dktX4_init_0 : List UInt8 := dkwX4_init_0 ++ []
theorem dksX4_init_0 : cX4_init.data.toList.drop 0 = dktX4_init_0 := by decide +kernel
theorem dX4_init_0 : decode cX4_init 0 = .ok (.aload_n 0, 1) := dk_42 (dk_at dksX4_init_0 0 rfl rfl)
theorem dX4_init_1 : decode cX4_init 1 = .ok (.aconst_null, 1) := dk_1 (dk_at dksX4_init_0 1 rfl rfl)
theorem dX4_init_2 : decode cX4_init 2 = .ok (.aconst_null, 1) := dk_1 (dk_at dksX4_init_0 2 rfl rfl)
theorem dX4_init_3 : decode cX4_init 3 = .ok (.iconst 0, 1) := dk_3 (dk_at dksX4_init_0 3 rfl rfl)
theorem dX4_init_4 : decode cX4_init 4 = .ok (.iconst 0, 1) := dk_3 (dk_at dksX4_init_0 4 rfl rfl)
theorem dX4_init_5 : decode cX4_init 5 = .ok (.invokespecial 1, 3) := dk_183 0 1 (dk_at dksX4_init_0 5 rfl rfl)
theorem dX4_init_8 : decode cX4_init 8 = .ok (.aload_n 0, 1) := dk_42 (dk_at dksX4_init_0 8 rfl rfl)
theorem dX4_init_9 : decode cX4_init 9 = .ok (.iload_n 1, 1) := dk_27 (dk_at dksX4_init_0 9 rfl rfl)
theorem dX4_init_10 : decode cX4_init 10 = .ok (.putfield 7, 3) := dk_181 0 7 (dk_at dksX4_init_0 10 rfl rfl)
theorem dX4_init_13 : decode cX4_init 13 = .ok (.aload_n 0, 1) := dk_42 (dk_at dksX4_init_0 13 rfl rfl)
theorem dX4_init_14 : decode cX4_init 14 = .ok (.iload_n 2, 1) := dk_28 (dk_at dksX4_init_0 14 rfl rfl)
theorem dX4_init_15 : decode cX4_init 15 = .ok (.putfield 13, 3) := dk_181 0 13 (dk_at dksX4_init_0 15 rfl rfl)
theorem dX4_init_18 : decode cX4_init 18 = .ok (.return_, 1) := dk_177 (dk_at dksX4_init_0 18 rfl rfl)
theorem q170 : (Jvm.Cond.initialized "ToolUnion$Fault") ∈ lw_all := lw_g (lw_at lw_m1 17 rfl) rfl
theorem q700 : (Jvm.Cond.instantiable "ToolUnion$Fault" (8 : Nat)) ∈ lw_all := lw_g (lw_at lw_m3 67 rfl) rfl
theorem q701 : (Jvm.Cond.castable "ToolUnion$Fault" "ToolUnion$Fault") ∈ lw_tbl := lw_at lw_m3 68 rfl
theorem q706 : (Jvm.Cond.selects "ToolUnion$Fault" ({ cls := "java/lang/Throwable", name := "fillInStackTrace", desc := "(I)Ljava/lang/Throwable;" } : Jvm.MethodName) ({ cls := "java/lang/Throwable", name := "fillInStackTrace", desc := "(I)Ljava/lang/Throwable;" } : Jvm.MethodName)) ∈ lw_all := lw_g (lw_at lw_m3 73 rfl) rfl
theorem q707 : (Jvm.Cond.selects "ToolUnion$Fault" ({ cls := "java/lang/Throwable", name := "fillInStackTrace", desc := "()Ljava/lang/Throwable;" } : Jvm.MethodName) ({ cls := "java/lang/Throwable", name := "fillInStackTrace", desc := "()Ljava/lang/Throwable;" } : Jvm.MethodName)) ∈ lw_all := lw_g (lw_at lw_m3 74 rfl) rfl
theorem q708 : (Jvm.Cond.lays "ToolUnion$Fault" "java/lang/Throwable" "cause" "Ljava/lang/Throwable;") ∈ lw_all := lw_g (lw_at lw_m3 75 rfl) rfl
theorem q710 : (Jvm.Cond.lays "ToolUnion$Fault" "java/lang/Throwable" "stackTrace" "[Ljava/lang/StackTraceElement;") ∈ lw_all := lw_g (lw_at lw_m3 77 rfl) rfl
theorem q712 : (Jvm.Cond.lays "ToolUnion$Fault" "java/lang/Throwable" "suppressedExceptions" "Ljava/util/List;") ∈ lw_all := lw_g (lw_at lw_m3 79 rfl) rfl
theorem q714 : (Jvm.Cond.lays "ToolUnion$Fault" "java/lang/Throwable" "detailMessage" "Ljava/lang/String;") ∈ lw_all := lw_g (lw_at lw_m3 81 rfl) rfl
theorem q716 : (Jvm.Cond.lays "ToolUnion$Fault" "java/lang/Throwable" "backtrace" "Ljava/lang/Object;") ∈ lw_all := lw_g (lw_at lw_m3 83 rfl) rfl
theorem q737 : (Jvm.Cond.instanceMethod ({ cls := "ToolUnion$Fault", name := "<init>", desc := "(II)V" } : Jvm.MethodName)) ∈ lw_all := lw_g (lw_at lw_m3 104 rfl) rfl
theorem q738 : (Jvm.Cond.code ({ cls := "ToolUnion$Fault", name := "<init>", desc := "(II)V" } : Jvm.MethodName) prog_2_method_1_code (3 : Nat) (Option.none : Option Jvm.ClassFile.FieldType)) ∈ lw_all := lw_g (lw_at lw_m3 105 rfl) rfl
theorem q739 : (Jvm.Cond.methodLink "ToolUnion$Fault" (1 : Nat) ({ cls := "java/lang/Exception", name := "<init>", desc := "(Ljava/lang/String;Ljava/lang/Throwable;ZZ)V" } : Jvm.MethodName)) ∈ lw_all := lw_g (lw_at lw_m3 106 rfl) rfl
theorem q745 : (Jvm.Cond.fieldLink "ToolUnion$Fault" (7 : Nat) "ToolUnion$Fault" "kind" "I") ∈ lw_all := lw_g (lw_at lw_m3 112 rfl) rfl
theorem q747 : (Jvm.Cond.fieldLink "ToolUnion$Fault" (13 : Nat) "ToolUnion$Fault" "place" "I") ∈ lw_all := lw_g (lw_at lw_m3 114 rfl) rfl
theorem q754 : (Jvm.Cond.laysFinal "ToolUnion$Fault" "ToolUnion$Fault" "kind" "I") ∈ lw_all := lw_g (lw_at lw_m3 121 rfl) rfl
theorem q755 : (Jvm.Cond.soleField "ToolUnion$Fault" "kind") ∈ lw_all := lw_g (lw_at lw_m3 122 rfl) rfl
theorem q756 : (Jvm.Cond.laysFinal "ToolUnion$Fault" "ToolUnion$Fault" "place" "I") ∈ lw_all := lw_g (lw_at lw_m3 123 rfl) rfl
theorem q757 : (Jvm.Cond.soleField "ToolUnion$Fault" "place") ∈ lw_all := lw_g (lw_at lw_m3 124 rfl) rfl
theorem q762 : (Jvm.Cond.lays "ToolUnion$Fault" "java/lang/Throwable" "depth" "I") ∈ lw_all := lw_g (lw_at lw_m3 129 rfl) rfl
theorem q765 : (Jvm.Cond.superclass "ToolUnion$Fault" "java/lang/Exception") ∈ lw_all := lw_g (lw_at lw_m3 132 rfl) rfl
theorem in_X4 : ∀ w ∈ wsX40, w ∈ lw_all := lw_in wsX40 [708, 710, 712, 714, 716, 762, 754, 756] (by decide +kernel) (by decide +kernel)
/-! ToolUnion$Work -/
set_option maxRecDepth 100000
def RX5 : String := "ToolUnion$Work"
def TX5 : u_T := fun k => match k with
  | 0 => ("ToolUnion$Work", "kind", "I", true)
  | 1 => ("ToolUnion$Work", "takes", "I", true)
  | _ => ("ToolUnion$Work", "after", "I", true)
def tyX5 : Nat → FieldType := fun k => match k with
  | 0 => .int
  | 1 => .int
  | _ => .int
abbrev wsX50 : List Cond := u_ws RX5 TX5 3
theorem nmX5 : ∀ a, a < 3 → ∀ b, b < 3 → a ≠ b → (TX5 a).2.1 ≠ (TX5 b).2.1 := by decide +kernel
theorem tyX5_ok : ∀ k, k < 3 → parseFieldDescriptor (TX5 k).2.2.1 = some (tyX5 k) := by decide +kernel
abbrev cX5_init : ByteArray := prog_11_method_1_code
def yX5_init : MethodName := ⟨RX5, "<init>", "(III)V"⟩
def dkwX5_init_0 : List UInt8 := [42, 183, 0, 1, 42, 27, 181, 0, 7, 42, 28, 181, 0, 13, 42, 29, 181, 0, 16, 177]
abbrev dktX5_init_0 : List UInt8 := dkwX5_init_0 ++ []
theorem dksX5_init_0 : cX5_init.data.toList.drop 0 = dktX5_init_0 := by decide +kernel
theorem dX5_init_0 : decode cX5_init 0 = .ok (.aload_n 0, 1) := dk_42 (dk_at dksX5_init_0 0 rfl rfl)
theorem dX5_init_1 : decode cX5_init 1 = .ok (.invokespecial 1, 3) := dk_183 0 1 (dk_at dksX5_init_0 1 rfl rfl)
theorem dX5_init_4 : decode cX5_init 4 = .ok (.aload_n 0, 1) := dk_42 (dk_at dksX5_init_0 4 rfl rfl)
theorem dX5_init_5 : decode cX5_init 5 = .ok (.iload_n 1, 1) := dk_27 (dk_at dksX5_init_0 5 rfl rfl)
theorem dX5_init_6 : decode cX5_init 6 = .ok (.putfield 7, 3) := dk_181 0 7 (dk_at dksX5_init_0 6 rfl rfl)
theorem dX5_init_9 : decode cX5_init 9 = .ok (.aload_n 0, 1) := dk_42 (dk_at dksX5_init_0 9 rfl rfl)
theorem dX5_init_10 : decode cX5_init 10 = .ok (.iload_n 2, 1) := dk_28 (dk_at dksX5_init_0 10 rfl rfl)
theorem dX5_init_11 : decode cX5_init 11 = .ok (.putfield 13, 3) := dk_181 0 13 (dk_at dksX5_init_0 11 rfl rfl)
theorem dX5_init_14 : decode cX5_init 14 = .ok (.aload_n 0, 1) := dk_42 (dk_at dksX5_init_0 14 rfl rfl)
theorem dX5_init_15 : decode cX5_init 15 = .ok (.iload_n 3, 1) := dk_29 (dk_at dksX5_init_0 15 rfl rfl)
theorem dX5_init_16 : decode cX5_init 16 = .ok (.putfield 16, 3) := dk_181 0 16 (dk_at dksX5_init_0 16 rfl rfl)
theorem dX5_init_19 : decode cX5_init 19 = .ok (.return_, 1) := dk_177 (dk_at dksX5_init_0 19 rfl rfl)
abbrev cX5_takes : ByteArray := prog_11_method_6_code
def yX5_takes : MethodName := ⟨RX5, "takes", "()I"⟩
theorem dX5_takes_0 : decode cX5_takes 0 = .ok (.aload_n 0, 1) := by decide +kernel
theorem dX5_takes_1 : decode cX5_takes 1 = .ok (.getfield 13, 3) := by decide +kernel
theorem dX5_takes_4 : decode cX5_takes 4 = .ok (.ireturn, 1) := by decide +kernel
abbrev cX5_after : ByteArray := prog_11_method_7_code
def yX5_after : MethodName := ⟨RX5, "after", "()I"⟩
theorem dX5_after_0 : decode cX5_after 0 = .ok (.aload_n 0, 1) := by decide +kernel
theorem dX5_after_1 : decode cX5_after 1 = .ok (.getfield 16, 3) := by decide +kernel
theorem dX5_after_4 : decode cX5_after 4 = .ok (.ireturn, 1) := by decide +kernel
abbrev cX5_kind : ByteArray := prog_11_method_5_code
def yX5_kind : MethodName := ⟨RX5, "kind", "()I"⟩
theorem dX5_kind_0 : decode cX5_kind 0 = .ok (.aload_n 0, 1) := by decide +kernel
theorem dX5_kind_1 : decode cX5_kind 1 = .ok (.getfield 7, 3) := by decide +kernel
theorem dX5_kind_4 : decode cX5_kind 4 = .ok (.ireturn, 1) := by decide +kernel
theorem q172 : (Jvm.Cond.initialized "ToolUnion$Work") ∈ lw_all := lw_g (lw_at lw_m1 19 rfl) rfl
theorem q778 : (Jvm.Cond.instantiable "ToolUnion$Work" (3 : Nat)) ∈ lw_all := lw_g (lw_at lw_m3 145 rfl) rfl
theorem q780 : (Jvm.Cond.instanceMethod ({ cls := "ToolUnion$Work", name := "<init>", desc := "(III)V" } : Jvm.MethodName)) ∈ lw_all := lw_g (lw_at lw_m3 147 rfl) rfl
theorem q781 : (Jvm.Cond.code ({ cls := "ToolUnion$Work", name := "<init>", desc := "(III)V" } : Jvm.MethodName) prog_11_method_1_code (4 : Nat) (Option.none : Option Jvm.ClassFile.FieldType)) ∈ lw_all := lw_g (lw_at lw_m3 148 rfl) rfl
theorem q782 : (Jvm.Cond.methodLink "ToolUnion$Work" (1 : Nat) ({ cls := "java/lang/Record", name := "<init>", desc := "()V" } : Jvm.MethodName)) ∈ lw_all := lw_g (lw_at lw_m3 149 rfl) rfl
theorem q786 : (Jvm.Cond.fieldLink "ToolUnion$Work" (7 : Nat) "ToolUnion$Work" "kind" "I") ∈ lw_all := lw_g (lw_at lw_m3 153 rfl) rfl
theorem q787 : (Jvm.Cond.fieldLink "ToolUnion$Work" (13 : Nat) "ToolUnion$Work" "takes" "I") ∈ lw_all := lw_g (lw_at lw_m3 154 rfl) rfl
theorem q788 : (Jvm.Cond.fieldLink "ToolUnion$Work" (16 : Nat) "ToolUnion$Work" "after" "I") ∈ lw_all := lw_g (lw_at lw_m3 155 rfl) rfl
theorem q789 : (Jvm.Cond.laysFinal "ToolUnion$Work" "ToolUnion$Work" "kind" "I") ∈ lw_all := lw_g (lw_at lw_m3 156 rfl) rfl
theorem q790 : (Jvm.Cond.soleField "ToolUnion$Work" "kind") ∈ lw_all := lw_g (lw_at lw_m3 157 rfl) rfl
theorem q791 : (Jvm.Cond.laysFinal "ToolUnion$Work" "ToolUnion$Work" "takes" "I") ∈ lw_all := lw_g (lw_at lw_m3 158 rfl) rfl
theorem q792 : (Jvm.Cond.soleField "ToolUnion$Work" "takes") ∈ lw_all := lw_g (lw_at lw_m3 159 rfl) rfl
theorem q793 : (Jvm.Cond.laysFinal "ToolUnion$Work" "ToolUnion$Work" "after" "I") ∈ lw_all := lw_g (lw_at lw_m3 160 rfl) rfl
theorem q794 : (Jvm.Cond.soleField "ToolUnion$Work" "after") ∈ lw_all := lw_g (lw_at lw_m3 161 rfl) rfl
theorem q795 : (Jvm.Cond.superclass "ToolUnion$Work" "java/lang/Record") ∈ lw_all := lw_g (lw_at lw_m3 162 rfl) rfl
theorem q1027 : (Jvm.Cond.instanceMethod ({ cls := "ToolUnion$Work", name := "takes", desc := "()I" } : Jvm.MethodName)) ∈ lw_all := lw_g (lw_at lw_m4 154 rfl) rfl
theorem q1028 : (Jvm.Cond.selects "ToolUnion$Work" ({ cls := "ToolUnion$Work", name := "takes", desc := "()I" } : Jvm.MethodName) ({ cls := "ToolUnion$Work", name := "takes", desc := "()I" } : Jvm.MethodName)) ∈ lw_all := lw_g (lw_at lw_m4 155 rfl) rfl
theorem q1029 : (Jvm.Cond.code ({ cls := "ToolUnion$Work", name := "takes", desc := "()I" } : Jvm.MethodName) prog_11_method_6_code (1 : Nat) (Option.some Jvm.ClassFile.FieldType.int)) ∈ lw_all := lw_g (lw_at lw_m4 156 rfl) rfl
theorem q1031 : (Jvm.Cond.instanceMethod ({ cls := "ToolUnion$Work", name := "after", desc := "()I" } : Jvm.MethodName)) ∈ lw_all := lw_g (lw_at lw_m4 158 rfl) rfl
theorem q1032 : (Jvm.Cond.selects "ToolUnion$Work" ({ cls := "ToolUnion$Work", name := "after", desc := "()I" } : Jvm.MethodName) ({ cls := "ToolUnion$Work", name := "after", desc := "()I" } : Jvm.MethodName)) ∈ lw_all := lw_g (lw_at lw_m4 159 rfl) rfl
theorem q1033 : (Jvm.Cond.code ({ cls := "ToolUnion$Work", name := "after", desc := "()I" } : Jvm.MethodName) prog_11_method_7_code (1 : Nat) (Option.some Jvm.ClassFile.FieldType.int)) ∈ lw_all := lw_g (lw_at lw_m4 160 rfl) rfl
theorem q1039 : (Jvm.Cond.instanceMethod ({ cls := "ToolUnion$Work", name := "kind", desc := "()I" } : Jvm.MethodName)) ∈ lw_all := lw_g (lw_at lw_m4 166 rfl) rfl
theorem q1040 : (Jvm.Cond.selects "ToolUnion$Work" ({ cls := "ToolUnion$Work", name := "kind", desc := "()I" } : Jvm.MethodName) ({ cls := "ToolUnion$Work", name := "kind", desc := "()I" } : Jvm.MethodName)) ∈ lw_all := lw_g (lw_at lw_m4 167 rfl) rfl
theorem q1041 : (Jvm.Cond.code ({ cls := "ToolUnion$Work", name := "kind", desc := "()I" } : Jvm.MethodName) prog_11_method_5_code (1 : Nat) (Option.some Jvm.ClassFile.FieldType.int)) ∈ lw_all := lw_g (lw_at lw_m4 168 rfl) rfl
theorem in_X5 : ∀ w ∈ wsX50, w ∈ lw_all := lw_in wsX50 [789, 791, 793] (by decide +kernel) (by decide +kernel)
/-! ToolUnion$Turn -/
set_option maxRecDepth 100000
def RX6 : String := "ToolUnion$Turn"
def TX6 : u_T := fun k => match k with
  | 0 => ("ToolUnion$Turn", "tool", "I", true)
  | 1 => ("ToolUnion$Turn", "man", "I", true)
  | 2 => ("ToolUnion$Turn", "work", "I", true)
  | 3 => ("ToolUnion$Turn", "first", "I", true)
  | _ => ("ToolUnion$Turn", "hours", "I", true)
def tyX6 : Nat → FieldType := fun k => match k with
  | 0 => .int
  | 1 => .int
  | 2 => .int
  | 3 => .int
  | _ => .int
abbrev wsX60 : List Cond := u_ws RX6 TX6 5
theorem nmX6 : ∀ a, a < 5 → ∀ b, b < 5 → a ≠ b → (TX6 a).2.1 ≠ (TX6 b).2.1 := by decide +kernel
theorem tyX6_ok : ∀ k, k < 5 → parseFieldDescriptor (TX6 k).2.2.1 = some (tyX6 k) := by decide +kernel
abbrev cX6_init : ByteArray := prog_8_method_1_code
def yX6_init : MethodName := ⟨RX6, "<init>", "(IIIII)V"⟩
def dkwX6_init_1 : List UInt8 := [181, 0, 19, 42, 21, 5, 181, 0, 22, 177]
abbrev dktX6_init_1 : List UInt8 := dkwX6_init_1 ++ []
def dkwX6_init_0 : List UInt8 := [42, 183, 0, 1, 42, 27, 181, 0, 7, 42, 28, 181, 0, 13, 42, 29, 181, 0, 16, 42, 21, 4]
abbrev dktX6_init_0 : List UInt8 := dkwX6_init_0 ++ dktX6_init_1
theorem dksX6_init_0 : cX6_init.data.toList.drop 0 = dktX6_init_0 := by decide +kernel
theorem dksX6_init_1 : cX6_init.data.toList.drop 22 = dktX6_init_1 := dk_seg dksX6_init_0 22 rfl rfl
theorem dX6_init_0 : decode cX6_init 0 = .ok (.aload_n 0, 1) := dk_42 (dk_at dksX6_init_0 0 rfl rfl)
theorem dX6_init_1 : decode cX6_init 1 = .ok (.invokespecial 1, 3) := dk_183 0 1 (dk_at dksX6_init_0 1 rfl rfl)
theorem dX6_init_4 : decode cX6_init 4 = .ok (.aload_n 0, 1) := dk_42 (dk_at dksX6_init_0 4 rfl rfl)
theorem dX6_init_5 : decode cX6_init 5 = .ok (.iload_n 1, 1) := dk_27 (dk_at dksX6_init_0 5 rfl rfl)
theorem dX6_init_6 : decode cX6_init 6 = .ok (.putfield 7, 3) := dk_181 0 7 (dk_at dksX6_init_0 6 rfl rfl)
theorem dX6_init_9 : decode cX6_init 9 = .ok (.aload_n 0, 1) := dk_42 (dk_at dksX6_init_0 9 rfl rfl)
theorem dX6_init_10 : decode cX6_init 10 = .ok (.iload_n 2, 1) := dk_28 (dk_at dksX6_init_0 10 rfl rfl)
theorem dX6_init_11 : decode cX6_init 11 = .ok (.putfield 13, 3) := dk_181 0 13 (dk_at dksX6_init_0 11 rfl rfl)
theorem dX6_init_14 : decode cX6_init 14 = .ok (.aload_n 0, 1) := dk_42 (dk_at dksX6_init_0 14 rfl rfl)
theorem dX6_init_15 : decode cX6_init 15 = .ok (.iload_n 3, 1) := dk_29 (dk_at dksX6_init_0 15 rfl rfl)
theorem dX6_init_16 : decode cX6_init 16 = .ok (.putfield 16, 3) := dk_181 0 16 (dk_at dksX6_init_0 16 rfl rfl)
theorem dX6_init_19 : decode cX6_init 19 = .ok (.aload_n 0, 1) := dk_42 (dk_at dksX6_init_0 19 rfl rfl)
theorem dX6_init_20 : decode cX6_init 20 = .ok (.iload 4, 2) := dk_21 4 (dk_at dksX6_init_0 20 rfl rfl)
theorem dX6_init_22 : decode cX6_init 22 = .ok (.putfield 19, 3) := dk_181 0 19 (dk_at dksX6_init_1 0 rfl rfl)
theorem dX6_init_25 : decode cX6_init 25 = .ok (.aload_n 0, 1) := dk_42 (dk_at dksX6_init_1 3 rfl rfl)
theorem dX6_init_26 : decode cX6_init 26 = .ok (.iload 5, 2) := dk_21 5 (dk_at dksX6_init_1 4 rfl rfl)
theorem dX6_init_28 : decode cX6_init 28 = .ok (.putfield 22, 3) := dk_181 0 22 (dk_at dksX6_init_1 6 rfl rfl)
theorem dX6_init_31 : decode cX6_init 31 = .ok (.return_, 1) := dk_177 (dk_at dksX6_init_1 9 rfl rfl)
abbrev cX6_isOn : ByteArray := prog_8_method_2_code
def yX6_isOn : MethodName := ⟨RX6, "isOn", "(I)Z"⟩
def dkwX6_isOn_1 : List UInt8 := [167, 0, 4, 3, 172]
abbrev dktX6_isOn_1 : List UInt8 := dkwX6_isOn_1 ++ []
def dkwX6_isOn_0 : List UInt8 := [27, 42, 180, 0, 19, 161, 0, 20, 27, 42, 180, 0, 19, 42, 180, 0, 22, 96, 162, 0, 7, 4]
abbrev dktX6_isOn_0 : List UInt8 := dkwX6_isOn_0 ++ dktX6_isOn_1
theorem dksX6_isOn_0 : cX6_isOn.data.toList.drop 0 = dktX6_isOn_0 := by decide +kernel
theorem dksX6_isOn_1 : cX6_isOn.data.toList.drop 22 = dktX6_isOn_1 := dk_seg dksX6_isOn_0 22 rfl rfl
theorem dX6_isOn_0 : decode cX6_isOn 0 = .ok (.iload_n 1, 1) := dk_27 (dk_at dksX6_isOn_0 0 rfl rfl)
theorem dX6_isOn_1 : decode cX6_isOn 1 = .ok (.aload_n 0, 1) := dk_42 (dk_at dksX6_isOn_0 1 rfl rfl)
theorem dX6_isOn_2 : decode cX6_isOn 2 = .ok (.getfield 19, 3) := dk_180 0 19 (dk_at dksX6_isOn_0 2 rfl rfl)
theorem dX6_isOn_5 : decode cX6_isOn 5 = .ok (.if_icmp .lt 20, 3) := dk_161 0 20 (dk_at dksX6_isOn_0 5 rfl rfl)
theorem dX6_isOn_8 : decode cX6_isOn 8 = .ok (.iload_n 1, 1) := dk_27 (dk_at dksX6_isOn_0 8 rfl rfl)
theorem dX6_isOn_9 : decode cX6_isOn 9 = .ok (.aload_n 0, 1) := dk_42 (dk_at dksX6_isOn_0 9 rfl rfl)
theorem dX6_isOn_10 : decode cX6_isOn 10 = .ok (.getfield 19, 3) := dk_180 0 19 (dk_at dksX6_isOn_0 10 rfl rfl)
theorem dX6_isOn_13 : decode cX6_isOn 13 = .ok (.aload_n 0, 1) := dk_42 (dk_at dksX6_isOn_0 13 rfl rfl)
theorem dX6_isOn_14 : decode cX6_isOn 14 = .ok (.getfield 22, 3) := dk_180 0 22 (dk_at dksX6_isOn_0 14 rfl rfl)
theorem dX6_isOn_17 : decode cX6_isOn 17 = .ok (.iadd, 1) := dk_96 (dk_at dksX6_isOn_0 17 rfl rfl)
theorem dX6_isOn_18 : decode cX6_isOn 18 = .ok (.if_icmp .ge 7, 3) := dk_162 0 7 (dk_at dksX6_isOn_0 18 rfl rfl)
theorem dX6_isOn_21 : decode cX6_isOn 21 = .ok (.iconst 1, 1) := dk_4 (dk_at dksX6_isOn_0 21 rfl rfl)
theorem dX6_isOn_22 : decode cX6_isOn 22 = .ok (.goto 4, 3) := dk_167 0 4 (dk_at dksX6_isOn_1 0 rfl rfl)
theorem dX6_isOn_25 : decode cX6_isOn 25 = .ok (.iconst 0, 1) := dk_3 (dk_at dksX6_isOn_1 3 rfl rfl)
theorem dX6_isOn_26 : decode cX6_isOn 26 = .ok (.ireturn, 1) := dk_172 (dk_at dksX6_isOn_1 4 rfl rfl)
abbrev cX6_tool : ByteArray := prog_8_method_6_code
def yX6_tool : MethodName := ⟨RX6, "tool", "()I"⟩
theorem dX6_tool_0 : decode cX6_tool 0 = .ok (.aload_n 0, 1) := by decide +kernel
theorem dX6_tool_1 : decode cX6_tool 1 = .ok (.getfield 7, 3) := by decide +kernel
theorem dX6_tool_4 : decode cX6_tool 4 = .ok (.ireturn, 1) := by decide +kernel
abbrev cX6_man : ByteArray := prog_8_method_7_code
def yX6_man : MethodName := ⟨RX6, "man", "()I"⟩
theorem dX6_man_0 : decode cX6_man 0 = .ok (.aload_n 0, 1) := by decide +kernel
theorem dX6_man_1 : decode cX6_man 1 = .ok (.getfield 13, 3) := by decide +kernel
theorem dX6_man_4 : decode cX6_man 4 = .ok (.ireturn, 1) := by decide +kernel
abbrev cX6_work : ByteArray := prog_8_method_8_code
def yX6_work : MethodName := ⟨RX6, "work", "()I"⟩
theorem dX6_work_0 : decode cX6_work 0 = .ok (.aload_n 0, 1) := by decide +kernel
theorem dX6_work_1 : decode cX6_work 1 = .ok (.getfield 16, 3) := by decide +kernel
theorem dX6_work_4 : decode cX6_work 4 = .ok (.ireturn, 1) := by decide +kernel
theorem q173 : (Jvm.Cond.initialized "ToolUnion$Turn") ∈ lw_all := lw_g (lw_at lw_m1 20 rfl) rfl
theorem q812 : (Jvm.Cond.instantiable "ToolUnion$Turn" (5 : Nat)) ∈ lw_all := lw_g (lw_at lw_m3 179 rfl) rfl
theorem q814 : (Jvm.Cond.instanceMethod ({ cls := "ToolUnion$Turn", name := "<init>", desc := "(IIIII)V" } : Jvm.MethodName)) ∈ lw_all := lw_g (lw_at lw_m3 181 rfl) rfl
theorem q815 : (Jvm.Cond.code ({ cls := "ToolUnion$Turn", name := "<init>", desc := "(IIIII)V" } : Jvm.MethodName) prog_8_method_1_code (6 : Nat) (Option.none : Option Jvm.ClassFile.FieldType)) ∈ lw_all := lw_g (lw_at lw_m3 182 rfl) rfl
theorem q816 : (Jvm.Cond.methodLink "ToolUnion$Turn" (1 : Nat) ({ cls := "java/lang/Record", name := "<init>", desc := "()V" } : Jvm.MethodName)) ∈ lw_all := lw_g (lw_at lw_m3 183 rfl) rfl
theorem q817 : (Jvm.Cond.fieldLink "ToolUnion$Turn" (7 : Nat) "ToolUnion$Turn" "tool" "I") ∈ lw_all := lw_g (lw_at lw_m3 184 rfl) rfl
theorem q818 : (Jvm.Cond.fieldLink "ToolUnion$Turn" (13 : Nat) "ToolUnion$Turn" "man" "I") ∈ lw_all := lw_g (lw_at lw_m3 185 rfl) rfl
theorem q819 : (Jvm.Cond.fieldLink "ToolUnion$Turn" (16 : Nat) "ToolUnion$Turn" "work" "I") ∈ lw_all := lw_g (lw_at lw_m3 186 rfl) rfl
theorem q820 : (Jvm.Cond.fieldLink "ToolUnion$Turn" (19 : Nat) "ToolUnion$Turn" "first" "I") ∈ lw_all := lw_g (lw_at lw_m3 187 rfl) rfl
theorem q821 : (Jvm.Cond.fieldLink "ToolUnion$Turn" (22 : Nat) "ToolUnion$Turn" "hours" "I") ∈ lw_all := lw_g (lw_at lw_m3 188 rfl) rfl
theorem q822 : (Jvm.Cond.laysFinal "ToolUnion$Turn" "ToolUnion$Turn" "tool" "I") ∈ lw_all := lw_g (lw_at lw_m3 189 rfl) rfl
theorem q823 : (Jvm.Cond.soleField "ToolUnion$Turn" "tool") ∈ lw_all := lw_g (lw_at lw_m3 190 rfl) rfl
theorem q824 : (Jvm.Cond.laysFinal "ToolUnion$Turn" "ToolUnion$Turn" "man" "I") ∈ lw_all := lw_g (lw_at lw_m3 191 rfl) rfl
theorem q825 : (Jvm.Cond.soleField "ToolUnion$Turn" "man") ∈ lw_all := lw_g (lw_at lw_m3 192 rfl) rfl
theorem q826 : (Jvm.Cond.laysFinal "ToolUnion$Turn" "ToolUnion$Turn" "work" "I") ∈ lw_all := lw_g (lw_at lw_m3 193 rfl) rfl
theorem q827 : (Jvm.Cond.soleField "ToolUnion$Turn" "work") ∈ lw_all := lw_g (lw_at lw_m3 194 rfl) rfl
theorem q828 : (Jvm.Cond.laysFinal "ToolUnion$Turn" "ToolUnion$Turn" "first" "I") ∈ lw_all := lw_g (lw_at lw_m3 195 rfl) rfl
theorem q829 : (Jvm.Cond.soleField "ToolUnion$Turn" "first") ∈ lw_all := lw_g (lw_at lw_m3 196 rfl) rfl
theorem q830 : (Jvm.Cond.laysFinal "ToolUnion$Turn" "ToolUnion$Turn" "hours" "I") ∈ lw_all := lw_g (lw_at lw_m3 197 rfl) rfl
theorem q831 : (Jvm.Cond.soleField "ToolUnion$Turn" "hours") ∈ lw_all := lw_g (lw_at lw_m3 198 rfl) rfl
theorem q832 : (Jvm.Cond.superclass "ToolUnion$Turn" "java/lang/Record") ∈ lw_all := lw_g (lw_at lw_m3 199 rfl) rfl
theorem q1002 : (Jvm.Cond.instanceMethod ({ cls := "ToolUnion$Turn", name := "isOn", desc := "(I)Z" } : Jvm.MethodName)) ∈ lw_all := lw_g (lw_at lw_m4 129 rfl) rfl
theorem q1003 : (Jvm.Cond.selects "ToolUnion$Turn" ({ cls := "ToolUnion$Turn", name := "isOn", desc := "(I)Z" } : Jvm.MethodName) ({ cls := "ToolUnion$Turn", name := "isOn", desc := "(I)Z" } : Jvm.MethodName)) ∈ lw_all := lw_g (lw_at lw_m4 130 rfl) rfl
theorem q1004 : (Jvm.Cond.code ({ cls := "ToolUnion$Turn", name := "isOn", desc := "(I)Z" } : Jvm.MethodName) prog_8_method_2_code (2 : Nat) (Option.some Jvm.ClassFile.FieldType.boolean)) ∈ lw_all := lw_g (lw_at lw_m4 131 rfl) rfl
theorem q1006 : (Jvm.Cond.instanceMethod ({ cls := "ToolUnion$Turn", name := "tool", desc := "()I" } : Jvm.MethodName)) ∈ lw_all := lw_g (lw_at lw_m4 133 rfl) rfl
theorem q1007 : (Jvm.Cond.selects "ToolUnion$Turn" ({ cls := "ToolUnion$Turn", name := "tool", desc := "()I" } : Jvm.MethodName) ({ cls := "ToolUnion$Turn", name := "tool", desc := "()I" } : Jvm.MethodName)) ∈ lw_all := lw_g (lw_at lw_m4 134 rfl) rfl
theorem q1008 : (Jvm.Cond.code ({ cls := "ToolUnion$Turn", name := "tool", desc := "()I" } : Jvm.MethodName) prog_8_method_6_code (1 : Nat) (Option.some Jvm.ClassFile.FieldType.int)) ∈ lw_all := lw_g (lw_at lw_m4 135 rfl) rfl
theorem q1011 : (Jvm.Cond.instanceMethod ({ cls := "ToolUnion$Turn", name := "man", desc := "()I" } : Jvm.MethodName)) ∈ lw_all := lw_g (lw_at lw_m4 138 rfl) rfl
theorem q1012 : (Jvm.Cond.selects "ToolUnion$Turn" ({ cls := "ToolUnion$Turn", name := "man", desc := "()I" } : Jvm.MethodName) ({ cls := "ToolUnion$Turn", name := "man", desc := "()I" } : Jvm.MethodName)) ∈ lw_all := lw_g (lw_at lw_m4 139 rfl) rfl
theorem q1013 : (Jvm.Cond.code ({ cls := "ToolUnion$Turn", name := "man", desc := "()I" } : Jvm.MethodName) prog_8_method_7_code (1 : Nat) (Option.some Jvm.ClassFile.FieldType.int)) ∈ lw_all := lw_g (lw_at lw_m4 140 rfl) rfl
theorem q1015 : (Jvm.Cond.instanceMethod ({ cls := "ToolUnion$Turn", name := "work", desc := "()I" } : Jvm.MethodName)) ∈ lw_all := lw_g (lw_at lw_m4 142 rfl) rfl
theorem q1016 : (Jvm.Cond.selects "ToolUnion$Turn" ({ cls := "ToolUnion$Turn", name := "work", desc := "()I" } : Jvm.MethodName) ({ cls := "ToolUnion$Turn", name := "work", desc := "()I" } : Jvm.MethodName)) ∈ lw_all := lw_g (lw_at lw_m4 143 rfl) rfl
theorem q1017 : (Jvm.Cond.code ({ cls := "ToolUnion$Turn", name := "work", desc := "()I" } : Jvm.MethodName) prog_8_method_8_code (1 : Nat) (Option.some Jvm.ClassFile.FieldType.int)) ∈ lw_all := lw_g (lw_at lw_m4 144 rfl) rfl
theorem in_X6 : ∀ w ∈ wsX60, w ∈ lw_all := lw_in wsX60 [822, 824, 826, 828, 830] (by decide +kernel) (by decide +kernel)
/-! ToolUnion$Term -/
set_option maxRecDepth 100000
def RX7 : String := "ToolUnion$Term"
abbrev cX7_init : ByteArray := prog_5_method_1_code
def yX7_init : MethodName := ⟨RX7, "<init>", "()V"⟩
theorem dX7_init_0 : decode cX7_init 0 = .ok (.aload_n 0, 1) := by decide +kernel
theorem dX7_init_1 : decode cX7_init 1 = .ok (.invokespecial 1, 3) := by decide +kernel
theorem dX7_init_4 : decode cX7_init 4 = .ok (.return_, 1) := by decide +kernel
theorem q174 : (Jvm.Cond.initialized "ToolUnion$Term") ∈ lw_all := lw_g (lw_at lw_m1 21 rfl) rfl
theorem q859 : (Jvm.Cond.instanceMethod ({ cls := "ToolUnion$Term", name := "<init>", desc := "()V" } : Jvm.MethodName)) ∈ lw_all := lw_g (lw_at lw_m3 226 rfl) rfl
theorem q860 : (Jvm.Cond.code ({ cls := "ToolUnion$Term", name := "<init>", desc := "()V" } : Jvm.MethodName) prog_5_method_1_code (1 : Nat) (Option.none : Option Jvm.ClassFile.FieldType)) ∈ lw_all := lw_g (lw_at lw_m3 227 rfl) rfl
theorem q861 : (Jvm.Cond.methodLink "ToolUnion$Term" (1 : Nat) ({ cls := "java/lang/Object", name := "<init>", desc := "()V" } : Jvm.MethodName)) ∈ lw_all := lw_g (lw_at lw_m3 228 rfl) rfl
theorem q1063 : (Jvm.Cond.declares ({ cls := "ToolUnion$Term", name := "of", desc := "([I)I" } : Jvm.MethodName)) ∈ lw_tbl := lw_at lw_m4 190 rfl
theorem q1064 : (Jvm.Cond.sameMethod "ToolUnion$Term" "ToolUnion$Term" "of" "([I)I") ∈ lw_all := lw_g (lw_at lw_m4 191 rfl) rfl
/-! ToolUnion$Number -/
set_option maxRecDepth 100000
def RX8 : String := "ToolUnion$Number"
def TX8 : u_T := fun k => match k with
  | _ => ("ToolUnion$Number", "v", "I", true)
def tyX8 : Nat → FieldType := fun k => match k with
  | _ => .int
abbrev wsX80 : List Cond := u_ws RX8 TX8 1
theorem nmX8 : ∀ a, a < 1 → ∀ b, b < 1 → a ≠ b → (TX8 a).2.1 ≠ (TX8 b).2.1 := by decide +kernel
theorem tyX8_ok : ∀ k, k < 1 → parseFieldDescriptor (TX8 k).2.2.1 = some (tyX8 k) := by decide +kernel
abbrev cX8_init : ByteArray := prog_4_method_1_code
def yX8_init : MethodName := ⟨RX8, "<init>", "(I)V"⟩
def dkwX8_init_0 : List UInt8 := [42, 183, 0, 1, 42, 27, 181, 0, 7, 177]
abbrev dktX8_init_0 : List UInt8 := dkwX8_init_0 ++ []
theorem dksX8_init_0 : cX8_init.data.toList.drop 0 = dktX8_init_0 := by decide +kernel
theorem dX8_init_0 : decode cX8_init 0 = .ok (.aload_n 0, 1) := dk_42 (dk_at dksX8_init_0 0 rfl rfl)
theorem dX8_init_1 : decode cX8_init 1 = .ok (.invokespecial 1, 3) := dk_183 0 1 (dk_at dksX8_init_0 1 rfl rfl)
theorem dX8_init_4 : decode cX8_init 4 = .ok (.aload_n 0, 1) := dk_42 (dk_at dksX8_init_0 4 rfl rfl)
theorem dX8_init_5 : decode cX8_init 5 = .ok (.iload_n 1, 1) := dk_27 (dk_at dksX8_init_0 5 rfl rfl)
theorem dX8_init_6 : decode cX8_init 6 = .ok (.putfield 7, 3) := dk_181 0 7 (dk_at dksX8_init_0 6 rfl rfl)
theorem dX8_init_9 : decode cX8_init 9 = .ok (.return_, 1) := dk_177 (dk_at dksX8_init_0 9 rfl rfl)
abbrev cX8_of : ByteArray := prog_4_method_2_code
def yX8_of : MethodName := ⟨RX8, "of", "([I)I"⟩
theorem dX8_of_0 : decode cX8_of 0 = .ok (.aload_n 0, 1) := by decide +kernel
theorem dX8_of_1 : decode cX8_of 1 = .ok (.getfield 7, 3) := by decide +kernel
theorem dX8_of_4 : decode cX8_of 4 = .ok (.ireturn, 1) := by decide +kernel
theorem q175 : (Jvm.Cond.initialized "ToolUnion$Number") ∈ lw_all := lw_g (lw_at lw_m1 22 rfl) rfl
theorem q854 : (Jvm.Cond.instantiable "ToolUnion$Number" (1 : Nat)) ∈ lw_all := lw_g (lw_at lw_m3 221 rfl) rfl
theorem q856 : (Jvm.Cond.instanceMethod ({ cls := "ToolUnion$Number", name := "<init>", desc := "(I)V" } : Jvm.MethodName)) ∈ lw_all := lw_g (lw_at lw_m3 223 rfl) rfl
theorem q857 : (Jvm.Cond.code ({ cls := "ToolUnion$Number", name := "<init>", desc := "(I)V" } : Jvm.MethodName) prog_4_method_1_code (2 : Nat) (Option.none : Option Jvm.ClassFile.FieldType)) ∈ lw_all := lw_g (lw_at lw_m3 224 rfl) rfl
theorem q858 : (Jvm.Cond.methodLinkNest "ToolUnion$Number" (1 : Nat) ({ cls := "ToolUnion$Term", name := "<init>", desc := "()V" } : Jvm.MethodName) "ToolUnion") ∈ lw_tbl := lw_at lw_m3 225 rfl
theorem q862 : (Jvm.Cond.fieldLink "ToolUnion$Number" (7 : Nat) "ToolUnion$Number" "v" "I") ∈ lw_all := lw_g (lw_at lw_m3 229 rfl) rfl
theorem q863 : (Jvm.Cond.laysFinal "ToolUnion$Number" "ToolUnion$Number" "v" "I") ∈ lw_all := lw_g (lw_at lw_m3 230 rfl) rfl
theorem q864 : (Jvm.Cond.soleField "ToolUnion$Number" "v") ∈ lw_all := lw_g (lw_at lw_m3 231 rfl) rfl
theorem q865 : (Jvm.Cond.superclass "ToolUnion$Number" "ToolUnion$Term") ∈ lw_all := lw_g (lw_at lw_m3 232 rfl) rfl
theorem q1069 : (Jvm.Cond.instanceMethod ({ cls := "ToolUnion$Number", name := "of", desc := "([I)I" } : Jvm.MethodName)) ∈ lw_all := lw_g (lw_at lw_m4 196 rfl) rfl
theorem q1070 : (Jvm.Cond.code ({ cls := "ToolUnion$Number", name := "of", desc := "([I)I" } : Jvm.MethodName) prog_4_method_2_code (2 : Nat) (Option.some Jvm.ClassFile.FieldType.int)) ∈ lw_all := lw_g (lw_at lw_m4 197 rfl) rfl
theorem q1076 : (Jvm.Cond.selects "ToolUnion$Number" ({ cls := "ToolUnion$Term", name := "of", desc := "([I)I" } : Jvm.MethodName) ({ cls := "ToolUnion$Number", name := "of", desc := "([I)I" } : Jvm.MethodName)) ∈ lw_all := lw_g (lw_at lw_m4 203 rfl) rfl
theorem q2030 : (Jvm.Cond.castable "ToolUnion$Number" "ToolUnion$Term") ∈ lw_tbl := lw_at lw_m8 197 rfl
theorem in_X8 : ∀ w ∈ wsX80, w ∈ lw_all := lw_in wsX80 [863] (by decide +kernel) (by decide +kernel)
/-! ToolUnion$Word -/
set_option maxRecDepth 100000
def RX9 : String := "ToolUnion$Word"
def TX9 : u_T := fun k => match k with
  | _ => ("ToolUnion$Word", "k", "I", true)
def tyX9 : Nat → FieldType := fun k => match k with
  | _ => .int
abbrev wsX90 : List Cond := u_ws RX9 TX9 1
theorem nmX9 : ∀ a, a < 1 → ∀ b, b < 1 → a ≠ b → (TX9 a).2.1 ≠ (TX9 b).2.1 := by decide +kernel
theorem tyX9_ok : ∀ k, k < 1 → parseFieldDescriptor (TX9 k).2.2.1 = some (tyX9 k) := by decide +kernel
abbrev cX9_init : ByteArray := prog_10_method_1_code
def yX9_init : MethodName := ⟨RX9, "<init>", "(I)V"⟩
def dkwX9_init_0 : List UInt8 := [42, 183, 0, 1, 42, 27, 181, 0, 7, 177]
abbrev dktX9_init_0 : List UInt8 := dkwX9_init_0 ++ []
theorem dksX9_init_0 : cX9_init.data.toList.drop 0 = dktX9_init_0 := by decide +kernel
theorem dX9_init_0 : decode cX9_init 0 = .ok (.aload_n 0, 1) := dk_42 (dk_at dksX9_init_0 0 rfl rfl)
theorem dX9_init_1 : decode cX9_init 1 = .ok (.invokespecial 1, 3) := dk_183 0 1 (dk_at dksX9_init_0 1 rfl rfl)
theorem dX9_init_4 : decode cX9_init 4 = .ok (.aload_n 0, 1) := dk_42 (dk_at dksX9_init_0 4 rfl rfl)
theorem dX9_init_5 : decode cX9_init 5 = .ok (.iload_n 1, 1) := dk_27 (dk_at dksX9_init_0 5 rfl rfl)
theorem dX9_init_6 : decode cX9_init 6 = .ok (.putfield 7, 3) := dk_181 0 7 (dk_at dksX9_init_0 6 rfl rfl)
theorem dX9_init_9 : decode cX9_init 9 = .ok (.return_, 1) := dk_177 (dk_at dksX9_init_0 9 rfl rfl)
abbrev cX9_of : ByteArray := prog_10_method_2_code
def yX9_of : MethodName := ⟨RX9, "of", "([I)I"⟩
def dkwX9_of_0 : List UInt8 := [43, 42, 180, 0, 7, 46, 172]
abbrev dktX9_of_0 : List UInt8 := dkwX9_of_0 ++ []
theorem dksX9_of_0 : cX9_of.data.toList.drop 0 = dktX9_of_0 := by decide +kernel
theorem dX9_of_0 : decode cX9_of 0 = .ok (.aload_n 1, 1) := dk_43 (dk_at dksX9_of_0 0 rfl rfl)
theorem dX9_of_1 : decode cX9_of 1 = .ok (.aload_n 0, 1) := dk_42 (dk_at dksX9_of_0 1 rfl rfl)
theorem dX9_of_2 : decode cX9_of 2 = .ok (.getfield 7, 3) := dk_180 0 7 (dk_at dksX9_of_0 2 rfl rfl)
theorem dX9_of_5 : decode cX9_of 5 = .ok (.iaload, 1) := dk_46 (dk_at dksX9_of_0 5 rfl rfl)
theorem dX9_of_6 : decode cX9_of 6 = .ok (.ireturn, 1) := dk_172 (dk_at dksX9_of_0 6 rfl rfl)
theorem q176 : (Jvm.Cond.initialized "ToolUnion$Word") ∈ lw_all := lw_g (lw_at lw_m1 23 rfl) rfl
theorem q867 : (Jvm.Cond.instantiable "ToolUnion$Word" (1 : Nat)) ∈ lw_all := lw_g (lw_at lw_m3 234 rfl) rfl
theorem q869 : (Jvm.Cond.instanceMethod ({ cls := "ToolUnion$Word", name := "<init>", desc := "(I)V" } : Jvm.MethodName)) ∈ lw_all := lw_g (lw_at lw_m3 236 rfl) rfl
theorem q870 : (Jvm.Cond.code ({ cls := "ToolUnion$Word", name := "<init>", desc := "(I)V" } : Jvm.MethodName) prog_10_method_1_code (2 : Nat) (Option.none : Option Jvm.ClassFile.FieldType)) ∈ lw_all := lw_g (lw_at lw_m3 237 rfl) rfl
theorem q871 : (Jvm.Cond.methodLinkNest "ToolUnion$Word" (1 : Nat) ({ cls := "ToolUnion$Term", name := "<init>", desc := "()V" } : Jvm.MethodName) "ToolUnion") ∈ lw_tbl := lw_at lw_m3 238 rfl
theorem q872 : (Jvm.Cond.fieldLink "ToolUnion$Word" (7 : Nat) "ToolUnion$Word" "k" "I") ∈ lw_all := lw_g (lw_at lw_m3 239 rfl) rfl
theorem q873 : (Jvm.Cond.laysFinal "ToolUnion$Word" "ToolUnion$Word" "k" "I") ∈ lw_all := lw_g (lw_at lw_m4 0 rfl) rfl
theorem q874 : (Jvm.Cond.soleField "ToolUnion$Word" "k") ∈ lw_all := lw_g (lw_at lw_m4 1 rfl) rfl
theorem q875 : (Jvm.Cond.superclass "ToolUnion$Word" "ToolUnion$Term") ∈ lw_all := lw_g (lw_at lw_m4 2 rfl) rfl
theorem q1074 : (Jvm.Cond.instanceMethod ({ cls := "ToolUnion$Word", name := "of", desc := "([I)I" } : Jvm.MethodName)) ∈ lw_all := lw_g (lw_at lw_m4 201 rfl) rfl
theorem q1075 : (Jvm.Cond.code ({ cls := "ToolUnion$Word", name := "of", desc := "([I)I" } : Jvm.MethodName) prog_10_method_2_code (2 : Nat) (Option.some Jvm.ClassFile.FieldType.int)) ∈ lw_all := lw_g (lw_at lw_m4 202 rfl) rfl
theorem q1078 : (Jvm.Cond.selects "ToolUnion$Word" ({ cls := "ToolUnion$Term", name := "of", desc := "([I)I" } : Jvm.MethodName) ({ cls := "ToolUnion$Word", name := "of", desc := "([I)I" } : Jvm.MethodName)) ∈ lw_all := lw_g (lw_at lw_m4 205 rfl) rfl
theorem q2031 : (Jvm.Cond.castable "ToolUnion$Word" "ToolUnion$Term") ∈ lw_tbl := lw_at lw_m8 198 rfl
theorem in_X9 : ∀ w ∈ wsX90, w ∈ lw_all := lw_in wsX90 [873] (by decide +kernel) (by decide +kernel)
/-! ToolUnion$Two -/
set_option maxRecDepth 100000
def RX10 : String := "ToolUnion$Two"
def TX10 : u_T := fun k => match k with
  | 0 => ("ToolUnion$Two", "sign", "C", true)
  | 1 => ("ToolUnion$Two", "a", "LToolUnion$Term;", true)
  | _ => ("ToolUnion$Two", "b", "LToolUnion$Term;", true)
def tyX10 : Nat → FieldType := fun k => match k with
  | 0 => .char
  | 1 => .object "ToolUnion$Term"
  | _ => .object "ToolUnion$Term"
abbrev wsX100 : List Cond := u_ws RX10 TX10 3
theorem nmX10 : ∀ a, a < 3 → ∀ b, b < 3 → a ≠ b → (TX10 a).2.1 ≠ (TX10 b).2.1 := by decide +kernel
theorem tyX10_ok : ∀ k, k < 3 → parseFieldDescriptor (TX10 k).2.2.1 = some (tyX10 k) := by decide +kernel
abbrev cX10_init : ByteArray := prog_9_method_1_code
def yX10_init : MethodName := ⟨RX10, "<init>", "(CLToolUnion$Term;LToolUnion$Term;)V"⟩
def dkwX10_init_0 : List UInt8 := [42, 183, 0, 1, 42, 27, 181, 0, 7, 42, 44, 181, 0, 13, 42, 45, 181, 0, 17, 177]
abbrev dktX10_init_0 : List UInt8 := dkwX10_init_0 ++ []
theorem dksX10_init_0 : cX10_init.data.toList.drop 0 = dktX10_init_0 := by decide +kernel
theorem dX10_init_0 : decode cX10_init 0 = .ok (.aload_n 0, 1) := dk_42 (dk_at dksX10_init_0 0 rfl rfl)
theorem dX10_init_1 : decode cX10_init 1 = .ok (.invokespecial 1, 3) := dk_183 0 1 (dk_at dksX10_init_0 1 rfl rfl)
theorem dX10_init_4 : decode cX10_init 4 = .ok (.aload_n 0, 1) := dk_42 (dk_at dksX10_init_0 4 rfl rfl)
theorem dX10_init_5 : decode cX10_init 5 = .ok (.iload_n 1, 1) := dk_27 (dk_at dksX10_init_0 5 rfl rfl)
theorem dX10_init_6 : decode cX10_init 6 = .ok (.putfield 7, 3) := dk_181 0 7 (dk_at dksX10_init_0 6 rfl rfl)
theorem dX10_init_9 : decode cX10_init 9 = .ok (.aload_n 0, 1) := dk_42 (dk_at dksX10_init_0 9 rfl rfl)
theorem dX10_init_10 : decode cX10_init 10 = .ok (.aload_n 2, 1) := dk_44 (dk_at dksX10_init_0 10 rfl rfl)
theorem dX10_init_11 : decode cX10_init 11 = .ok (.putfield 13, 3) := dk_181 0 13 (dk_at dksX10_init_0 11 rfl rfl)
theorem dX10_init_14 : decode cX10_init 14 = .ok (.aload_n 0, 1) := dk_42 (dk_at dksX10_init_0 14 rfl rfl)
theorem dX10_init_15 : decode cX10_init 15 = .ok (.aload_n 3, 1) := dk_45 (dk_at dksX10_init_0 15 rfl rfl)
theorem dX10_init_16 : decode cX10_init 16 = .ok (.putfield 17, 3) := dk_181 0 17 (dk_at dksX10_init_0 16 rfl rfl)
theorem dX10_init_19 : decode cX10_init 19 = .ok (.return_, 1) := dk_177 (dk_at dksX10_init_0 19 rfl rfl)
abbrev cX10_of : ByteArray := prog_9_method_2_code
def yX10_of : MethodName := ⟨RX10, "of", "([I)I"⟩
def dkwX10_of_4 : List UInt8 := [167, 0, 4, 3, 172, 28, 29, 126, 172, 28, 29, 128, 172]
abbrev dktX10_of_4 : List UInt8 := dkwX10_of_4 ++ []
def dkwX10_of_3 : List UInt8 := [167, 0, 4, 3, 172, 28, 29, 160, 0, 7, 4, 167, 0, 4, 3, 172, 28, 29, 164, 0, 7, 4]
abbrev dktX10_of_3 : List UInt8 := dkwX10_of_3 ++ dktX10_of_4
def dkwX10_of_2 : List UInt8 := [28, 29, 96, 172, 28, 29, 100, 172, 28, 29, 104, 172, 28, 29, 108, 172, 28, 29, 162, 0, 7, 4]
abbrev dktX10_of_2 : List UInt8 := dkwX10_of_2 ++ dktX10_of_3
def dkwX10_of_1 : List UInt8 := [170, 0, 0, 0, 0, 167, 0, 0, 0, 38, 0, 0, 0, 62, 0, 0, 0, 163, 0, 0, 0, 167, 0, 0, 0, 167, 0, 0, 0, 167, 0, 0, 0, 122, 0, 0, 0, 114, 0, 0, 0, 167, 0, 0, 0, 118, 0, 0, 0, 167, 0, 0, 0, 126, 0, 0, 0, 167, 0, 0, 0, 167, 0, 0, 0, 167, 0, 0, 0, 167, 0, 0, 0, 167, 0, 0, 0, 167, 0, 0, 0, 167, 0, 0, 0, 167, 0, 0, 0, 167, 0, 0, 0, 167, 0, 0, 0, 167, 0, 0, 0, 167, 0, 0, 0, 130, 0, 0, 0, 141, 0, 0, 0, 152]
abbrev dktX10_of_1 : List UInt8 := dkwX10_of_1 ++ dktX10_of_2
def dkwX10_of_0 : List UInt8 := [42, 180, 0, 13, 43, 182, 0, 20, 61, 42, 180, 0, 17, 43, 182, 0, 20, 62, 42, 180, 0, 7]
abbrev dktX10_of_0 : List UInt8 := dkwX10_of_0 ++ dktX10_of_1
theorem dksX10_of_0 : cX10_of.data.toList.drop 0 = dktX10_of_0 := by decide +kernel
theorem dksX10_of_1 : cX10_of.data.toList.drop 22 = dktX10_of_1 := dk_seg dksX10_of_0 22 rfl rfl
theorem dksX10_of_2 : cX10_of.data.toList.drop 136 = dktX10_of_2 := dk_seg dksX10_of_1 114 rfl rfl
theorem dksX10_of_3 : cX10_of.data.toList.drop 158 = dktX10_of_3 := dk_seg dksX10_of_2 22 rfl rfl
theorem dksX10_of_4 : cX10_of.data.toList.drop 180 = dktX10_of_4 := dk_seg dksX10_of_3 22 rfl rfl
theorem dX10_of_0 : decode cX10_of 0 = .ok (.aload_n 0, 1) := dk_42 (dk_at dksX10_of_0 0 rfl rfl)
theorem dX10_of_1 : decode cX10_of 1 = .ok (.getfield 13, 3) := dk_180 0 13 (dk_at dksX10_of_0 1 rfl rfl)
theorem dX10_of_4 : decode cX10_of 4 = .ok (.aload_n 1, 1) := dk_43 (dk_at dksX10_of_0 4 rfl rfl)
theorem dX10_of_5 : decode cX10_of 5 = .ok (.invokevirtual 20, 3) := dk_182 0 20 (dk_at dksX10_of_0 5 rfl rfl)
theorem dX10_of_8 : decode cX10_of 8 = .ok (.istore_n 2, 1) := dk_61 (dk_at dksX10_of_0 8 rfl rfl)
theorem dX10_of_9 : decode cX10_of 9 = .ok (.aload_n 0, 1) := dk_42 (dk_at dksX10_of_0 9 rfl rfl)
theorem dX10_of_10 : decode cX10_of 10 = .ok (.getfield 17, 3) := dk_180 0 17 (dk_at dksX10_of_0 10 rfl rfl)
theorem dX10_of_13 : decode cX10_of 13 = .ok (.aload_n 1, 1) := dk_43 (dk_at dksX10_of_0 13 rfl rfl)
theorem dX10_of_14 : decode cX10_of 14 = .ok (.invokevirtual 20, 3) := dk_182 0 20 (dk_at dksX10_of_0 14 rfl rfl)
theorem dX10_of_17 : decode cX10_of 17 = .ok (.istore_n 3, 1) := dk_62 (dk_at dksX10_of_0 17 rfl rfl)
theorem dX10_of_18 : decode cX10_of 18 = .ok (.aload_n 0, 1) := dk_42 (dk_at dksX10_of_0 18 rfl rfl)
theorem dX10_of_19 : decode cX10_of 19 = .ok (.getfield 7, 3) := dk_180 0 7 (dk_at dksX10_of_0 19 rfl rfl)
theorem dX10_of_22 : decode cX10_of 22 = .ok (.tableswitch 167 38 62 #[163, 167, 167, 167, 122, 114, 167, 118, 167, 126, 167, 167, 167, 167, 167, 167, 167, 167, 167, 167, 167, 167, 130, 141, 152], 114) := by decide +kernel
theorem dX10_of_136 : decode cX10_of 136 = .ok (.iload_n 2, 1) := dk_28 (dk_at dksX10_of_2 0 rfl rfl)
theorem dX10_of_137 : decode cX10_of 137 = .ok (.iload_n 3, 1) := dk_29 (dk_at dksX10_of_2 1 rfl rfl)
theorem dX10_of_138 : decode cX10_of 138 = .ok (.iadd, 1) := dk_96 (dk_at dksX10_of_2 2 rfl rfl)
theorem dX10_of_139 : decode cX10_of 139 = .ok (.ireturn, 1) := dk_172 (dk_at dksX10_of_2 3 rfl rfl)
theorem dX10_of_140 : decode cX10_of 140 = .ok (.iload_n 2, 1) := dk_28 (dk_at dksX10_of_2 4 rfl rfl)
theorem dX10_of_141 : decode cX10_of 141 = .ok (.iload_n 3, 1) := dk_29 (dk_at dksX10_of_2 5 rfl rfl)
theorem dX10_of_142 : decode cX10_of 142 = .ok (.isub, 1) := dk_100 (dk_at dksX10_of_2 6 rfl rfl)
theorem dX10_of_143 : decode cX10_of 143 = .ok (.ireturn, 1) := dk_172 (dk_at dksX10_of_2 7 rfl rfl)
theorem dX10_of_144 : decode cX10_of 144 = .ok (.iload_n 2, 1) := dk_28 (dk_at dksX10_of_2 8 rfl rfl)
theorem dX10_of_145 : decode cX10_of 145 = .ok (.iload_n 3, 1) := dk_29 (dk_at dksX10_of_2 9 rfl rfl)
theorem dX10_of_146 : decode cX10_of 146 = .ok (.imul, 1) := dk_104 (dk_at dksX10_of_2 10 rfl rfl)
theorem dX10_of_147 : decode cX10_of 147 = .ok (.ireturn, 1) := dk_172 (dk_at dksX10_of_2 11 rfl rfl)
theorem dX10_of_148 : decode cX10_of 148 = .ok (.iload_n 2, 1) := dk_28 (dk_at dksX10_of_2 12 rfl rfl)
theorem dX10_of_149 : decode cX10_of 149 = .ok (.iload_n 3, 1) := dk_29 (dk_at dksX10_of_2 13 rfl rfl)
theorem dX10_of_150 : decode cX10_of 150 = .ok (.idiv, 1) := dk_108 (dk_at dksX10_of_2 14 rfl rfl)
theorem dX10_of_151 : decode cX10_of 151 = .ok (.ireturn, 1) := dk_172 (dk_at dksX10_of_2 15 rfl rfl)
theorem dX10_of_152 : decode cX10_of 152 = .ok (.iload_n 2, 1) := dk_28 (dk_at dksX10_of_2 16 rfl rfl)
theorem dX10_of_153 : decode cX10_of 153 = .ok (.iload_n 3, 1) := dk_29 (dk_at dksX10_of_2 17 rfl rfl)
theorem dX10_of_154 : decode cX10_of 154 = .ok (.if_icmp .ge 7, 3) := dk_162 0 7 (dk_at dksX10_of_2 18 rfl rfl)
theorem dX10_of_157 : decode cX10_of 157 = .ok (.iconst 1, 1) := dk_4 (dk_at dksX10_of_2 21 rfl rfl)
theorem dX10_of_158 : decode cX10_of 158 = .ok (.goto 4, 3) := dk_167 0 4 (dk_at dksX10_of_3 0 rfl rfl)
theorem dX10_of_161 : decode cX10_of 161 = .ok (.iconst 0, 1) := dk_3 (dk_at dksX10_of_3 3 rfl rfl)
theorem dX10_of_162 : decode cX10_of 162 = .ok (.ireturn, 1) := dk_172 (dk_at dksX10_of_3 4 rfl rfl)
theorem dX10_of_163 : decode cX10_of 163 = .ok (.iload_n 2, 1) := dk_28 (dk_at dksX10_of_3 5 rfl rfl)
theorem dX10_of_164 : decode cX10_of 164 = .ok (.iload_n 3, 1) := dk_29 (dk_at dksX10_of_3 6 rfl rfl)
theorem dX10_of_165 : decode cX10_of 165 = .ok (.if_icmp .ne 7, 3) := dk_160 0 7 (dk_at dksX10_of_3 7 rfl rfl)
theorem dX10_of_168 : decode cX10_of 168 = .ok (.iconst 1, 1) := dk_4 (dk_at dksX10_of_3 10 rfl rfl)
theorem dX10_of_169 : decode cX10_of 169 = .ok (.goto 4, 3) := dk_167 0 4 (dk_at dksX10_of_3 11 rfl rfl)
theorem dX10_of_172 : decode cX10_of 172 = .ok (.iconst 0, 1) := dk_3 (dk_at dksX10_of_3 14 rfl rfl)
theorem dX10_of_173 : decode cX10_of 173 = .ok (.ireturn, 1) := dk_172 (dk_at dksX10_of_3 15 rfl rfl)
theorem dX10_of_174 : decode cX10_of 174 = .ok (.iload_n 2, 1) := dk_28 (dk_at dksX10_of_3 16 rfl rfl)
theorem dX10_of_175 : decode cX10_of 175 = .ok (.iload_n 3, 1) := dk_29 (dk_at dksX10_of_3 17 rfl rfl)
theorem dX10_of_176 : decode cX10_of 176 = .ok (.if_icmp .le 7, 3) := dk_164 0 7 (dk_at dksX10_of_3 18 rfl rfl)
theorem dX10_of_179 : decode cX10_of 179 = .ok (.iconst 1, 1) := dk_4 (dk_at dksX10_of_3 21 rfl rfl)
theorem dX10_of_180 : decode cX10_of 180 = .ok (.goto 4, 3) := dk_167 0 4 (dk_at dksX10_of_4 0 rfl rfl)
theorem dX10_of_183 : decode cX10_of 183 = .ok (.iconst 0, 1) := dk_3 (dk_at dksX10_of_4 3 rfl rfl)
theorem dX10_of_184 : decode cX10_of 184 = .ok (.ireturn, 1) := dk_172 (dk_at dksX10_of_4 4 rfl rfl)
theorem dX10_of_185 : decode cX10_of 185 = .ok (.iload_n 2, 1) := dk_28 (dk_at dksX10_of_4 5 rfl rfl)
theorem dX10_of_186 : decode cX10_of 186 = .ok (.iload_n 3, 1) := dk_29 (dk_at dksX10_of_4 6 rfl rfl)
theorem dX10_of_187 : decode cX10_of 187 = .ok (.iand, 1) := dk_126 (dk_at dksX10_of_4 7 rfl rfl)
theorem dX10_of_188 : decode cX10_of 188 = .ok (.ireturn, 1) := dk_172 (dk_at dksX10_of_4 8 rfl rfl)
theorem dX10_of_189 : decode cX10_of 189 = .ok (.iload_n 2, 1) := dk_28 (dk_at dksX10_of_4 9 rfl rfl)
theorem dX10_of_190 : decode cX10_of 190 = .ok (.iload_n 3, 1) := dk_29 (dk_at dksX10_of_4 10 rfl rfl)
theorem dX10_of_191 : decode cX10_of 191 = .ok (.ior, 1) := dk_128 (dk_at dksX10_of_4 11 rfl rfl)
theorem dX10_of_192 : decode cX10_of 192 = .ok (.ireturn, 1) := dk_172 (dk_at dksX10_of_4 12 rfl rfl)
theorem q177 : (Jvm.Cond.initialized "ToolUnion$Two") ∈ lw_all := lw_g (lw_at lw_m1 24 rfl) rfl
theorem q877 : (Jvm.Cond.instantiable "ToolUnion$Two" (3 : Nat)) ∈ lw_all := lw_g (lw_at lw_m4 4 rfl) rfl
theorem q879 : (Jvm.Cond.instanceMethod ({ cls := "ToolUnion$Two", name := "<init>", desc := "(CLToolUnion$Term;LToolUnion$Term;)V" } : Jvm.MethodName)) ∈ lw_all := lw_g (lw_at lw_m4 6 rfl) rfl
theorem q880 : (Jvm.Cond.code ({ cls := "ToolUnion$Two", name := "<init>", desc := "(CLToolUnion$Term;LToolUnion$Term;)V" } : Jvm.MethodName) prog_9_method_1_code (4 : Nat) (Option.none : Option Jvm.ClassFile.FieldType)) ∈ lw_all := lw_g (lw_at lw_m4 7 rfl) rfl
theorem q881 : (Jvm.Cond.methodLinkNest "ToolUnion$Two" (1 : Nat) ({ cls := "ToolUnion$Term", name := "<init>", desc := "()V" } : Jvm.MethodName) "ToolUnion") ∈ lw_tbl := lw_at lw_m4 8 rfl
theorem q882 : (Jvm.Cond.fieldLink "ToolUnion$Two" (7 : Nat) "ToolUnion$Two" "sign" "C") ∈ lw_all := lw_g (lw_at lw_m4 9 rfl) rfl
theorem q883 : (Jvm.Cond.fieldLink "ToolUnion$Two" (13 : Nat) "ToolUnion$Two" "a" "LToolUnion$Term;") ∈ lw_all := lw_g (lw_at lw_m4 10 rfl) rfl
theorem q884 : (Jvm.Cond.fieldLink "ToolUnion$Two" (17 : Nat) "ToolUnion$Two" "b" "LToolUnion$Term;") ∈ lw_all := lw_g (lw_at lw_m4 11 rfl) rfl
theorem q885 : (Jvm.Cond.laysFinal "ToolUnion$Two" "ToolUnion$Two" "sign" "C") ∈ lw_all := lw_g (lw_at lw_m4 12 rfl) rfl
theorem q886 : (Jvm.Cond.soleField "ToolUnion$Two" "sign") ∈ lw_all := lw_g (lw_at lw_m4 13 rfl) rfl
theorem q887 : (Jvm.Cond.laysFinal "ToolUnion$Two" "ToolUnion$Two" "a" "LToolUnion$Term;") ∈ lw_all := lw_g (lw_at lw_m4 14 rfl) rfl
theorem q888 : (Jvm.Cond.soleField "ToolUnion$Two" "a") ∈ lw_all := lw_g (lw_at lw_m4 15 rfl) rfl
theorem q889 : (Jvm.Cond.laysFinal "ToolUnion$Two" "ToolUnion$Two" "b" "LToolUnion$Term;") ∈ lw_all := lw_g (lw_at lw_m4 16 rfl) rfl
theorem q890 : (Jvm.Cond.soleField "ToolUnion$Two" "b") ∈ lw_all := lw_g (lw_at lw_m4 17 rfl) rfl
theorem q891 : (Jvm.Cond.superclass "ToolUnion$Two" "ToolUnion$Term") ∈ lw_all := lw_g (lw_at lw_m4 18 rfl) rfl
theorem q1071 : (Jvm.Cond.instanceMethod ({ cls := "ToolUnion$Two", name := "of", desc := "([I)I" } : Jvm.MethodName)) ∈ lw_all := lw_g (lw_at lw_m4 198 rfl) rfl
theorem q1072 : (Jvm.Cond.code ({ cls := "ToolUnion$Two", name := "of", desc := "([I)I" } : Jvm.MethodName) prog_9_method_2_code (4 : Nat) (Option.some Jvm.ClassFile.FieldType.int)) ∈ lw_all := lw_g (lw_at lw_m4 199 rfl) rfl
theorem q1073 : (Jvm.Cond.methodLink "ToolUnion$Two" (20 : Nat) ({ cls := "ToolUnion$Term", name := "of", desc := "([I)I" } : Jvm.MethodName)) ∈ lw_all := lw_g (lw_at lw_m4 200 rfl) rfl
theorem q1077 : (Jvm.Cond.selects "ToolUnion$Two" ({ cls := "ToolUnion$Term", name := "of", desc := "([I)I" } : Jvm.MethodName) ({ cls := "ToolUnion$Two", name := "of", desc := "([I)I" } : Jvm.MethodName)) ∈ lw_all := lw_g (lw_at lw_m4 204 rfl) rfl
theorem q2032 : (Jvm.Cond.castable "ToolUnion$Two" "ToolUnion$Term") ∈ lw_tbl := lw_at lw_m8 199 rfl
theorem in_X10 : ∀ w ∈ wsX100, w ∈ lw_all := lw_in wsX100 [885, 887, 889] (by decide +kernel) (by decide +kernel)
/-! ToolUnion$Not -/
set_option maxRecDepth 100000
def RX11 : String := "ToolUnion$Not"
def TX11 : u_T := fun k => match k with
  | _ => ("ToolUnion$Not", "in", "LToolUnion$Term;", true)
def tyX11 : Nat → FieldType := fun k => match k with
  | _ => .object "ToolUnion$Term"
abbrev wsX110 : List Cond := u_ws RX11 TX11 1
theorem nmX11 : ∀ a, a < 1 → ∀ b, b < 1 → a ≠ b → (TX11 a).2.1 ≠ (TX11 b).2.1 := by decide +kernel
theorem tyX11_ok : ∀ k, k < 1 → parseFieldDescriptor (TX11 k).2.2.1 = some (tyX11 k) := by decide +kernel
abbrev cX11_init : ByteArray := prog_3_method_1_code
def yX11_init : MethodName := ⟨RX11, "<init>", "(LToolUnion$Term;)V"⟩
def dkwX11_init_0 : List UInt8 := [42, 183, 0, 1, 42, 43, 181, 0, 7, 177]
abbrev dktX11_init_0 : List UInt8 := dkwX11_init_0 ++ []
theorem dksX11_init_0 : cX11_init.data.toList.drop 0 = dktX11_init_0 := by decide +kernel
theorem dX11_init_0 : decode cX11_init 0 = .ok (.aload_n 0, 1) := dk_42 (dk_at dksX11_init_0 0 rfl rfl)
theorem dX11_init_1 : decode cX11_init 1 = .ok (.invokespecial 1, 3) := dk_183 0 1 (dk_at dksX11_init_0 1 rfl rfl)
theorem dX11_init_4 : decode cX11_init 4 = .ok (.aload_n 0, 1) := dk_42 (dk_at dksX11_init_0 4 rfl rfl)
theorem dX11_init_5 : decode cX11_init 5 = .ok (.aload_n 1, 1) := dk_43 (dk_at dksX11_init_0 5 rfl rfl)
theorem dX11_init_6 : decode cX11_init 6 = .ok (.putfield 7, 3) := dk_181 0 7 (dk_at dksX11_init_0 6 rfl rfl)
theorem dX11_init_9 : decode cX11_init 9 = .ok (.return_, 1) := dk_177 (dk_at dksX11_init_0 9 rfl rfl)
abbrev cX11_of : ByteArray := prog_3_method_2_code
def yX11_of : MethodName := ⟨RX11, "of", "([I)I"⟩
def dkwX11_of_0 : List UInt8 := [4, 42, 180, 0, 7, 43, 182, 0, 13, 100, 172]
abbrev dktX11_of_0 : List UInt8 := dkwX11_of_0 ++ []
theorem dksX11_of_0 : cX11_of.data.toList.drop 0 = dktX11_of_0 := by decide +kernel
theorem dX11_of_0 : decode cX11_of 0 = .ok (.iconst 1, 1) := dk_4 (dk_at dksX11_of_0 0 rfl rfl)
theorem dX11_of_1 : decode cX11_of 1 = .ok (.aload_n 0, 1) := dk_42 (dk_at dksX11_of_0 1 rfl rfl)
theorem dX11_of_2 : decode cX11_of 2 = .ok (.getfield 7, 3) := dk_180 0 7 (dk_at dksX11_of_0 2 rfl rfl)
theorem dX11_of_5 : decode cX11_of 5 = .ok (.aload_n 1, 1) := dk_43 (dk_at dksX11_of_0 5 rfl rfl)
theorem dX11_of_6 : decode cX11_of 6 = .ok (.invokevirtual 13, 3) := dk_182 0 13 (dk_at dksX11_of_0 6 rfl rfl)
theorem dX11_of_9 : decode cX11_of 9 = .ok (.isub, 1) := dk_100 (dk_at dksX11_of_0 9 rfl rfl)
theorem dX11_of_10 : decode cX11_of 10 = .ok (.ireturn, 1) := dk_172 (dk_at dksX11_of_0 10 rfl rfl)
theorem q178 : (Jvm.Cond.initialized "ToolUnion$Not") ∈ lw_all := lw_g (lw_at lw_m1 25 rfl) rfl
theorem q909 : (Jvm.Cond.instantiable "ToolUnion$Not" (1 : Nat)) ∈ lw_all := lw_g (lw_at lw_m4 36 rfl) rfl
theorem q911 : (Jvm.Cond.instanceMethod ({ cls := "ToolUnion$Not", name := "<init>", desc := "(LToolUnion$Term;)V" } : Jvm.MethodName)) ∈ lw_all := lw_g (lw_at lw_m4 38 rfl) rfl
theorem q912 : (Jvm.Cond.code ({ cls := "ToolUnion$Not", name := "<init>", desc := "(LToolUnion$Term;)V" } : Jvm.MethodName) prog_3_method_1_code (2 : Nat) (Option.none : Option Jvm.ClassFile.FieldType)) ∈ lw_all := lw_g (lw_at lw_m4 39 rfl) rfl
theorem q913 : (Jvm.Cond.methodLinkNest "ToolUnion$Not" (1 : Nat) ({ cls := "ToolUnion$Term", name := "<init>", desc := "()V" } : Jvm.MethodName) "ToolUnion") ∈ lw_tbl := lw_at lw_m4 40 rfl
theorem q914 : (Jvm.Cond.fieldLink "ToolUnion$Not" (7 : Nat) "ToolUnion$Not" "in" "LToolUnion$Term;") ∈ lw_all := lw_g (lw_at lw_m4 41 rfl) rfl
theorem q915 : (Jvm.Cond.laysFinal "ToolUnion$Not" "ToolUnion$Not" "in" "LToolUnion$Term;") ∈ lw_all := lw_g (lw_at lw_m4 42 rfl) rfl
theorem q916 : (Jvm.Cond.soleField "ToolUnion$Not" "in") ∈ lw_all := lw_g (lw_at lw_m4 43 rfl) rfl
theorem q917 : (Jvm.Cond.superclass "ToolUnion$Not" "ToolUnion$Term") ∈ lw_all := lw_g (lw_at lw_m4 44 rfl) rfl
theorem q1065 : (Jvm.Cond.selects "ToolUnion$Not" ({ cls := "ToolUnion$Term", name := "of", desc := "([I)I" } : Jvm.MethodName) ({ cls := "ToolUnion$Not", name := "of", desc := "([I)I" } : Jvm.MethodName)) ∈ lw_all := lw_g (lw_at lw_m4 192 rfl) rfl
theorem q1066 : (Jvm.Cond.instanceMethod ({ cls := "ToolUnion$Not", name := "of", desc := "([I)I" } : Jvm.MethodName)) ∈ lw_all := lw_g (lw_at lw_m4 193 rfl) rfl
theorem q1067 : (Jvm.Cond.code ({ cls := "ToolUnion$Not", name := "of", desc := "([I)I" } : Jvm.MethodName) prog_3_method_2_code (2 : Nat) (Option.some Jvm.ClassFile.FieldType.int)) ∈ lw_all := lw_g (lw_at lw_m4 194 rfl) rfl
theorem q1068 : (Jvm.Cond.methodLink "ToolUnion$Not" (13 : Nat) ({ cls := "ToolUnion$Term", name := "of", desc := "([I)I" } : Jvm.MethodName)) ∈ lw_all := lw_g (lw_at lw_m4 195 rfl) rfl
theorem q2033 : (Jvm.Cond.castable "ToolUnion$Not" "ToolUnion$Term") ∈ lw_tbl := lw_at lw_m8 200 rfl
theorem in_X11 : ∀ w ∈ wsX110, w ∈ lw_all := lw_in wsX110 [915] (by decide +kernel) (by decide +kernel)
