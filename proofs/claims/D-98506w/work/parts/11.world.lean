/-! the world: classes, strings, statics, words -/
def zcl : List vw_C := [(RX3, TX3, 39), (RX0, TX0, 58), (RX2, TX2, 16), (RX1, TX1, 4), (RX4, TX4, 8), (RX5, TX5, 3), (RX6, TX6, 5), (RX8, TX8, 1), (RX9, TX9, 1), (RX10, TX10, 3), (RX11, TX11, 1)]
def zstr : List (String × Nat × String × Nat) := [("ToolUnionModel", 147, "when", 0), ("ToolUnionModel", 149, "or", 1), ("ToolUnionModel", 151, "and", 2), ("ToolUnionModel", 153, "not", 3), ("ToolUnionModel", 158, "will", 4), ("ToolUnionModel", 160, "wont", 5), ("ToolUnionModel", 162, "wear", 6), ("ToolUnionModel", 164, "mood", 7), ("ToolUnionModel", 166, "like", 8), ("ToolUnionModel", 123, "skill", 9), ("ToolUnionModel", 129, "edge", 10), ("ToolUnionModel", 131, "moods", 11), ("ToolUnionModel", 133, "today", 12), ("ToolUnionModel", 135, "kind", 13), ("ToolUnionModel", 137, "same", 14), ("ToolUnionModel", 139, "branch", 15), ("ToolUnionModel", 141, "bell", 16), ("ToolUnionModel", 143, "weekday", 17), ("ToolUnionModel", 145, "served", 18), ("ToolUnionModel", 171, "work", 19), ("ToolUnionModel", 173, "takes", 20), ("ToolUnionModel", 175, "after", 21), ("ToolUnionModel", 177, "tool", 22), ("ToolUnionModel", 179, "man", 23), ("ToolUnionModel", 181, "from", 24), ("ToolUnionModel", 183, "for", 25), ("ToolUnion", 32, "will", 26), ("ToolUnion", 34, "wont", 27), ("ToolUnion", 36, "wear", 28), ("ToolUnion", 38, "mood", 29), ("ToolUnion", 40, "like", 30), ("ToolUnion", 42, "work", 31), ("ToolUnion", 44, "takes", 32), ("ToolUnion", 46, "after", 33), ("ToolUnion", 48, "tool", 34), ("ToolUnion", 50, "man", 35), ("ToolUnion", 52, "from", 36), ("ToolUnion", 54, "for", 37), ("ToolUnion", 60, "skill", 38), ("ToolUnion", 62, "edge", 39), ("ToolUnion", 64, "moods", 40), ("ToolUnion", 66, "today", 41), ("ToolUnion", 68, "kind", 42), ("ToolUnion", 70, "same", 43), ("ToolUnion", 72, "branch", 44), ("ToolUnion", 74, "bell", 45), ("ToolUnion", 76, "weekday", 46), ("ToolUnion", 78, "served", 47), ("ToolUnion", 83, "when", 48), ("ToolUnion", 85, "or", 49), ("ToolUnion", 87, "and", 50), ("ToolUnion", 89, "not", 51), ("ToolUnion", 298, ";+-*/()<=>", 52)]
def zN : Nat := 53
def zslen : List Nat := [4, 2, 3, 3, 4, 4, 4, 4, 4, 5, 4, 5, 5, 4, 4, 6, 4, 7, 6, 4, 5, 5, 4, 3, 4, 3, 4, 4, 4, 4, 4, 4, 5, 5, 4, 3, 4, 3, 5, 4, 5, 5, 4, 4, 6, 4, 7, 6, 4, 2, 3, 3, 10]
def zsbyt : List (List Int32) := [[119, 104, 101, 110], [111, 114], [97, 110, 100], [110, 111, 116], [119, 105, 108, 108], [119, 111, 110, 116], [119, 101, 97, 114], [109, 111, 111, 100], [108, 105, 107, 101], [115, 107, 105, 108, 108], [101, 100, 103, 101], [109, 111, 111, 100, 115], [116, 111, 100, 97, 121], [107, 105, 110, 100], [115, 97, 109, 101], [98, 114, 97, 110, 99, 104], [98, 101, 108, 108], [119, 101, 101, 107, 100, 97, 121], [115, 101, 114, 118, 101, 100], [119, 111, 114, 107], [116, 97, 107, 101, 115], [97, 102, 116, 101, 114], [116, 111, 111, 108], [109, 97, 110], [102, 114, 111, 109], [102, 111, 114], [119, 105, 108, 108], [119, 111, 110, 116], [119, 101, 97, 114], [109, 111, 111, 100], [108, 105, 107, 101], [119, 111, 114, 107], [116, 97, 107, 101, 115], [97, 102, 116, 101, 114], [116, 111, 111, 108], [109, 97, 110], [102, 114, 111, 109], [102, 111, 114], [115, 107, 105, 108, 108], [101, 100, 103, 101], [109, 111, 111, 100, 115], [116, 111, 100, 97, 121], [107, 105, 110, 100], [115, 97, 109, 101], [98, 114, 97, 110, 99, 104], [98, 101, 108, 108], [119, 101, 101, 107, 100, 97, 121], [115, 101, 114, 118, 101, 100], [119, 104, 101, 110], [111, 114], [97, 110, 100], [110, 111, 116], [59, 43, 45, 42, 47, 40, 41, 60, 61, 62]]
def zNF : List Cond := [(Jvm.Cond.fieldLinkNest "ToolUnion$Yard" (102 : Nat) "ToolUnion" "serving" "LToolUnion$Text;" "ToolUnion"), (Jvm.Cond.fieldLinkNest "ToolUnion$Yard" (122 : Nat) "ToolUnion" "edges" "LToolUnion$Text;" "ToolUnion"), (Jvm.Cond.fieldLinkNest "ToolUnion$Yard" (153 : Nat) "ToolUnion" "hull" "[LToolUnion$Work;" "ToolUnion"), (Jvm.Cond.fieldLinkNest "ToolUnion$Yard" (182 : Nat) "ToolUnion" "rota" "[LToolUnion$Turn;" "ToolUnion"), (Jvm.Cond.fieldLinkNest "ToolUnion$Yard" (79 : Nat) "ToolUnion" "kindOf" "[I" "ToolUnion"), (Jvm.Cond.fieldLinkNest "ToolUnion$Yard" (88 : Nat) "ToolUnion" "branchOf" "[I" "ToolUnion"), (Jvm.Cond.fieldLinkNest "ToolUnion$Yard" (82 : Nat) "ToolUnion" "toolLeft" "[I" "ToolUnion"), (Jvm.Cond.fieldLinkNest "ToolUnion$Yard" (95 : Nat) "ToolUnion" "off" "[I" "ToolUnion"), (Jvm.Cond.fieldLinkNest "ToolUnion$Yard" (76 : Nat) "ToolUnion" "skill" "[I" "ToolUnion"), (Jvm.Cond.fieldLinkNest "ToolUnion$Yard" (85 : Nat) "ToolUnion" "manLeft" "[I" "ToolUnion"), (Jvm.Cond.fieldLinkNest "ToolUnion$Yard" (172 : Nat) "ToolUnion" "tools" "I" "ToolUnion"), (Jvm.Cond.fieldLinkNest "ToolUnion$Yard" (179 : Nat) "ToolUnion" "rust" "I" "ToolUnion"), (Jvm.Cond.fieldLinkNest "ToolUnion$Yard" (73 : Nat) "ToolUnion" "lawHas" "[I" "ToolUnion")]
theorem zNF_in : ∀ w ∈ zNF, w ∈ lw_tbl := by
  intro w hw
  simp only [zNF, List.mem_cons, List.not_mem_nil, or_false] at hw
  rcases hw with rfl | rfl | rfl | rfl | rfl | rfl | rfl | rfl | rfl | rfl | rfl | rfl | rfl
  · exact q346
  · exact q348
  · exact q350
  · exact q352
  · exact q353
  · exact q355
  · exact q357
  · exact q361
  · exact q362
  · exact q364
  · exact q366
  · exact q369
  · exact q372
def zNM : List Cond := [(Jvm.Cond.methodLinkNest "ToolUnion" (112 : Nat) ({ cls := "ToolUnion$Text", name := "<init>", desc := "()V" } : Jvm.MethodName) "ToolUnion"), (Jvm.Cond.methodLinkNest "ToolUnion" (161 : Nat) ({ cls := "ToolUnion$Yard", name := "<init>", desc := "(LToolUnion;)V" } : Jvm.MethodName) "ToolUnion"), (Jvm.Cond.methodLinkNest "ToolUnion" (387 : Nat) ({ cls := "ToolUnion$Work", name := "<init>", desc := "(III)V" } : Jvm.MethodName) "ToolUnion"), (Jvm.Cond.methodLinkNest "ToolUnion" (399 : Nat) ({ cls := "ToolUnion$Turn", name := "<init>", desc := "(IIIII)V" } : Jvm.MethodName) "ToolUnion"), (Jvm.Cond.methodLinkNest "ToolUnion$Yard" (34 : Nat) ({ cls := "ToolUnion", name := "copies", desc := "([I[I)V" } : Jvm.MethodName) "ToolUnion"), (Jvm.Cond.methodLinkNest "ToolUnion$Yard" (91 : Nat) ({ cls := "ToolUnion", name := "has", desc := "(II)Z" } : Jvm.MethodName) "ToolUnion"), (Jvm.Cond.methodLinkNest "ToolUnion$Yard" (140 : Nat) ({ cls := "ToolUnion", name := "held", desc := "(III)I" } : Jvm.MethodName) "ToolUnion"), (Jvm.Cond.methodLinkNest "ToolUnion$Yard" (216 : Nat) ({ cls := "ToolUnion", name := "notes", desc := "(LToolUnion$Turn;)V" } : Jvm.MethodName) "ToolUnion"), (Jvm.Cond.methodLinkNest "ToolUnion$Number" (1 : Nat) ({ cls := "ToolUnion$Term", name := "<init>", desc := "()V" } : Jvm.MethodName) "ToolUnion"), (Jvm.Cond.methodLinkNest "ToolUnion$Word" (1 : Nat) ({ cls := "ToolUnion$Term", name := "<init>", desc := "()V" } : Jvm.MethodName) "ToolUnion"), (Jvm.Cond.methodLinkNest "ToolUnion$Two" (1 : Nat) ({ cls := "ToolUnion$Term", name := "<init>", desc := "()V" } : Jvm.MethodName) "ToolUnion"), (Jvm.Cond.methodLinkNest "ToolUnion$Not" (1 : Nat) ({ cls := "ToolUnion$Term", name := "<init>", desc := "()V" } : Jvm.MethodName) "ToolUnion")]
theorem zNM_in : ∀ w ∈ zNM, w ∈ lw_tbl := by
  intro w hw
  simp only [zNM, List.mem_cons, List.not_mem_nil, or_false] at hw
  rcases hw with rfl | rfl | rfl | rfl | rfl | rfl | rfl | rfl | rfl | rfl | rfl | rfl
  · exact q220
  · exact q255
  · exact q779
  · exact q813
  · exact q930
  · exact q1009
  · exact q1092
  · exact q1094
  · exact q858
  · exact q871
  · exact q881
  · exact q913
def zNC : List Cond := [(Jvm.Cond.castable "ToolUnion$Fault" "ToolUnion$Fault"), (Jvm.Cond.castable "ToolUnion$Number" "ToolUnion$Term"), (Jvm.Cond.castable "ToolUnion$Word" "ToolUnion$Term"), (Jvm.Cond.castable "ToolUnion$Two" "ToolUnion$Term"), (Jvm.Cond.castable "ToolUnion$Not" "ToolUnion$Term"), (Jvm.Cond.castable "[I" "java/lang/Cloneable")]
theorem zNC_in : ∀ w ∈ zNC, w ∈ lw_tbl := by
  intro w hw
  simp only [zNC, List.mem_cons, List.not_mem_nil, or_false] at hw
  rcases hw with rfl | rfl | rfl | rfl | rfl | rfl
  · exact q701
  · exact q2030
  · exact q2031
  · exact q2032
  · exact q2033
  · exact q1333
def zND : List Cond := [(Jvm.Cond.declares ({ cls := "ToolUnion$Term", name := "of", desc := "([I)I" } : Jvm.MethodName)), (Jvm.Cond.declares ({ cls := "java/lang/Throwable", name := "<init>", desc := "()V" } : Jvm.MethodName)), (Jvm.Cond.declares ({ cls := "java/lang/Throwable", name := "<init>", desc := "(Ljava/lang/String;)V" } : Jvm.MethodName)), (Jvm.Cond.declares ({ cls := "java/lang/Exception", name := "<init>", desc := "()V" } : Jvm.MethodName)), (Jvm.Cond.declares ({ cls := "java/lang/Exception", name := "<init>", desc := "(Ljava/lang/String;)V" } : Jvm.MethodName))]
theorem zND_in : ∀ w ∈ zND, w ∈ lw_tbl := by
  intro w hw
  simp only [zND, List.mem_cons, List.not_mem_nil, or_false] at hw
  rcases hw with rfl | rfl | rfl | rfl | rfl
  · exact q1063
  · exact q704
  · exact q705
  · exact q702
  · exact q703
/-- what stays the same: class numbers and slots, array classes, Strings' and their bytes' places, statics' places, statics that may be null -/
abbrev zEnv : Type := va_G × (Nat → ClassId) × (Nat → Nat) × (Nat → Nat) × (Nat → Nat) × (Nat → Option Nat)
abbrev zEnv.dA (E : zEnv) : Nat → ClassId := E.2.1
abbrev zEnv.aK (E : zEnv) : Nat → Nat := E.2.2.1
abbrev zEnv.aV (E : zEnv) : Nat → Nat := E.2.2.2.1
abbrev zEnv.tk (E : zEnv) : Nat → Nat := E.2.2.2.2.1
abbrev zEnv.tv (E : zEnv) : Nat → Option Nat := E.2.2.2.2.2
/-- the arrays' types, by number -/
def zty : List FieldType := [.int, .boolean, .byte, .object "ToolUnion$Work", .object "ToolUnion$Turn", .object "ToolUnion$Term", .object "ToolUnion$Yard", .object "java/lang/String", .array .int, .array (.object "java/lang/String")]
def ztys (E : zEnv) : List (ClassId × FieldType) := [(E.dA 0, .int), (E.dA 1, .boolean), (E.dA 2, .byte), (E.dA 3, .object "ToolUnion$Work"), (E.dA 4, .object "ToolUnion$Turn"), (E.dA 5, .object "ToolUnion$Term"), (E.dA 6, .object "ToolUnion$Yard"), (E.dA 7, .object "java/lang/String"), (E.dA 8, .array .int), (E.dA 9, .array (.object "java/lang/String"))]
def zstl : List (String × String × String × Nat) := [("ToolUnion$Token", "END", "LToolUnion$Token;", 0), ("ToolUnion$Token", "NONE", "LToolUnion$Token;", 1), ("ToolUnion$Token", "WORD", "LToolUnion$Token;", 2), ("ToolUnion$Token", "NUMBER", "LToolUnion$Token;", 3), ("ToolUnion$Token", "SIGN", "LToolUnion$Token;", 4), ("ToolUnion", "LEAST_SET", "[I", 5), ("ToolUnion", "MOST_SET", "[I", 6), ("java/lang/Throwable", "UNASSIGNED_STACK", "[Ljava/lang/StackTraceElement;", 7), ("java/lang/Throwable", "SUPPRESSED_SENTINEL", "Ljava/util/List;", 8), ("java/lang/String", "COMPACT_STRINGS", "Z", 9), ("jdk/internal/util/Preconditions", "SIOOBE_FORMATTER", "Ljava/util/function/BiFunction;", 10)]
def zstv (E : zEnv) (j : Nat) : Value := if j < 7 then .ref (E.tk j) else if j = 9 then .int 1 else va_rf (E.tv j)
def zfix (b0 : Nat) : Nat → Prop := fun q => b0 ≤ q
def zStr (E : zEnv) (b0 : Nat) (U : State) (H : Heap) : Prop := ∀ i : Nat, i < zN → va_O "java/lang/String" (E.aK i) (zfix b0) U H ∧ va_OF "java/lang/String" "coder" "B" (.int 0) (E.aK i) (zfix b0) U H ∧ va_OF "java/lang/String" "value" "[B" (.ref (E.aV i)) (E.aK i) (zfix b0) U H ∧ va_T .byte (E.aV i) (zslen.getD i 0) (fun j => .int ((zsbyt.getD i []).getD j 0)) (zfix b0) U H
def zLeast (j : Nat) : Int32 := if j = 6 then 1 else 0
def zMost (j : Nat) : Int32 := [99, 99, 9, 7, 99, 1000, 80].getD j 0
def zSta (E : zEnv) (b0 : Nat) (U : State) (H : Heap) : Prop := (∀ q ∈ zstl, va_Z q.1 q.2.1 q.2.2.1 (zstv E q.2.2.2) (zfix b0) U H) ∧ va_T .int (E.tk 5) 7 (fun j => .int (zLeast j)) (zfix b0) U H ∧ va_T .int (E.tk 6) 7 (fun j => .int (zMost j)) (zfix b0) U H
def zAO : List String := ["ToolUnion$Work", "ToolUnion$Turn", "ToolUnion$Term", "ToolUnion$Yard", "java/lang/String"]
/-- the world at U -/
def zW (E : zEnv) (b0 : Nat) (U : State) : Prop :=
  va_K E.1 zcl (ztys E) U ∧ zStr E b0 U U.heap ∧ (∀ q ∈ zstr, vk_R q.1 q.2.1 q.2.2.1 (E.aK q.2.2.2) U) ∧ zSta E b0 U U.heap ∧ (∀ w ∈ zNF, va_Nw w U) ∧ (∀ w ∈ zNM, va_Nw w U) ∧ (∀ w ∈ zNC, va_Nw w U) ∧ (∀ w ∈ zND, va_Nw w U) ∧ (∀ C ∈ zAO, va_AO C U) ∧ b0 ≤ U.heap.size
theorem zW.same {E : zEnv} {b0 : Nat} {s U : State} (h : zW E b0 s) (hv : U.vm = s.vm) (hh : U.heap = s.heap) : zW E b0 U := by
  have ha : s.vm.Alike U.vm := by rw [hv]; exact Vm.Alike.refl _
  obtain ⟨h1, h2, h3, h4, h5, h6, h7, h8, h9, h10⟩ := h
  have nw : ∀ w : Cond, va_Nw w s → w.onTables = true → va_Nw w U := fun w q hw => va_Nw.same hw hv.symm q
  refine ⟨va_K.moved ha h1, fun i hi => ?_, fun q hq => vk_R.same hv (h3 q hq), ⟨fun q hq => by rw [hh]; exact va_Z.moved ha (h4.1 q hq), by rw [hh]; exact va_T.moved ha h4.2.1, by rw [hh]; exact va_T.moved ha h4.2.2⟩, fun w hw => ?_, fun w hw => ?_, fun w hw => ?_, fun w hw => ?_, fun C hC => va_AO.moved ha (h9 C hC), by rw [hh]; exact h10⟩
  · obtain ⟨a, b, c, d⟩ := h2 i hi
    rw [hh]
    exact ⟨va_O.moved ha a, va_OF.moved ha b, va_OF.moved ha c, va_T.moved ha d⟩
  · exact nw w (h5 w hw) (by revert w; decide +kernel)
  · exact nw w (h6 w hw) (by revert w; decide +kernel)
  · exact nw w (h7 w hw) (by revert w; decide +kernel)
  · exact nw w (h8 w hw) (by revert w; decide +kernel)
theorem zW.warm {E : zEnv} {b0 : Nat} {s U : State} (h : zW E b0 s) (hW : s.WarmedH U.vm) (hq : ∀ q : Nat, q < s.heap.size → ¬ zfix b0 q → U.heap[q]? = s.heap[q]?) (hz : s.heap.size ≤ U.heap.size) : zW E b0 U := by
  have ha : s.vm.Alike U.vm := hW.alike
  obtain ⟨h1, h2, h3, h4, h5, h6, h7, h8, h9, h10⟩ := h
  refine ⟨va_K.moved ha h1, fun i hi => ?_, fun q hq => vk_R.warm hW (h3 q hq), ⟨fun q hq' => va_Z.kept (va_Z.moved ha (h4.1 q hq')) hq, va_T.kept (va_T.moved ha h4.2.1) hq, va_T.kept (va_T.moved ha h4.2.2) hq⟩, fun w hw => ?_, fun w hw => ?_, fun w hw => ?_, fun w hw => ?_, fun C hC => va_AO.moved ha (h9 C hC), Nat.le_trans h10 hz⟩
  · obtain ⟨a, b, c, d⟩ := h2 i hi
    exact ⟨va_O.kept (va_O.moved ha a) hq, va_OF.kept (va_OF.moved ha b) hq, va_OF.kept (va_OF.moved ha c) hq, va_T.kept (va_T.moved ha d) hq⟩
  · have h := h5 w hw
    simp only [zNF, List.mem_cons, List.not_mem_nil, or_false] at hw
    rcases hw with rfl | rfl | rfl | rfl | rfl | rfl | rfl | rfl | rfl | rfl | rfl | rfl | rfl <;> exact va_Nw.warmF hW h
  · have h := h6 w hw
    simp only [zNM, List.mem_cons, List.not_mem_nil, or_false] at hw
    rcases hw with rfl | rfl | rfl | rfl | rfl | rfl | rfl | rfl | rfl | rfl | rfl | rfl <;> exact va_Nw.warmM hW h
  · have h := h7 w hw
    simp only [zNC, List.mem_cons, List.not_mem_nil, or_false] at hw
    rcases hw with rfl | rfl | rfl | rfl | rfl | rfl <;> exact va_Nw.warmC hW h
  · have h := h8 w hw
    simp only [zND, List.mem_cons, List.not_mem_nil, or_false] at hw
    rcases hw with rfl | rfl | rfl | rfl | rfl <;> exact va_Nw.warmD hW h
/-- the heap's own part: size, and what is known of the cells from b0 on -/
abbrev zG : Type := Nat → Option va_E
def zRep (E : zEnv) (b0 n : Nat) (g : zG) (H : Heap) : Prop := H.size = n ∧ b0 ≤ n ∧ ∃ ws : va_W, (∀ a o, g a = some o ↔ ∃ k : Nat, ws[k]? = some (a, o)) ∧ va_P E.1 zcl ws H ∧ va_D (zfix b0) ws
def zup (g : zG) (a : Nat) (o : va_E) : zG := fun q => if q = a then some o else g q
theorem zRep.at {E : zEnv} {b0 n : Nat} {g : zG} {H : Heap} (h : zRep E b0 n g H) {a : Nat} {o : va_E} (hg : g a = some o) : va_at E.1 zcl (a, o) H := by
  obtain ⟨-, -, ws, h1, h2, -⟩ := h
  obtain ⟨k, hk⟩ := (h1 a o).mp hg
  exact h2 k _ hk
theorem zRep.lt {E : zEnv} {b0 n : Nat} {g : zG} {H : Heap} (h : zRep E b0 n g H) {a : Nat} {o : va_E} (hg : g a = some o) : b0 ≤ a ∧ a < n := by
  obtain ⟨e, -, ws, h1, h2, h3⟩ := h
  obtain ⟨k, hk⟩ := (h1 a o).mp hg
  exact ⟨h3.2 k _ hk, by rw [← e]; exact (h2 k _ hk).lt⟩
theorem zRep.set {E : zEnv} {b0 n : Nat} {g : zG} {H H1 : Heap} {ws : va_W} {q0 a : Nat} {o o' : va_E} (hn : H.size = n) (hb : b0 ≤ n) (h1 : ∀ a o, g a = some o ↔ ∃ k : Nat, ws[k]? = some (a, o)) (h3 : va_D (zfix b0) ws) (hq : ws[q0]? = some (a, o)) (hz : H1.size = H.size)
    (hP : va_P E.1 zcl (ws.set q0 (a, o')) H1) (hD : va_D (zfix b0) (ws.set q0 (a, o'))) : zRep E b0 n (zup g a o') H1 := by
  refine ⟨hz.trans hn, hb, ws.set q0 (a, o'), fun x y => ?_, hP, hD⟩
  have hl : q0 < ws.length := (List.getElem?_eq_some_iff.mp hq).1
  unfold zup
  by_cases hx : x = a
  · subst hx
    rw [if_pos rfl]
    constructor
    · intro h
      cases h
      exact ⟨q0, by simp [hl]⟩
    · rintro ⟨k, hk⟩
      by_cases hkq : k = q0
      · subst hkq
        simp [hl] at hk
        rw [hk]
      · rw [List.getElem?_set_ne (Ne.symm hkq)] at hk
        exact absurd (h3.1 k q0 _ _ hk hq rfl) hkq
  · rw [if_neg hx, h1]
    constructor
    · rintro ⟨k, hk⟩
      have hkq : k ≠ q0 := fun e => by rw [e, hq] at hk; exact hx (congrArg Prod.fst (Option.some.inj hk)).symm
      exact ⟨k, by rw [List.getElem?_set_ne (Ne.symm hkq)]; exact hk⟩
    · rintro ⟨k, hk⟩
      by_cases hkq : k = q0
      · subst hkq
        simp [hl] at hk
        exact absurd hk.1.symm hx
      · rw [List.getElem?_set_ne (Ne.symm hkq)] at hk
        exact ⟨k, hk⟩
/-- a new cell at the heap's end -/
theorem zRep.push {E : zEnv} {b0 n : Nat} {g : zG} {H H1 : Heap} {o : va_E} (h : zRep E b0 n g H) (hz : H1.size = n + 1) (hk : ∀ q : Nat, q < n → H1[q]? = H[q]?) (ho : va_at E.1 zcl (n, o) H1) : zRep E b0 (n + 1) (zup g n o) H1 := by
  have hlt := fun {a o} (hg : g a = some o) => h.lt hg
  obtain ⟨e, hb, ws, h1, h2, h3⟩ := h
  have hfresh : ∀ (k : Nat) (q : Nat × va_E), ws[k]? = some q → q.1 < n := fun k q hk' => (hlt ((h1 q.1 q.2).mpr ⟨k, hk'⟩)).2
  refine ⟨hz, by omega, ws ++ [(n, o)], fun x y => ?_, ?_, ?_⟩
  · unfold zup
    by_cases hx : x = n
    · subst hx
      rw [if_pos rfl]
      constructor
      · intro h
        cases h
        exact ⟨ws.length, by simp⟩
      · rintro ⟨k, hk'⟩
        rcases Nat.lt_or_ge k ws.length with hl | hl
        · rw [List.getElem?_append_left hl] at hk'
          exact absurd (hfresh k _ hk') (Nat.lt_irrefl _)
        · rw [List.getElem?_append_right hl] at hk'
          cases hd : k - ws.length with
          | zero => rw [hd] at hk'; simp at hk'; rw [hk']
          | succ z => rw [hd] at hk'; simp at hk'
    · rw [if_neg hx, h1]
      constructor
      · rintro ⟨k, hk'⟩
        exact ⟨k, by rw [List.getElem?_append_left (List.getElem?_eq_some_iff.mp hk').1]; exact hk'⟩
      · rintro ⟨k, hk'⟩
        rcases Nat.lt_or_ge k ws.length with hl | hl
        · rw [List.getElem?_append_left hl] at hk'
          exact ⟨k, hk'⟩
        · rw [List.getElem?_append_right hl] at hk'
          cases hd : k - ws.length with
          | zero => rw [hd] at hk'; simp at hk'; exact absurd hk'.1.symm hx
          | succ z => rw [hd] at hk'; simp at hk'
  · refine va_P.app (fun k q hk' => (h2 k q hk').kept (hk _ (hfresh k q hk'))) ?_
    intro k q hk'
    cases k with
    | zero => simp at hk'; rw [← hk']; exact ho
    | succ z => simp at hk'
  · refine va_D.app h3 ⟨?_, ?_⟩ ?_
    · intro i j p q hi hj _
      cases i with
      | zero => cases j with
        | zero => rfl
        | succ z => simp at hj
      | succ z => simp at hi
    · intro k q hk'
      cases k with
      | zero => simp at hk'; rw [← hk']; exact hb
      | succ z => simp at hk'
    · intro i j p q hi hj hpq
      cases j with
      | zero =>
        simp at hj
        have := hfresh i p hi
        rw [← hj] at hpq
        simp only at hpq
        omega
      | succ z => simp at hj
