/-! rows by rfl for simp -/
section ZRFL
variable {σ : Type} {ret : Option FieldType} {hp : Instr → List Value → σ → (List Value → σ → Prop) → Prop} {K : Option Value → σ → Prop} {S : Nat → zL → List Value → σ → Prop} {len pc : Nat} {L : zL} {st r : List Value} {s : σ}
theorem zs_aconst_null : zstp ret hp K S (.aconst_null) len pc L st s = (S (pc + 1) L (.null :: st) s) := rfl
theorem zs_iconst {n : Int} : zstp ret hp K S (.iconst n) len pc L st s = (S (pc + 1) L (.int (Int32.ofInt n) :: st) s) := rfl
theorem zs_bipush {n : Int} : zstp ret hp K S (.bipush n) len pc L st s = (S (pc + 2) L (.int (Int8.ofInt n).toInt32 :: st) s) := rfl
theorem zs_sipush {n : Int} : zstp ret hp K S (.sipush n) len pc L st s = (S (pc + 3) L (.int (Int16.ofInt n).toInt32 :: st) s) := rfl
theorem zs_iload {k : Nat} : zstp ret hp K S (.iload k) len pc L st s = (zldi L k fun v => S (pc + 2) L (v :: st) s) := rfl
theorem zs_iload_n {k : Fin 4} : zstp ret hp K S (.iload_n k) len pc L st s = (zldi L k fun v => S (pc + 1) L (v :: st) s) := rfl
theorem zs_aload {k : Nat} : zstp ret hp K S (.aload k) len pc L st s = (zlda L k fun v => S (pc + 2) L (v :: st) s) := rfl
theorem zs_aload_n {k : Fin 4} : zstp ret hp K S (.aload_n k) len pc L st s = (zlda L k fun v => S (pc + 1) L (v :: st) s) := rfl
theorem zs_istore {k : Nat} : zstp ret hp K S (.istore k) len pc L st s = (zsti L k st fun L' r => S (pc + 2) L' r s) := rfl
theorem zs_istore_n {k : Fin 4} : zstp ret hp K S (.istore_n k) len pc L st s = (zsti L k st fun L' r => S (pc + 1) L' r s) := rfl
theorem zs_astore {k : Nat} : zstp ret hp K S (.astore k) len pc L st s = (zsta L k st fun L' r => S (pc + 2) L' r s) := rfl
theorem zs_astore_n {k : Fin 4} : zstp ret hp K S (.astore_n k) len pc L st s = (zsta L k st fun L' r => S (pc + 1) L' r s) := rfl
theorem zs_iinc {k : Nat} {n : Int} : zstp ret hp K S (.iinc k n) len pc L st s = (zinc L k n fun L' => S (pc + 3) L' st s) := rfl
theorem zs_iadd : zstp ret hp K S (.iadd) len pc L st s = (zb2 st fun x y r => S (pc + 1) L (.int (x + y) :: r) s) := rfl
theorem zs_isub : zstp ret hp K S (.isub) len pc L st s = (zb2 st fun x y r => S (pc + 1) L (.int (x - y) :: r) s) := rfl
theorem zs_imul : zstp ret hp K S (.imul) len pc L st s = (zb2 st fun x y r => S (pc + 1) L (.int (x * y) :: r) s) := rfl
theorem zs_idiv : zstp ret hp K S (.idiv) len pc L st s = (zb2 st fun x y r => ¬ y = 0 ∧ S (pc + 1) L (.int (x / y) :: r) s) := rfl
theorem zs_irem : zstp ret hp K S (.irem) len pc L st s = (zb2 st fun x y r => ¬ y = 0 ∧ S (pc + 1) L (.int (x - x / y * y) :: r) s) := rfl
theorem zs_iand : zstp ret hp K S (.iand) len pc L st s = (zb2 st fun x y r => S (pc + 1) L (.int (x &&& y) :: r) s) := rfl
theorem zs_ior : zstp ret hp K S (.ior) len pc L st s = (zb2 st fun x y r => S (pc + 1) L (.int (x ||| y) :: r) s) := rfl
theorem zs_ixor : zstp ret hp K S (.ixor) len pc L st s = (zb2 st fun x y r => S (pc + 1) L (.int (x ^^^ y) :: r) s) := rfl
theorem zs_ishl : zstp ret hp K S (.ishl) len pc L st s = (zb2 st fun x y r => S (pc + 1) L (.int (x <<< (y &&& 31)) :: r) s) := rfl
theorem zs_ishr : zstp ret hp K S (.ishr) len pc L st s = (zb2 st fun x y r => S (pc + 1) L (.int (x >>> (y &&& 31)) :: r) s) := rfl
theorem zs_iushr : zstp ret hp K S (.iushr) len pc L st s = (zb2 st fun x y r => S (pc + 1) L (.int (x.toUInt32 >>> (y.toUInt32 &&& Int32.toUInt32 31)).toInt32 :: r) s) := rfl
theorem zs_ineg : zstp ret hp K S (.ineg) len pc L st s = (zb1 st fun x r => S (pc + 1) L (.int (-x) :: r) s) := rfl
theorem zs_i2b : zstp ret hp K S (.i2b) len pc L st s = (zb1 st fun x r => S (pc + 1) L (.int x.toInt8.toInt32 :: r) s) := rfl
theorem zs_i2c : zstp ret hp K S (.i2c) len pc L st s = (zb1 st fun x r => S (pc + 1) L (.int (x.toUInt32 % 65536).toInt32 :: r) s) := rfl
theorem zs_goto {off : Int} : zstp ret hp K S (.goto off) len pc L st s = (zjmp pc off fun t => S t L st s) := rfl
theorem zs_if_icmp {o : Jvm.ClassFile.Cond} {off : Int} : zstp ret hp K S (.if_icmp o off) len pc L st s = (zb2 st fun x y r => zbr o x y pc off fun t => S t L r s) := rfl
theorem zs_ifCond {o : Jvm.ClassFile.Cond} {off : Int} : zstp ret hp K S (.ifCond o off) len pc L st s = (zb1 st fun x r => zbr o x 0 pc off fun t => S t L r s) := rfl
theorem zs_if_acmp {o : ACond} {off : Int} : zstp ret hp K S (.if_acmp o off) len pc L st s = (zbrA o st pc off fun t r => S t L r s) := rfl
theorem zs_ifnull {off : Int} : zstp ret hp K S (.ifnull off) len pc L st s = (zbrN true st pc off fun t r => S t L r s) := rfl
theorem zs_ifnonnull {off : Int} : zstp ret hp K S (.ifnonnull off) len pc L st s = (zbrN false st pc off fun t r => S t L r s) := rfl
theorem zs_tableswitch {dflt : Int} {lo : Int} {hi : Int} {offs : Array Int} : zstp ret hp K S (.tableswitch dflt lo hi offs) len pc L st s = (zb1 st fun x r => (-1000 ≤ lo ∧ lo ≤ hi ∧ hi ≤ 1000 ∧ (offs.size : Int) = hi - lo + 1) ∧ zsw x pc dflt (fun t => S t L r s) lo offs.toList) := rfl
theorem zs_dup {x : Value} : zstp ret hp K S (.dup) len pc L (x :: r) s = (x.category = 1 ∧ S (pc + 1) L (x :: x :: r) s) := rfl
theorem zs_pop {x : Value} : zstp ret hp K S (.pop) len pc L (x :: r) s = (x.category = 1 ∧ S (pc + 1) L r s) := rfl
theorem zs_dup_x1 {x y : Value} : zstp ret hp K S (.dup_x1) len pc L (x :: y :: r) s = (x.category = 1 ∧ y.category = 1 ∧ S (pc + 1) L (x :: y :: x :: r) s) := rfl
theorem zs_dup2 {x y : Value} : zstp ret hp K S (.dup2) len pc L (x :: y :: r) s = (x.category = 1 ∧ y.category = 1 ∧ S (pc + 1) L (x :: y :: x :: y :: r) s) := rfl
theorem zs_ireturn {v : Int32} : zstp ret hp K S (.ireturn) len pc L ([.int v]) s = (zretI ret v ∧ K (some (.int v)) s) := rfl
theorem zs_areturn {v : Value} : zstp ret hp K S (.areturn) len pc L ([v]) s = (zretA ret ∧ (v = .null ∨ ∃ a, v = .ref a) ∧ K (some v) s) := rfl
theorem zs_return_ : zstp ret hp K S (.return_) len pc L ([]) s = (ret = none ∧ K none s) := rfl
theorem zs_getfield {x : Nat} : zstp ret hp K S (.getfield x) len pc L st s = hp (.getfield x) st s (fun st' s' => S (pc + len) L st' s') := rfl
theorem zs_putfield {x : Nat} : zstp ret hp K S (.putfield x) len pc L st s = hp (.putfield x) st s (fun st' s' => S (pc + len) L st' s') := rfl
theorem zs_getstatic {x : Nat} : zstp ret hp K S (.getstatic x) len pc L st s = hp (.getstatic x) st s (fun st' s' => S (pc + len) L st' s') := rfl
theorem zs_invokestatic {x : Nat} : zstp ret hp K S (.invokestatic x) len pc L st s = hp (.invokestatic x) st s (fun st' s' => S (pc + len) L st' s') := rfl
theorem zs_invokevirtual {x : Nat} : zstp ret hp K S (.invokevirtual x) len pc L st s = hp (.invokevirtual x) st s (fun st' s' => S (pc + len) L st' s') := rfl
theorem zs_invokespecial {x : Nat} : zstp ret hp K S (.invokespecial x) len pc L st s = hp (.invokespecial x) st s (fun st' s' => S (pc + len) L st' s') := rfl
theorem zs_new {x : Nat} : zstp ret hp K S (.new x) len pc L st s = hp (.new x) st s (fun st' s' => S (pc + len) L st' s') := rfl
theorem zs_anewarray {x : Nat} : zstp ret hp K S (.anewarray x) len pc L st s = hp (.anewarray x) st s (fun st' s' => S (pc + len) L st' s') := rfl
theorem zs_newarray {x : ArrayType} : zstp ret hp K S (.newarray x) len pc L st s = hp (.newarray x) st s (fun st' s' => S (pc + len) L st' s') := rfl
theorem zs_checkcast {x : Nat} : zstp ret hp K S (.checkcast x) len pc L st s = hp (.checkcast x) st s (fun st' s' => S (pc + len) L st' s') := rfl
theorem zs_ldc {x : Nat} : zstp ret hp K S (.ldc x) len pc L st s = hp (.ldc x) st s (fun st' s' => S (pc + len) L st' s') := rfl
theorem zs_ldc_w {x : Nat} : zstp ret hp K S (.ldc_w x) len pc L st s = hp (.ldc_w x) st s (fun st' s' => S (pc + len) L st' s') := rfl
theorem zs_iaload : zstp ret hp K S (.iaload) len pc L st s = hp (.iaload) st s (fun st' s' => S (pc + len) L st' s') := rfl
theorem zs_iastore : zstp ret hp K S (.iastore) len pc L st s = hp (.iastore) st s (fun st' s' => S (pc + len) L st' s') := rfl
theorem zs_baload : zstp ret hp K S (.baload) len pc L st s = hp (.baload) st s (fun st' s' => S (pc + len) L st' s') := rfl
theorem zs_bastore : zstp ret hp K S (.bastore) len pc L st s = hp (.bastore) st s (fun st' s' => S (pc + len) L st' s') := rfl
theorem zs_aaload : zstp ret hp K S (.aaload) len pc L st s = hp (.aaload) st s (fun st' s' => S (pc + len) L st' s') := rfl
theorem zs_aastore : zstp ret hp K S (.aastore) len pc L st s = hp (.aastore) st s (fun st' s' => S (pc + len) L st' s') := rfl
theorem zs_arraylength : zstp ret hp K S (.arraylength) len pc L st s = hp (.arraylength) st s (fun st' s' => S (pc + len) L st' s') := rfl
theorem zs_athrow : zstp ret hp K S (.athrow) len pc L st s = hp (.athrow) st s (fun st' s' => S (pc + len) L st' s') := rfl
theorem zl_aconst_null : zlen (.aconst_null) 1 = true := rfl
theorem zl_iconst {x0 : Int} : zlen (.iconst x0) 1 = true := rfl
theorem zl_bipush {x0 : Int} : zlen (.bipush x0) 2 = true := rfl
theorem zl_sipush {x0 : Int} : zlen (.sipush x0) 3 = true := rfl
theorem zl_iload {x0 : Nat} : zlen (.iload x0) 2 = true := rfl
theorem zl_iload_n {x0 : Fin 4} : zlen (.iload_n x0) 1 = true := rfl
theorem zl_aload {x0 : Nat} : zlen (.aload x0) 2 = true := rfl
theorem zl_aload_n {x0 : Fin 4} : zlen (.aload_n x0) 1 = true := rfl
theorem zl_istore {x0 : Nat} : zlen (.istore x0) 2 = true := rfl
theorem zl_istore_n {x0 : Fin 4} : zlen (.istore_n x0) 1 = true := rfl
theorem zl_astore {x0 : Nat} : zlen (.astore x0) 2 = true := rfl
theorem zl_astore_n {x0 : Fin 4} : zlen (.astore_n x0) 1 = true := rfl
theorem zl_iinc {x0 : Nat} {x1 : Int} : zlen (.iinc x0 x1) 3 = true := rfl
theorem zl_iadd : zlen (.iadd) 1 = true := rfl
theorem zl_isub : zlen (.isub) 1 = true := rfl
theorem zl_imul : zlen (.imul) 1 = true := rfl
theorem zl_idiv : zlen (.idiv) 1 = true := rfl
theorem zl_irem : zlen (.irem) 1 = true := rfl
theorem zl_iand : zlen (.iand) 1 = true := rfl
theorem zl_ior : zlen (.ior) 1 = true := rfl
theorem zl_ixor : zlen (.ixor) 1 = true := rfl
theorem zl_ishl : zlen (.ishl) 1 = true := rfl
theorem zl_ishr : zlen (.ishr) 1 = true := rfl
theorem zl_iushr : zlen (.iushr) 1 = true := rfl
theorem zl_ineg : zlen (.ineg) 1 = true := rfl
theorem zl_i2b : zlen (.i2b) 1 = true := rfl
theorem zl_i2c : zlen (.i2c) 1 = true := rfl
theorem zl_goto {x0 : Int} : zlen (.goto x0) 3 = true := rfl
theorem zl_if_icmp {x0 : Jvm.ClassFile.Cond} {x1 : Int} : zlen (.if_icmp x0 x1) 3 = true := rfl
theorem zl_ifCond {x0 : Jvm.ClassFile.Cond} {x1 : Int} : zlen (.ifCond x0 x1) 3 = true := rfl
theorem zl_if_acmp {x0 : ACond} {x1 : Int} : zlen (.if_acmp x0 x1) 3 = true := rfl
theorem zl_ifnull {x0 : Int} : zlen (.ifnull x0) 3 = true := rfl
theorem zl_ifnonnull {x0 : Int} : zlen (.ifnonnull x0) 3 = true := rfl
theorem zl_tableswitch {x0 : Int} {x1 : Int} {x2 : Int} {x3 : Array Int} : zlen (.tableswitch x0 x1 x2 x3) len = true := rfl
theorem zl_dup : zlen (.dup) 1 = true := rfl
theorem zl_pop : zlen (.pop) 1 = true := rfl
theorem zl_dup_x1 : zlen (.dup_x1) 1 = true := rfl
theorem zl_dup2 : zlen (.dup2) 1 = true := rfl
theorem zl_ireturn : zlen (.ireturn) 1 = true := rfl
theorem zl_areturn : zlen (.areturn) 1 = true := rfl
theorem zl_return_ : zlen (.return_) 1 = true := rfl
theorem zl_getfield {x0 : Nat} : zlen (.getfield x0) 3 = true := rfl
theorem zl_putfield {x0 : Nat} : zlen (.putfield x0) 3 = true := rfl
theorem zl_getstatic {x0 : Nat} : zlen (.getstatic x0) 3 = true := rfl
theorem zl_invokestatic {x0 : Nat} : zlen (.invokestatic x0) 3 = true := rfl
theorem zl_invokevirtual {x0 : Nat} : zlen (.invokevirtual x0) 3 = true := rfl
theorem zl_invokespecial {x0 : Nat} : zlen (.invokespecial x0) 3 = true := rfl
theorem zl_new {x0 : Nat} : zlen (.new x0) 3 = true := rfl
theorem zl_anewarray {x0 : Nat} : zlen (.anewarray x0) 3 = true := rfl
theorem zl_newarray {x0 : ArrayType} : zlen (.newarray x0) 2 = true := rfl
theorem zl_checkcast {x0 : Nat} : zlen (.checkcast x0) 3 = true := rfl
theorem zl_ldc {x0 : Nat} : zlen (.ldc x0) 2 = true := rfl
theorem zl_ldc_w {x0 : Nat} : zlen (.ldc_w x0) 3 = true := rfl
theorem zl_iaload : zlen (.iaload) 1 = true := rfl
theorem zl_iastore : zlen (.iastore) 1 = true := rfl
theorem zl_baload : zlen (.baload) 1 = true := rfl
theorem zl_bastore : zlen (.bastore) 1 = true := rfl
theorem zl_aaload : zlen (.aaload) 1 = true := rfl
theorem zl_aastore : zlen (.aastore) 1 = true := rfl
theorem zl_arraylength : zlen (.arraylength) 1 = true := rfl
theorem zl_athrow : zlen (.athrow) 1 = true := rfl
end ZRFL
theorem zcn_i8 {n : Int} (h1 : -128 ≤ n) (h2 : n < 128) : (Int8.ofInt n).toInt32 = Int32.ofInt n := by
  apply Int32.toInt_inj.mp
  rw [Int8.toInt_toInt32, Int8.toInt_ofInt_of_le (by simpa using h1) (by simpa using h2), Int32.toInt_ofInt_of_le (by simp; omega) (by simp; omega)]
theorem zcn_i16 {n : Int} (h1 : -32768 ≤ n) (h2 : n < 32768) : (Int16.ofInt n).toInt32 = Int32.ofInt n := by
  apply Int32.toInt_inj.mp
  rw [Int16.toInt_toInt32, Int16.toInt_ofInt_of_le (by simpa using h1) (by simpa using h2), Int32.toInt_ofInt_of_le (by simp; omega) (by simp; omega)]
theorem zret_int {v : Int32} : zretI (some .int) v = True := by simp [zretI, narrow]
theorem zret_b0 : zretI (some .boolean) 0 = True := by simp only [zretI]; exact eq_true (by decide)
theorem zret_b1 : zretI (some .boolean) 1 = True := by simp only [zretI]; exact eq_true (by decide)
def zbi (c : Bool) : Int32 := if c = true then 1 else 0
theorem zbi_01 (c : Bool) : zbi c = 0 ∨ zbi c = 1 := by cases c <;> simp [zbi]
theorem zret_b {c : Bool} : zretI (some .boolean) (zbi c) = True := by cases c <;> simp only [zretI] <;> exact eq_true (by decide)
theorem zbi_e0 {c : Bool} : (zbi c = 0) = (c = false) := by cases c <;> simp [zbi]
theorem zbi_e1 {c : Bool} : (zbi c = 1) = (c = true) := by cases c <;> simp [zbi]
theorem zbi_t : zbi true = 1 := rfl
theorem zbi_f : zbi false = 0 := rfl
theorem zfix_jmp {P : Prop} : (True ∧ P) = P := true_and P
theorem zF_1 {m : zM} {j q : Nat} {v : Int32} : (zF m j v).1 q = if q = j then v else m.1 q := rfl
theorem zF_2 {m : zM} {j : Nat} {v : Int32} : (zF m j v).2 = m.2 := rfl
theorem zA_1 {m : zM} {h i : Nat} {v : Int32} : (zA m h i v).1 = m.1 := rfl
theorem zA_2 {m : zM} {h i q : Nat} {v : Int32} : (zA m h i v).2 q = if q = h then upd (m.2 h) i v else m.2 q := rfl
theorem zMhp_iS {E : zEnv} {b x : Nat} {Γ : zΓ zM} {st : List Value} {m : zM} {k : List Value → zM → Prop} : zMhp E b Γ (.invokestatic x) st m k = zcallS Γ x st m k := rfl
theorem zMhp_iV {E : zEnv} {b x : Nat} {Γ : zΓ zM} {st : List Value} {m : zM} {k : List Value → zM → Prop} : zMhp E b Γ (.invokevirtual x) st m k = zcallV b Γ x st m k := rfl
theorem zIhp_iS {σ : Type} {x : Nat} {Γ : zΓ σ} {st : List Value} {m : σ} {k : List Value → σ → Prop} : zIhp Γ (.invokestatic x) st m k = zcallS Γ x st m k := rfl
theorem zInv.weak {l : Launch} {E : zEnv} {b0 d0 n mc ms : Nat} {own : String} {i : Instr} {rc : Option Nat} {T T' : zT zσ} (h : zInv l E b0 own d0 i n rc mc ms T) (hT : ∀ as s K, T' as s K → T as s K) : zInv l E b0 own d0 i n rc mc ms T' :=
  fun p e R s0 m args below meth c cc nL Q H locs k z ls pc as rest s a1 a2 a3 a4 a5 a6 a7 a8 a9 a10 a11 => h p e R s0 m args below meth c cc nL Q H locs k z ls pc as rest s a1 a2 a3 a4 a5 a6 a7 a8 a9 a10 (hT _ _ _ a11)
abbrev zIokq (l : Launch) (E : zEnv) (b0 : Nat) (own : String) (d0 : Nat) (q : Nat × Bool × Nat × zT zσ) : Prop := zTm q.2.2.2 ∧ q.2.1 = false ∧ zInv l E b0 own d0 (.invokestatic q.1) q.2.2.1 none 0 0 q.2.2.2
abbrev zΓokq (l : Launch) (E : zEnv) (b0 d0 : Nat) (q : Nat × Bool × Nat × zT zM) : Prop := zTm q.2.2.2 ∧ (q.2.1 = true → zInv l E b0 RX3 d0 (.invokevirtual q.1) (q.2.2.1 + 1) (some 0) 0 0 (zlV E q.2.2.2)) ∧ (q.2.1 = false → zInv l E b0 RX3 d0 (.invokestatic q.1) q.2.2.1 none 0 0 (zlS E q.2.2.2))
theorem zIok_nil {l : Launch} {E : zEnv} {b0 d0 : Nat} {own : String} : zIok l E b0 own d0 [] := fun _ h => nomatch h
theorem zIok_cons {l : Launch} {E : zEnv} {b0 d0 : Nat} {own : String} {q : Nat × Bool × Nat × zT zσ} {t : zΓ zσ} (h : zIokq l E b0 own d0 q) (ht : zIok l E b0 own d0 t) : zIok l E b0 own d0 (q :: t) := by
  intro x hx
  rcases List.mem_cons.mp hx with rfl | hx
  · exact h
  · exact ht x hx
theorem zΓok_nil {l : Launch} {E : zEnv} {b0 d0 : Nat} : zΓok l E b0 d0 [] := fun _ h => nomatch h
theorem zΓok_cons {l : Launch} {E : zEnv} {b0 d0 : Nat} {q : Nat × Bool × Nat × zT zM} {t : zΓ zM} (h : zΓokq l E b0 d0 q) (ht : zΓok l E b0 d0 t) : zΓok l E b0 d0 (q :: t) := by
  intro x hx
  rcases List.mem_cons.mp hx with rfl | hx
  · exact h
  · exact ht x hx
