/-! ===== a small machine over the kit's W: pure instructions; the heap's instructions are a parameter ===== -/
abbrev zL : Type := List (Option Value)
def zget : zL → Nat → Option Value
  | [], _ => none
  | x :: _, 0 => x
  | _ :: t, n + 1 => zget t n
def zset : zL → Nat → Value → zL
  | [], _, _ => []
  | _ :: t, 0, v => some v :: t
  | x :: t, n + 1, v => x :: zset t n v
def zas : Nat → zL → List (Nat × Value)
  | _, [] => []
  | i, none :: t => zas (i + 1) t
  | i, some v :: t => (i, v) :: zas (i + 1) t
def zLr (ls : Array Slot) (L : zL) : Prop := lv_has ls L.length (zas 0 L) ∧ ∀ v, some v ∈ L → v.category = 1
theorem zset_len (L : zL) (i : Nat) (v : Value) : (zset L i v).length = L.length := by
  induction L generalizing i with
  | nil => rfl
  | cons x t ih =>
    cases i with
    | zero => rfl
    | succ n => simp [zset, ih]
theorem zas_in {L : zL} {i j : Nat} {v : Value} (h : (j, v) ∈ zas i L) : i ≤ j ∧ zget L (j - i) = some v := by
  induction L generalizing i with
  | nil => simp [zas] at h
  | cons x t ih =>
    cases x with
    | none =>
      obtain ⟨h1, h2⟩ := ih (i := i + 1) (by simpa [zas] using h)
      refine ⟨by omega, ?_⟩
      have e : j - i = (j - (i + 1)) + 1 := by omega
      rw [e]; exact h2
    | some w =>
      simp only [zas, List.mem_cons] at h
      rcases h with h | h
      · cases h
        exact ⟨Nat.le_refl _, by rw [Nat.sub_self]; rfl⟩
      · obtain ⟨h1, h2⟩ := ih (i := i + 1) h
        refine ⟨by omega, ?_⟩
        have e : j - i = (j - (i + 1)) + 1 := by omega
        rw [e]; exact h2
theorem zas_of {L : zL} {i n : Nat} {v : Value} (h : zget L n = some v) : (i + n, v) ∈ zas i L := by
  induction L generalizing i n with
  | nil => simp [zget] at h
  | cons x t ih =>
    cases n with
    | zero =>
      have h : x = some v := h
      subst h
      simp [zas]
    | succ n =>
      have h : zget t n = some v := h
      have := ih (i := i + 1) h
      have e : i + (n + 1) = i + 1 + n := by omega
      cases x with
      | none => rw [e]; exact this
      | some w => rw [e]; exact List.mem_cons_of_mem _ this
theorem zget_mem {L : zL} {n : Nat} {v : Value} (h : zget L n = some v) : some v ∈ L := by
  induction L generalizing n with
  | nil => simp [zget] at h
  | cons x t ih =>
    cases n with
    | zero =>
      have h : x = some v := h
      subst h
      simp
    | succ n => exact List.mem_cons_of_mem _ (ih h)
theorem zget_set {L : zL} {i j : Nat} {v w : Value} (h : zget (zset L i v) j = some w) : (j = i ∧ w = v) ∨ (j ≠ i ∧ zget L j = some w) := by
  induction L generalizing i j with
  | nil => simp [zset, zget] at h
  | cons x t ih =>
    cases i with
    | zero =>
      cases j with
      | zero =>
        have h : some v = some w := h
        exact Or.inl ⟨rfl, (Option.some.inj h).symm⟩
      | succ j => exact Or.inr ⟨by omega, h⟩
    | succ i =>
      cases j with
      | zero => exact Or.inr ⟨by omega, h⟩
      | succ j =>
        rcases ih (i := i) (j := j) h with ⟨a, b⟩ | ⟨a, b⟩
        · exact Or.inl ⟨by omega, b⟩
        · exact Or.inr ⟨by omega, b⟩
theorem zset_mem {L : zL} {i : Nat} {v w : Value} (h : some w ∈ zset L i v) : w = v ∨ some w ∈ L := by
  induction L generalizing i with
  | nil => simp [zset] at h
  | cons x t ih =>
    cases i with
    | zero =>
      simp only [zset, List.mem_cons] at h
      rcases h with h | h
      · exact Or.inl (Option.some.inj h)
      · exact Or.inr (List.mem_cons_of_mem _ h)
    | succ i =>
      simp only [zset, List.mem_cons] at h
      rcases h with h | h
      · exact Or.inr (by rw [h]; exact List.mem_cons_self)
      · rcases ih h with h | h
        · exact Or.inl h
        · exact Or.inr (List.mem_cons_of_mem _ h)
theorem zLr.get {ls : Array Slot} {L : zL} (h : zLr ls L) {i : Nat} {v : Value} (hg : zget L i = some v) : ls[i]? = some (.val v) := by
  have := h.1.2.2 (0 + i, v) (zas_of hg)
  simpa using this
theorem zLr.cat {ls : Array Slot} {L : zL} (h : zLr ls L) {i : Nat} {v : Value} (hg : zget L i = some v) : v.category = 1 := h.2 v (zget_mem hg)
theorem zLr.store {ls : Array Slot} {L : zL} (h : zLr ls L) {i : Nat} (hi : i < L.length) {v : Value} (hc : v.category = 1) : ∃ ls', storeLocals ls i v = some ls' ∧ zLr ls' (zset L i v) := by
  obtain ⟨ls', e, h'⟩ := lv_store1 h.1 hi hc
  refine ⟨ls', e, ⟨?_, ?_⟩⟩
  · rw [zset_len]
    refine ⟨h'.1, h'.2.1, ?_⟩
    rintro ⟨j, w⟩ hq
    obtain ⟨-, hg⟩ := zas_in hq
    rcases zget_set hg with ⟨a, b⟩ | ⟨a, b⟩
    · have a : j = i := by omega
      subst a; subst b
      exact h'.2.2 _ List.mem_cons_self
    · have a : j ≠ i := by omega
      refine h'.2.2 (j, w) (List.mem_cons_of_mem _ (List.mem_filter.mpr ⟨?_, ?_⟩))
      · have := zas_of (i := 0) b
        simpa using this
      · have hw := h.2 w (zget_mem b)
        simp [a, hw]
  · intro w hw
    rcases zset_mem hw with e | e
    · rw [e]; exact hc
    · exact h.2 w e
def zlen : Instr → Nat → Bool
  | .bipush _, n => n == 2
  | .iload _, n => n == 2
  | .aload _, n => n == 2
  | .istore _, n => n == 2
  | .astore _, n => n == 2
  | .ldc _, n => n == 2
  | .newarray _, n => n == 2
  | .sipush _, n => n == 3
  | .goto _, n => n == 3
  | .if_acmp _ _, n => n == 3
  | .if_icmp _ _, n => n == 3
  | .ifCond _ _, n => n == 3
  | .ifnull _, n => n == 3
  | .ifnonnull _, n => n == 3
  | .iinc _ _, n => n == 3
  | .getfield _, n => n == 3
  | .putfield _, n => n == 3
  | .getstatic _, n => n == 3
  | .invokestatic _, n => n == 3
  | .invokevirtual _, n => n == 3
  | .invokespecial _, n => n == 3
  | .new _, n => n == 3
  | .anewarray _, n => n == 3
  | .checkcast _, n => n == 3
  | .ldc_w _, n => n == 3
  | .tableswitch _ _ _ _, _ => true
  | .lookupswitch _ _, _ => true
  | _, n => n == 1
def zb2 (st : List Value) (k : Int32 → Int32 → List Value → Prop) : Prop := match st with
  | .int y :: .int x :: r => k x y r
  | _ => False
def zb1 (st : List Value) (k : Int32 → List Value → Prop) : Prop := match st with
  | .int x :: r => k x r
  | _ => False
def zldi (L : zL) (i : Nat) (k : Value → Prop) : Prop := match zget L i with
  | some (.int x) => k (.int x)
  | _ => False
def zlda (L : zL) (i : Nat) (k : Value → Prop) : Prop := match zget L i with
  | some (.ref x) => k (.ref x)
  | some .null => k .null
  | _ => False
def zsti (L : zL) (i : Nat) (st : List Value) (k : zL → List Value → Prop) : Prop := match st with
  | .int x :: r => i < L.length ∧ k (zset L i (.int x)) r
  | _ => False
def zsta (L : zL) (i : Nat) (st : List Value) (k : zL → List Value → Prop) : Prop := match st with
  | .ref x :: r => i < L.length ∧ k (zset L i (.ref x)) r
  | .null :: r => i < L.length ∧ k (zset L i .null) r
  | _ => False
def zinc (L : zL) (i : Nat) (n : Int) (k : zL → Prop) : Prop := match zget L i with
  | some (.int x) => i < L.length ∧ k (zset L i (.int (x + Int32.ofInt n)))
  | _ => False
def zjmp (pc : Nat) (off : Int) (k : Nat → Prop) : Prop := 0 ≤ (pc : Int) + off ∧ k ((pc : Int) + off).toNat
def zbr (o : Jvm.ClassFile.Cond) (x y : Int32) (pc : Nat) (off : Int) (k : Nat → Prop) : Prop := 0 ≤ (pc : Int) + off ∧ match o with
  | .eq => if x = y then k ((pc : Int) + off).toNat else k (pc + 3)
  | .ne => if x = y then k (pc + 3) else k ((pc : Int) + off).toNat
  | .lt => if x < y then k ((pc : Int) + off).toNat else k (pc + 3)
  | .ge => if x < y then k (pc + 3) else k ((pc : Int) + off).toNat
  | .gt => if y < x then k ((pc : Int) + off).toNat else k (pc + 3)
  | .le => if y < x then k (pc + 3) else k ((pc : Int) + off).toNat
def zbrA (o : ACond) (st : List Value) (pc : Nat) (off : Int) (k : Nat → List Value → Prop) : Prop := match st with
  | y :: x :: r => (∃ rx ry, x = va_rf rx ∧ y = va_rf ry) ∧ 0 ≤ (pc : Int) + off ∧ (match o with
    | .eq => if x = y then k ((pc : Int) + off).toNat r else k (pc + 3) r
    | .ne => if x = y then k (pc + 3) r else k ((pc : Int) + off).toNat r)
  | _ => False
def zbrN (o : Bool) (st : List Value) (pc : Nat) (off : Int) (k : Nat → List Value → Prop) : Prop := match st with
  | .null :: r => if o = true then zjmp pc off (fun t => k t r) else k (pc + 3) r
  | .ref _ :: r => if o = true then k (pc + 3) r else zjmp pc off (fun t => k t r)
  | _ => False
def zsw (x : Int32) (pc : Nat) (dflt : Int) (k : Nat → Prop) : Int → List Int → Prop
  | _, [] => zjmp pc dflt k
  | i, o :: t => if x = Int32.ofInt i then zjmp pc o k else zsw x pc dflt k (i + 1) t
def zretI (ret : Option FieldType) (v : Int32) : Prop := match ret with
  | some ty => narrow ty (.int v) = .int v
  | none => False
def zretA (ret : Option FieldType) : Prop := ∃ rt, ret = some rt ∧ ((∃ n, rt = .object n) ∨ ∃ t, rt = .array t)
def zstp {σ : Type} (ret : Option FieldType) (hp : Instr → List Value → σ → (List Value → σ → Prop) → Prop) (K : Option Value → σ → Prop)
    (S : Nat → zL → List Value → σ → Prop) (i : Instr) (len pc : Nat) (L : zL) (st : List Value) (s : σ) : Prop :=
  match i with
  | .aconst_null => S (pc + 1) L (.null :: st) s
  | .iconst n => S (pc + 1) L (.int (Int32.ofInt n) :: st) s
  | .bipush n => S (pc + 2) L (.int (Int8.ofInt n).toInt32 :: st) s
  | .sipush n => S (pc + 3) L (.int (Int16.ofInt n).toInt32 :: st) s
  | .iload k => zldi L k fun v => S (pc + 2) L (v :: st) s
  | .iload_n k => zldi L k fun v => S (pc + 1) L (v :: st) s
  | .aload k => zlda L k fun v => S (pc + 2) L (v :: st) s
  | .aload_n k => zlda L k fun v => S (pc + 1) L (v :: st) s
  | .istore k => zsti L k st fun L' r => S (pc + 2) L' r s
  | .istore_n k => zsti L k st fun L' r => S (pc + 1) L' r s
  | .astore k => zsta L k st fun L' r => S (pc + 2) L' r s
  | .astore_n k => zsta L k st fun L' r => S (pc + 1) L' r s
  | .iinc k n => zinc L k n fun L' => S (pc + 3) L' st s
  | .iadd => zb2 st fun x y r => S (pc + 1) L (.int (x + y) :: r) s
  | .isub => zb2 st fun x y r => S (pc + 1) L (.int (x - y) :: r) s
  | .imul => zb2 st fun x y r => S (pc + 1) L (.int (x * y) :: r) s
  | .idiv => zb2 st fun x y r => ¬ y = 0 ∧ S (pc + 1) L (.int (x / y) :: r) s
  | .irem => zb2 st fun x y r => ¬ y = 0 ∧ S (pc + 1) L (.int (x - x / y * y) :: r) s
  | .iand => zb2 st fun x y r => S (pc + 1) L (.int (x &&& y) :: r) s
  | .ior => zb2 st fun x y r => S (pc + 1) L (.int (x ||| y) :: r) s
  | .ixor => zb2 st fun x y r => S (pc + 1) L (.int (x ^^^ y) :: r) s
  | .ishl => zb2 st fun x y r => S (pc + 1) L (.int (x <<< (y &&& 31)) :: r) s
  | .ishr => zb2 st fun x y r => S (pc + 1) L (.int (x >>> (y &&& 31)) :: r) s
  | .iushr => zb2 st fun x y r => S (pc + 1) L (.int (x.toUInt32 >>> (y.toUInt32 &&& Int32.toUInt32 31)).toInt32 :: r) s
  | .ineg => zb1 st fun x r => S (pc + 1) L (.int (-x) :: r) s
  | .i2b => zb1 st fun x r => S (pc + 1) L (.int x.toInt8.toInt32 :: r) s
  | .i2c => zb1 st fun x r => S (pc + 1) L (.int (x.toUInt32 % 65536).toInt32 :: r) s
  | .dup => match st with
    | x :: r => x.category = 1 ∧ S (pc + 1) L (x :: x :: r) s
    | _ => False
  | .pop => match st with
    | x :: r => x.category = 1 ∧ S (pc + 1) L r s
    | _ => False
  | .dup_x1 => match st with
    | x :: y :: r => x.category = 1 ∧ y.category = 1 ∧ S (pc + 1) L (x :: y :: x :: r) s
    | _ => False
  | .dup2 => match st with
    | x :: y :: r => x.category = 1 ∧ y.category = 1 ∧ S (pc + 1) L (x :: y :: x :: y :: r) s
    | _ => False
  | .goto off => zjmp pc off fun t => S t L st s
  | .if_icmp o off => zb2 st fun x y r => zbr o x y pc off fun t => S t L r s
  | .ifCond o off => zb1 st fun x r => zbr o x 0 pc off fun t => S t L r s
  | .if_acmp o off => zbrA o st pc off fun t r => S t L r s
  | .ifnull off => zbrN true st pc off fun t r => S t L r s
  | .ifnonnull off => zbrN false st pc off fun t r => S t L r s
  | .tableswitch dflt lo hi offs => zb1 st fun x r => (-1000 ≤ lo ∧ lo ≤ hi ∧ hi ≤ 1000 ∧ (offs.size : Int) = hi - lo + 1) ∧ zsw x pc dflt (fun t => S t L r s) lo offs.toList
  | .ireturn => match st with
    | [.int v] => zretI ret v ∧ K (some (.int v)) s
    | _ => False
  | .areturn => match st with
    | [v] => zretA ret ∧ (v = .null ∨ ∃ a, v = .ref a) ∧ K (some v) s
    | _ => False
  | .return_ => match st with
    | [] => ret = none ∧ K none s
    | _ => False
  | i => hp i st s (fun st' s' => S (pc + len) L st' s')
def zone {σ : Type} (ret : Option FieldType) (hp : Instr → List Value → σ → (List Value → σ → Prop) → Prop) (K : Option Value → σ → Prop) (cc : ByteArray)
    (S : Nat → zL → List Value → σ → Prop) (pc : Nat) (L : zL) (st : List Value) (s : σ) : Prop :=
  match decode cc pc with
  | .ok q => bif zlen q.1 q.2 then zstp ret hp K S q.1 q.2 pc L st s else False
  | .error _ => False
def zrun {σ : Type} (ret : Option FieldType) (hp : Instr → List Value → σ → (List Value → σ → Prop) → Prop) (K : Option Value → σ → Prop) (cc : ByteArray) (stop : Nat → Bool)
    (S : Nat → zL → List Value → σ → Prop) : Nat → Nat → zL → List Value → σ → Prop
  | 0, pc, L, st, s => S pc L st s
  | n + 1, pc, L, st, s => bif stop pc then S pc L st s else zone ret hp K cc (zrun ret hp K cc stop S n) pc L st s
/-- S holds where one step more leads to S -/
def zClosed {σ : Type} (ret : Option FieldType) (hp : Instr → List Value → σ → (List Value → σ → Prop) → Prop) (K : Option Value → σ → Prop) (cc : ByteArray)
    (S : Nat → zL → List Value → σ → Prop) : Prop := ∀ pc L st s, zone ret hp K cc S pc L st s → S pc L st s
def zMono {σ : Type} (hp : Instr → List Value → σ → (List Value → σ → Prop) → Prop) : Prop := ∀ i st s (k k' : List Value → σ → Prop), (∀ st s, k st s → k' st s) → hp i st s k → hp i st s k'
theorem zb2_mono {st : List Value} {k k' : Int32 → Int32 → List Value → Prop} (h : ∀ x y r, k x y r → k' x y r) (q : zb2 st k) : zb2 st k' := by
  unfold zb2 at *
  split at q
  · exact h _ _ _ q
  · exact q
theorem zb1_mono {st : List Value} {k k' : Int32 → List Value → Prop} (h : ∀ x r, k x r → k' x r) (q : zb1 st k) : zb1 st k' := by
  unfold zb1 at *
  split at q
  · exact h _ _ q
  · exact q
theorem zldi_mono {L : zL} {i : Nat} {k k' : Value → Prop} (h : ∀ v, k v → k' v) (q : zldi L i k) : zldi L i k' := by
  unfold zldi at *
  split at q
  · exact h _ q
  · exact q
theorem zlda_mono {L : zL} {i : Nat} {k k' : Value → Prop} (h : ∀ v, k v → k' v) (q : zlda L i k) : zlda L i k' := by
  unfold zlda at *
  split at q
  · exact h _ q
  · exact h _ q
  · exact q
theorem zsti_mono {L : zL} {i : Nat} {st : List Value} {k k' : zL → List Value → Prop} (h : ∀ v r, k v r → k' v r) (q : zsti L i st k) : zsti L i st k' := by
  unfold zsti at *
  split at q
  · exact ⟨q.1, h _ _ q.2⟩
  · exact q
theorem zsta_mono {L : zL} {i : Nat} {st : List Value} {k k' : zL → List Value → Prop} (h : ∀ v r, k v r → k' v r) (q : zsta L i st k) : zsta L i st k' := by
  unfold zsta at *
  split at q
  · exact ⟨q.1, h _ _ q.2⟩
  · exact ⟨q.1, h _ _ q.2⟩
  · exact q
theorem zinc_mono {L : zL} {i : Nat} {n : Int} {k k' : zL → Prop} (h : ∀ v, k v → k' v) (q : zinc L i n k) : zinc L i n k' := by
  unfold zinc at *
  split at q
  · exact ⟨q.1, h _ q.2⟩
  · exact q
theorem zjmp_mono {pc : Nat} {off : Int} {k k' : Nat → Prop} (h : ∀ v, k v → k' v) (q : zjmp pc off k) : zjmp pc off k' := ⟨q.1, h _ q.2⟩
theorem zbr_mono {o : Jvm.ClassFile.Cond} {x y : Int32} {pc : Nat} {off : Int} {k k' : Nat → Prop} (h : ∀ v, k v → k' v) (q : zbr o x y pc off k) : zbr o x y pc off k' := by
  unfold zbr at *
  refine ⟨q.1, ?_⟩
  have q := q.2
  cases o <;> simp only at q ⊢ <;> split at q <;> rename_i hc <;> first | (rw [if_pos hc]; exact h _ q) | (rw [if_neg hc]; exact h _ q)
theorem zbrA_mono {o : ACond} {st : List Value} {pc : Nat} {off : Int} {k k' : Nat → List Value → Prop} (h : ∀ v r, k v r → k' v r) (q : zbrA o st pc off k) : zbrA o st pc off k' := by
  unfold zbrA at *
  split at q
  · refine ⟨q.1, q.2.1, ?_⟩
    have q := q.2.2
    cases o <;> simp only at q ⊢ <;> split at q <;> rename_i hc <;> first | (rw [if_pos hc]; exact h _ _ q) | (rw [if_neg hc]; exact h _ _ q)
  · exact q
theorem zbrN_mono {o : Bool} {st : List Value} {pc : Nat} {off : Int} {k k' : Nat → List Value → Prop} (h : ∀ v r, k v r → k' v r) (q : zbrN o st pc off k) : zbrN o st pc off k' := by
  unfold zbrN at *
  split at q <;> first | exact q | (cases o <;> simp only [if_true, if_false, Bool.false_eq_true] at q ⊢ <;> first | exact zjmp_mono (fun t => h t _) q | exact h _ _ q)
theorem zsw_mono {x : Int32} {pc : Nat} {dflt : Int} {k k' : Nat → Prop} (h : ∀ v, k v → k' v) (l : List Int) : ∀ i, zsw x pc dflt k i l → zsw x pc dflt k' i l := by
  induction l with
  | nil => exact fun i q => zjmp_mono h q
  | cons o t ih =>
    intro i q
    rw [zsw] at q ⊢
    split at q <;> rename_i hc
    · rw [if_pos hc]; exact zjmp_mono h q
    · rw [if_neg hc]; exact ih _ q
set_option maxHeartbeats 4000000 in
theorem zstp_mono {σ : Type} {ret : Option FieldType} {hp : Instr → List Value → σ → (List Value → σ → Prop) → Prop} (hm : zMono hp) {K : Option Value → σ → Prop}
    {S S' : Nat → zL → List Value → σ → Prop} (h : ∀ pc L st s, S pc L st s → S' pc L st s) {i : Instr} {len pc : Nat} {L : zL} {st : List Value} {s : σ} (q : zstp ret hp K S i len pc L st s) : zstp ret hp K S' i len pc L st s := by
  cases i <;> dsimp only [zstp] at q ⊢
  case aconst_null => exact h _ _ _ _ q
  case iconst => exact h _ _ _ _ q
  case bipush => exact h _ _ _ _ q
  case sipush => exact h _ _ _ _ q
  case iload => exact zldi_mono (fun v => h _ _ _ _) q
  case iload_n => exact zldi_mono (fun v => h _ _ _ _) q
  case aload => exact zlda_mono (fun v => h _ _ _ _) q
  case aload_n => exact zlda_mono (fun v => h _ _ _ _) q
  case istore => exact zsti_mono (fun v r => h _ _ _ _) q
  case istore_n => exact zsti_mono (fun v r => h _ _ _ _) q
  case astore => exact zsta_mono (fun v r => h _ _ _ _) q
  case astore_n => exact zsta_mono (fun v r => h _ _ _ _) q
  case iinc => exact zinc_mono (fun v => h _ _ _ _) q
  case iadd => exact zb2_mono (fun x y r => h _ _ _ _) q
  case isub => exact zb2_mono (fun x y r => h _ _ _ _) q
  case imul => exact zb2_mono (fun x y r => h _ _ _ _) q
  case idiv => exact zb2_mono (fun x y r z => ⟨z.1, h _ _ _ _ z.2⟩) q
  case irem => exact zb2_mono (fun x y r z => ⟨z.1, h _ _ _ _ z.2⟩) q
  case iand => exact zb2_mono (fun x y r => h _ _ _ _) q
  case ior => exact zb2_mono (fun x y r => h _ _ _ _) q
  case ixor => exact zb2_mono (fun x y r => h _ _ _ _) q
  case ishl => exact zb2_mono (fun x y r => h _ _ _ _) q
  case ishr => exact zb2_mono (fun x y r => h _ _ _ _) q
  case iushr => exact zb2_mono (fun x y r => h _ _ _ _) q
  case ineg => exact zb1_mono (fun x r => h _ _ _ _) q
  case i2b => exact zb1_mono (fun x r => h _ _ _ _) q
  case i2c => exact zb1_mono (fun x r => h _ _ _ _) q
  case dup =>
    rcases st with _ | ⟨x, r⟩
    · exact q
    · exact ⟨q.1, h _ _ _ _ q.2⟩
  case pop =>
    rcases st with _ | ⟨x, r⟩
    · exact q
    · exact ⟨q.1, h _ _ _ _ q.2⟩
  case dup_x1 =>
    rcases st with _ | ⟨x, _ | ⟨y, r⟩⟩
    · exact q
    · exact q
    · exact ⟨q.1, q.2.1, h _ _ _ _ q.2.2⟩
  case dup2 =>
    rcases st with _ | ⟨x, _ | ⟨y, r⟩⟩
    · exact q
    · exact q
    · exact ⟨q.1, q.2.1, h _ _ _ _ q.2.2⟩
  case goto => exact zjmp_mono (fun t => h _ _ _ _) q
  case if_icmp => exact zb2_mono (fun x y r z => zbr_mono (fun t => h _ _ _ _) z) q
  case ifCond => exact zb1_mono (fun x r z => zbr_mono (fun t => h _ _ _ _) z) q
  case if_acmp => exact zbrA_mono (fun t r => h _ _ _ _) q
  case ifnull => exact zbrN_mono (fun t r => h _ _ _ _) q
  case ifnonnull => exact zbrN_mono (fun t r => h _ _ _ _) q
  case tableswitch => exact zb1_mono (fun x r z => ⟨z.1, zsw_mono (fun t => h _ _ _ _) _ _ z.2⟩) q
  case ireturn => exact q
  case areturn => exact q
  case return_ => exact q
  all_goals exact hm _ _ _ _ _ (fun st s => h _ _ _ _) q
theorem zone_mono {σ : Type} {ret : Option FieldType} {hp : Instr → List Value → σ → (List Value → σ → Prop) → Prop} (hm : zMono hp) {K : Option Value → σ → Prop} {cc : ByteArray}
    {S S' : Nat → zL → List Value → σ → Prop} (h : ∀ pc L st s, S pc L st s → S' pc L st s) {pc : Nat} {L : zL} {st : List Value} {s : σ} (q : zone ret hp K cc S pc L st s) : zone ret hp K cc S' pc L st s := by
  unfold zone at *
  split at q
  · rename_i q0 _
    cases hz : zlen q0.1 q0.2 with
    | false => rw [hz] at q; exact q.elim
    | true => rw [hz] at q; exact zstp_mono hm h q
  · exact q
theorem zrun_S {σ : Type} {ret : Option FieldType} {hp : Instr → List Value → σ → (List Value → σ → Prop) → Prop} (hm : zMono hp) {K : Option Value → σ → Prop} {cc : ByteArray} {stop : Nat → Bool}
    {S : Nat → zL → List Value → σ → Prop} (hc : zClosed ret hp K cc S) (n : Nat) : ∀ {pc : Nat} {L : zL} {st : List Value} {s : σ}, zrun ret hp K cc stop S n pc L st s → S pc L st s := by
  induction n with
  | zero => exact fun q => q
  | succ n ih =>
    intro pc L st s q
    unfold zrun at q
    cases hs : stop pc with
    | true => rw [hs] at q; exact q
    | false => rw [hs] at q; exact hc _ _ _ _ (zone_mono hm (fun _ _ _ _ => ih) q)
/-- the first step is made even at a stop -/
theorem zgo {σ : Type} {ret : Option FieldType} {hp : Instr → List Value → σ → (List Value → σ → Prop) → Prop} {K : Option Value → σ → Prop} {cc : ByteArray}
    {S : Nat → zL → List Value → σ → Prop} (hm : zMono hp) (hc : zClosed ret hp K cc S) (stop : Nat → Bool) (n : Nat) {pc : Nat} {L : zL} {st : List Value} {s : σ} (q : zone ret hp K cc (zrun ret hp K cc stop S n) pc L st s) : S pc L st s :=
  hc _ _ _ _ (zone_mono hm (fun _ _ _ _ => zrun_S hm hc n) q)
/-! ===== the machine's states under S: W from every heap that the picture Rp fits ===== -/
def zS {σ : Type} (p : Program) (l : Launch) (e : Env) (R : Room) (s0 : State) (m : MethodId) (args : Array Value) (below : List Frame) (meth : Method) (c : Code) (Q : State → Prop) (nL : Nat)
    (Rp : σ → Heap → List Loc → Nat → Nat → Prop) (pc : Nat) (L : zL) (st : List Value) (s : σ) : Prop :=
  L.length = nL → ∀ (H : Heap) (locs : List Loc) (k z : Nat) (ls : Array Slot), zLr ls L → Rp s H locs k z → W p l e R s0 m args below meth c H locs k z Q (F0 m pc ls st)
section ZC
variable {p : Program} {l : Launch} {e : Env} {R : Room} {s0 : State} {m : MethodId} {args : Array Value} {below : List Frame} {meth : Method} {c : Code} {cc : ByteArray} {Q : State → Prop} {nL : Nat}
variable {H : Heap} {locs : List Loc} {k z : Nat} {ls : Array Slot} {st : List Value} {pc : Nat}
theorem zw_push (hx : p.tables.exec = Jvm.exec) (hb : c.code = cc) {i : Instr} {len : Nat} {v : Value} (hd : decode cc pc = .ok (i, len)) (hlen : zlen i len = true)
    (hi : (∃ j : Nat, (i = .aload j ∨ ∃ q : Fin 4, i = .aload_n q ∧ (q : Nat) = j) ∧ ls[j]? = some (.val v) ∧ (v = .null ∨ ∃ a, v = .ref a)))
    (kk : W p l e R s0 m args below meth c H locs k z Q (F0 m (pc + len) ls (v :: st))) : W p l e R s0 m args below meth c H locs k z Q (F0 m pc ls st) := by
  obtain ⟨j, hj, hl, hv⟩ := hi
  rcases hj with rfl | ⟨q, rfl, rfl⟩
  · have e2 : len = 2 := by simpa [zlen] using hlen
    subst e2
    rcases hv with rfl | ⟨a, rfl⟩
    · exact lv_aloadN hx hb hd hl kk
    · exact lv_aload hx hb hd hl kk
  · have e2 : len = 1 := by simpa [zlen] using hlen
    subst e2
    rcases hv with rfl | ⟨a, rfl⟩
    · exact lv_aload_nN hx hb hd rfl hl kk
    · exact lv_aload_n hx hb hd rfl hl kk
theorem zw_store (hx : p.tables.exec = Jvm.exec) (hb : c.code = cc) {i : Instr} {len : Nat} {v : Value} {L : zL} (hd : decode cc pc = .ok (i, len)) (hlen : zlen i len = true) (hL : zLr ls L) {j : Nat} (hj : j < L.length)
    (hi : ((i = .istore j ∨ ∃ q : Fin 4, i = .istore_n q ∧ (q : Nat) = j) ∧ ∃ x, v = .int x) ∨ ((i = .astore j ∨ ∃ q : Fin 4, i = .astore_n q ∧ (q : Nat) = j) ∧ (v = .null ∨ ∃ a, v = .ref a)))
    (kk : ∀ ls', zLr ls' (zset L j v) → W p l e R s0 m args below meth c H locs k z Q (F0 m (pc + len) ls' st)) : W p l e R s0 m args below meth c H locs k z Q (F0 m pc ls (v :: st)) := by
  have hc : v.category = 1 := by
    rcases hi with ⟨-, x, rfl⟩ | ⟨-, rfl | ⟨a, rfl⟩⟩ <;> rfl
  obtain ⟨ls', e', h'⟩ := hL.store hj hc
  intro T hT X
  obtain ⟨t, a, b⟩ := kk ls' h' T hT X
  refine ⟨t, ?_, b⟩
  rcases hi with ⟨rfl | ⟨q, rfl, rfl⟩, x, rfl⟩ | ⟨rfl | ⟨q, rfl, rfl⟩, rfl | ⟨y, rfl⟩⟩
  · have e2 : len = 2 := by simpa [zlen] using hlen
    subst e2
    jvm_step X.here [X.here.top, ↓top_set X.here.top, hx, hb, hd, e']
    exact a
  · have e2 : len = 1 := by simpa [zlen] using hlen
    subst e2
    jvm_step X.here [X.here.top, ↓top_set X.here.top, hx, hb, hd, e']
    exact a
  · have e2 : len = 2 := by simpa [zlen] using hlen
    subst e2
    jvm_step X.here [X.here.top, ↓top_set X.here.top, hx, hb, hd, e', Value.isRef]
    exact a
  · have e2 : len = 2 := by simpa [zlen] using hlen
    subst e2
    jvm_step X.here [X.here.top, ↓top_set X.here.top, hx, hb, hd, e', Value.isRef]
    exact a
  · have e2 : len = 1 := by simpa [zlen] using hlen
    subst e2
    jvm_step X.here [X.here.top, ↓top_set X.here.top, hx, hb, hd, e', Value.isRef]
    exact a
  · have e2 : len = 1 := by simpa [zlen] using hlen
    subst e2
    jvm_step X.here [X.here.top, ↓top_set X.here.top, hx, hb, hd, e', Value.isRef]
    exact a
theorem zw_inc (hx : p.tables.exec = Jvm.exec) (hb : c.code = cc) {j : Nat} {n : Int} {x : Int32} {L : zL} (hd : decode cc pc = .ok (.iinc j n, 3)) (hL : zLr ls L) (hg : zget L j = some (.int x)) (hj : j < L.length)
    (kk : ∀ ls', zLr ls' (zset L j (.int (x + Int32.ofInt n))) → W p l e R s0 m args below meth c H locs k z Q (F0 m (pc + 3) ls' st)) : W p l e R s0 m args below meth c H locs k z Q (F0 m pc ls st) := by
  obtain ⟨ls', e', h'⟩ := hL.store (v := .int (x + Int32.ofInt n)) hj rfl
  have hg' := hL.get hg
  intro T hT X
  obtain ⟨t, a, b⟩ := kk ls' h' T hT X
  refine ⟨t, ?_, b⟩
  jvm_step X.here [X.here.top, ↓top_set X.here.top, hx, hb, hd, hg', e']
  exact a
theorem zjmp_tgt {off : Int} {q : Nat → Prop} (h : zjmp pc off q) : ∃ t : Nat, (pc : Int) + off = (t : Int) ∧ q t := ⟨_, (Int.toNat_of_nonneg h.1).symm, h.2⟩
theorem zw_br {o : Jvm.ClassFile.Cond} {x y : Int32} {off : Int} {A : Prop} {q : Nat → Prop}
    (h : zbr o x y pc off q) (k1 : ∀ t : Nat, (pc : Int) + off = (t : Int) → (match o with | .eq => x = y | .ne => ¬ x = y | .lt => x < y | .ge => y ≤ x | .gt => y < x | .le => x ≤ y) → q t → A) (k2 : ∀ t : Nat, (pc : Int) + off = (t : Int) → ¬ (match o with | .eq => x = y | .ne => ¬ x = y | .lt => x < y | .ge => y ≤ x | .gt => y < x | .le => x ≤ y) → q (pc + 3) → A) : A := by
  unfold zbr at h
  have ht : (pc : Int) + off = (((pc : Int) + off).toNat : Int) := (Int.toNat_of_nonneg h.1).symm
  have h := h.2
  have k1 := k1 _ ht
  have k2 := k2 _ ht
  cases o <;> simp only at h k1 k2 <;> split at h <;> rename_i hc
  · exact k1 hc h
  · exact k2 hc h
  · exact k2 (fun f => f hc) h
  · exact k1 hc h
  · exact k1 hc h
  · exact k2 hc h
  · exact k2 (Int32.not_le.mpr hc) h
  · exact k1 (Int32.not_lt.mp hc) h
  · exact k1 hc h
  · exact k2 hc h
  · exact k2 (Int32.not_le.mpr hc) h
  · exact k1 (Int32.not_lt.mp hc) h
end ZC
theorem zsw_out {x : Int32} {pc : Nat} {dflt : Int} {k : Nat → Prop} : ∀ (l : List Int) (i : Int), zsw x pc dflt k i l → -1000 ≤ i → i + l.length ≤ 2000 → (x.toInt < i ∨ i + l.length ≤ x.toInt) → zjmp pc dflt k
  | [], _, h, _, _, _ => h
  | o :: t, i, h, h1, h2, h3 => by
    rw [zsw] at h
    simp only [List.length_cons] at h2 h3
    have e : (Int32.ofInt i).toInt = i := Int32.toInt_ofInt_of_le (by simp; omega) (by simp; omega)
    have hc : ¬ x = Int32.ofInt i := fun q => by rw [q, e] at h3; omega
    rw [if_neg hc] at h
    have hne : x.toInt ≠ i := fun q => hc (by rw [← q]; simp)
    exact zsw_out t (i + 1) h (by omega) (by omega) (by omega)
theorem zsw_in {x : Int32} {pc : Nat} {dflt : Int} {k : Nat → Prop} : ∀ (l : List Int) (i : Int), zsw x pc dflt k i l → -1000 ≤ i → i + l.length ≤ 2000 → i ≤ x.toInt → x.toInt < i + l.length → ∃ off, l[(x.toInt - i).toNat]? = some off ∧ zjmp pc off k
  | [], _, h, _, _, h4, h5 => by simp at h5; omega
  | o :: t, i, h, h1, h2, h4, h5 => by
    rw [zsw] at h
    simp only [List.length_cons] at h2 h5
    have e : (Int32.ofInt i).toInt = i := Int32.toInt_ofInt_of_le (by simp; omega) (by simp; omega)
    by_cases hc : x = Int32.ofInt i
    · rw [if_pos hc] at h
      refine ⟨o, ?_, h⟩
      rw [hc, e]; simp
    · rw [if_neg hc] at h
      have hne : x.toInt ≠ i := fun q => hc (by rw [← q]; simp)
      obtain ⟨off, a, b⟩ := zsw_in t (i + 1) h (by omega) (by omega) (by omega) (by omega)
      refine ⟨off, ?_, b⟩
      have e2 : (x.toInt - i).toNat = (x.toInt - (i + 1)).toNat + 1 := by omega
      rw [e2]; exact a
section ZC2
variable {p : Program} {l : Launch} {e : Env} {R : Room} {s0 : State} {m : MethodId} {args : Array Value} {below : List Frame} {meth : Method} {c : Code} {cc : ByteArray} {Q : State → Prop} {nL : Nat}
set_option maxHeartbeats 4000000 in
/-- the pure instructions' rows, all at once -/
theorem zclosed {σ : Type} {ret : Option FieldType} {hp : Instr → List Value → σ → (List Value → σ → Prop) → Prop} {K : Option Value → σ → Prop} {Rp : σ → Heap → List Loc → Nat → Nat → Prop}
    {Qc : Array Value → State → Outcome → State → Prop} {mc ms : Nat} {free : Addr → Prop}
    (hx : p.tables.exec = Jvm.exec) (hb : c.code = cc) (hr : meth.sig.returnType = ret) (hlocks : meth.locks = false)
    (hKq : ∀ v s H locs k z, Rp s H locs k z → K v s → (k ≤ mc ∧ z ≤ ms) ∧ (∀ q ∈ locs, free q.base) ∧ ∀ t : State, t.heap = H → s0.WarmedH t.vm → Qc args s0 (.returned v) t)
    (hQ : ∀ (H : Heap) (locs : List Loc) (g : JFrame), W p l e R s0 m args below meth c H locs mc ms (MQ below Qc args s0 mc ms free) g → W p l e R s0 m args below meth c H locs mc ms Q g)
    (hhp : ∀ i len pc L st s, decode cc pc = .ok (i, len) → zlen i len = true → hp i st s (fun st' s' => zS p l e R s0 m args below meth c Q nL Rp (pc + len) L st' s') → zS p l e R s0 m args below meth c Q nL Rp pc L st s) :
    zClosed ret hp K cc (zS p l e R s0 m args below meth c Q nL Rp) := by
  intro pc L st s h
  unfold zone at h
  split at h
  case h_2 => exact h.elim
  rename_i q hd
  obtain ⟨i, len⟩ := q
  dsimp only at h
  cases hlen : zlen i len with
  | false => rw [hlen] at h; exact h.elim
  | true =>
  rw [hlen] at h
  dsimp only [cond_true] at h
  have one : ∀ {n}, (n == 1) = true → n = 1 := fun h => by simpa using h
  have two : ∀ {n}, (n == 2) = true → n = 2 := fun h => by simpa using h
  have three : ∀ {n}, (n == 3) = true → n = 3 := fun h => by simpa using h
  cases i <;> dsimp only [zstp] at h
  case aconst_null => cases one hlen; exact fun hn H locs k z ls hL hR => lv_null hx hb hd (h hn H locs k z ls hL hR)
  case iconst => cases one hlen; exact fun hn H locs k z ls hL hR => lv_iconst hx hb hd rfl (h hn H locs k z ls hL hR)
  case bipush => cases two hlen; exact fun hn H locs k z ls hL hR => lv_bipush hx hb hd rfl (h hn H locs k z ls hL hR)
  case sipush => cases three hlen; exact fun hn H locs k z ls hL hR => lv_sipush hx hb hd rfl (h hn H locs k z ls hL hR)
  case iload =>
    cases two hlen
    unfold zldi at h
    split at h
    · rename_i x hg
      exact fun hn H locs k z ls hL hR => lv_iload hx hb hd (hL.get hg) (h hn H locs k z ls hL hR)
    · exact h.elim
  case iload_n =>
    cases one hlen
    unfold zldi at h
    split at h
    · rename_i x hg
      exact fun hn H locs k z ls hL hR => lv_iload_n hx hb hd rfl (hL.get hg) (h hn H locs k z ls hL hR)
    · exact h.elim
  case aload =>
    cases two hlen
    unfold zlda at h
    split at h
    · rename_i x hg
      exact fun hn H locs k z ls hL hR => lv_aload hx hb hd (hL.get hg) (h hn H locs k z ls hL hR)
    · rename_i hg
      exact fun hn H locs k z ls hL hR => lv_aloadN hx hb hd (hL.get hg) (h hn H locs k z ls hL hR)
    · exact h.elim
  case aload_n =>
    cases one hlen
    unfold zlda at h
    split at h
    · rename_i x hg
      exact fun hn H locs k z ls hL hR => lv_aload_n hx hb hd rfl (hL.get hg) (h hn H locs k z ls hL hR)
    · rename_i hg
      exact fun hn H locs k z ls hL hR => lv_aload_nN hx hb hd rfl (hL.get hg) (h hn H locs k z ls hL hR)
    · exact h.elim
  case istore =>
    unfold zsti at h
    split at h
    · exact fun hn H locs k z ls hL hR => zw_store hx hb hd hlen hL h.1 (Or.inl ⟨Or.inl rfl, _, rfl⟩) (fun ls' hL' => by cases two hlen; exact h.2 (by rw [zset_len]; exact hn) H locs k z ls' hL' hR)
    · exact h.elim
  case istore_n =>
    unfold zsti at h
    split at h
    · exact fun hn H locs k z ls hL hR => zw_store hx hb hd hlen hL h.1 (Or.inl ⟨Or.inr ⟨_, rfl, rfl⟩, _, rfl⟩) (fun ls' hL' => by cases one hlen; exact h.2 (by rw [zset_len]; exact hn) H locs k z ls' hL' hR)
    · exact h.elim
  case astore =>
    unfold zsta at h
    split at h
    · exact fun hn H locs k z ls hL hR => zw_store hx hb hd hlen hL h.1 (Or.inr ⟨Or.inl rfl, Or.inr ⟨_, rfl⟩⟩) (fun ls' hL' => by cases two hlen; exact h.2 (by rw [zset_len]; exact hn) H locs k z ls' hL' hR)
    · exact fun hn H locs k z ls hL hR => zw_store hx hb hd hlen hL h.1 (Or.inr ⟨Or.inl rfl, Or.inl rfl⟩) (fun ls' hL' => by cases two hlen; exact h.2 (by rw [zset_len]; exact hn) H locs k z ls' hL' hR)
    · exact h.elim
  case astore_n =>
    unfold zsta at h
    split at h
    · exact fun hn H locs k z ls hL hR => zw_store hx hb hd hlen hL h.1 (Or.inr ⟨Or.inr ⟨_, rfl, rfl⟩, Or.inr ⟨_, rfl⟩⟩) (fun ls' hL' => by cases one hlen; exact h.2 (by rw [zset_len]; exact hn) H locs k z ls' hL' hR)
    · exact fun hn H locs k z ls hL hR => zw_store hx hb hd hlen hL h.1 (Or.inr ⟨Or.inr ⟨_, rfl, rfl⟩, Or.inl rfl⟩) (fun ls' hL' => by cases one hlen; exact h.2 (by rw [zset_len]; exact hn) H locs k z ls' hL' hR)
    · exact h.elim
  case iinc =>
    cases three hlen
    unfold zinc at h
    split at h
    · rename_i hg
      exact fun hn H locs k z ls hL hR => zw_inc hx hb hd hL hg h.1 (fun ls' hL' => h.2 (by rw [zset_len]; exact hn) H locs k z ls' hL' hR)
    · exact h.elim
  case iadd => cases one hlen; unfold zb2 at h; split at h; exact fun hn H locs k z ls hL hR => lv_iadd hx hb hd (h hn H locs k z ls hL hR); exact h.elim
  case isub => cases one hlen; unfold zb2 at h; split at h; exact fun hn H locs k z ls hL hR => lv_isub hx hb hd (h hn H locs k z ls hL hR); exact h.elim
  case imul => cases one hlen; unfold zb2 at h; split at h; exact fun hn H locs k z ls hL hR => lv_imul hx hb hd (h hn H locs k z ls hL hR); exact h.elim
  case idiv => cases one hlen; unfold zb2 at h; split at h; exact fun hn H locs k z ls hL hR => lv_idiv hx hb hd h.1 (h.2 hn H locs k z ls hL hR); exact h.elim
  case irem => cases one hlen; unfold zb2 at h; split at h; exact fun hn H locs k z ls hL hR => lv_irem hx hb hd h.1 (h.2 hn H locs k z ls hL hR); exact h.elim
  case iand => cases one hlen; unfold zb2 at h; split at h; exact fun hn H locs k z ls hL hR => lv_iand hx hb hd (h hn H locs k z ls hL hR); exact h.elim
  case ior => cases one hlen; unfold zb2 at h; split at h; exact fun hn H locs k z ls hL hR => lv_ior hx hb hd (h hn H locs k z ls hL hR); exact h.elim
  case ixor => cases one hlen; unfold zb2 at h; split at h; exact fun hn H locs k z ls hL hR => lv_ixor hx hb hd (h hn H locs k z ls hL hR); exact h.elim
  case ishl => cases one hlen; unfold zb2 at h; split at h; exact fun hn H locs k z ls hL hR => lv_ishl hx hb hd (h hn H locs k z ls hL hR); exact h.elim
  case ishr => cases one hlen; unfold zb2 at h; split at h; exact fun hn H locs k z ls hL hR => lv_ishr hx hb hd (h hn H locs k z ls hL hR); exact h.elim
  case iushr => cases one hlen; unfold zb2 at h; split at h; exact fun hn H locs k z ls hL hR => lv_iushr hx hb hd rfl (h hn H locs k z ls hL hR); exact h.elim
  case ineg => cases one hlen; unfold zb1 at h; split at h; exact fun hn H locs k z ls hL hR => lv_ineg hx hb hd (h hn H locs k z ls hL hR); exact h.elim
  case i2b => cases one hlen; unfold zb1 at h; split at h; exact fun hn H locs k z ls hL hR => lv_i2b hx hb hd rfl (h hn H locs k z ls hL hR); exact h.elim
  case i2c => cases one hlen; unfold zb1 at h; split at h; exact fun hn H locs k z ls hL hR => lv_i2c hx hb hd rfl (h hn H locs k z ls hL hR); exact h.elim
  case dup => cases one hlen; split at h; exact fun hn H locs k z ls hL hR => lv_dup hx hb hd h.1 (h.2 hn H locs k z ls hL hR); exact h.elim
  case pop => cases one hlen; split at h; exact fun hn H locs k z ls hL hR => lv_pop hx hb hd h.1 (h.2 hn H locs k z ls hL hR); exact h.elim
  case dup_x1 => cases one hlen; split at h; exact fun hn H locs k z ls hL hR => lv_dup_x1 hx hb hd h.1 h.2.1 (h.2.2 hn H locs k z ls hL hR); exact h.elim
  case dup2 => cases one hlen; split at h; exact fun hn H locs k z ls hL hR => lv_dup2_11 hx hb hd h.1 h.2.1 (h.2.2 hn H locs k z ls hL hR); exact h.elim
  case goto =>
    cases three hlen
    obtain ⟨t, ht, h⟩ := zjmp_tgt h
    exact fun hn H locs k z ls hL hR => lv_goto hx hb hd ht (h hn H locs k z ls hL hR)
  case if_icmp o off =>
    cases three hlen
    unfold zb2 at h
    split at h
    case h_2 => exact h.elim
    intro hn H locs k z ls hL hR
    refine zw_br h (fun t ht hc hj => ?_) (fun t ht hc hj => ?_)
    · have := hj hn H locs k z ls hL hR
      cases o <;> dsimp only at hc
      · exact lv_icmp_eq hx hb hd ht (fun _ => this) (fun q => absurd hc q)
      · exact lv_icmp_ne hx hb hd ht (fun _ => this) (fun q => absurd q hc)
      · exact lv_icmp_lt hx hb hd ht (fun _ => this) (fun q => absurd hc q)
      · exact lv_icmp_ge hx hb hd ht (fun _ => this) (fun q => absurd hc q)
      · exact lv_icmp_gt hx hb hd ht (fun _ => this) (fun q => absurd hc q)
      · exact lv_icmp_le hx hb hd ht (fun _ => this) (fun q => absurd hc q)
    · have := hj hn H locs k z ls hL hR
      cases o <;> dsimp only at hc
      · exact lv_icmp_eq hx hb hd ht (fun q => absurd q hc) (fun _ => this)
      · exact lv_icmp_ne hx hb hd ht (fun q => absurd q hc) (fun _ => this)
      · exact lv_icmp_lt hx hb hd ht (fun q => absurd q hc) (fun _ => this)
      · exact lv_icmp_ge hx hb hd ht (fun q => absurd q hc) (fun _ => this)
      · exact lv_icmp_gt hx hb hd ht (fun q => absurd q hc) (fun _ => this)
      · exact lv_icmp_le hx hb hd ht (fun q => absurd q hc) (fun _ => this)
  case ifCond o off =>
    cases three hlen
    unfold zb1 at h
    split at h
    case h_2 => exact h.elim
    intro hn H locs k z ls hL hR
    refine zw_br h (fun t ht hc hj => ?_) (fun t ht hc hj => ?_)
    · have := hj hn H locs k z ls hL hR
      cases o <;> dsimp only at hc
      · exact lv_if_eq hx hb hd ht (fun _ => this) (fun q => absurd hc q)
      · exact lv_if_ne hx hb hd ht (fun _ => this) (fun q => absurd q hc)
      · exact lv_if_lt hx hb hd ht (fun _ => this) (fun q => absurd hc q)
      · exact lv_if_ge hx hb hd ht (fun _ => this) (fun q => absurd hc q)
      · exact lv_if_gt hx hb hd ht (fun _ => this) (fun q => absurd hc q)
      · exact lv_if_le hx hb hd ht (fun _ => this) (fun q => absurd hc q)
    · have := hj hn H locs k z ls hL hR
      cases o <;> dsimp only at hc
      · exact lv_if_eq hx hb hd ht (fun q => absurd q hc) (fun _ => this)
      · exact lv_if_ne hx hb hd ht (fun q => absurd q hc) (fun _ => this)
      · exact lv_if_lt hx hb hd ht (fun q => absurd q hc) (fun _ => this)
      · exact lv_if_ge hx hb hd ht (fun q => absurd q hc) (fun _ => this)
      · exact lv_if_gt hx hb hd ht (fun q => absurd q hc) (fun _ => this)
      · exact lv_if_le hx hb hd ht (fun q => absurd q hc) (fun _ => this)
  case if_acmp o off =>
    cases three hlen
    unfold zbrA at h
    split at h
    case h_2 => exact h.elim
    obtain ⟨⟨rx, ry, rfl, rfl⟩, hp, h⟩ := h
    have ht : (pc : Int) + off = (((pc : Int) + off).toNat : Int) := (Int.toNat_of_nonneg hp).symm
    have inj : va_rf rx = va_rf ry → rx = ry := by
      intro q
      cases rx <;> cases ry <;> first | rfl | (cases q; rfl) | cases q
    intro hn H locs k z ls hL hR
    cases o <;> dsimp only at h <;> split at h <;> rename_i hc
    · exact lv_acmp_eq hx hb hd ht (fun _ => h hn H locs k z ls hL hR) (fun q => absurd (inj hc) q)
    · exact lv_acmp_eq hx hb hd ht (fun q => absurd (by rw [q]) hc) (fun _ => h hn H locs k z ls hL hR)
    · exact lv_acmp_ne hx hb hd ht (fun q => absurd (inj hc) q) (fun _ => h hn H locs k z ls hL hR)
    · exact lv_acmp_ne hx hb hd ht (fun _ => h hn H locs k z ls hL hR) (fun q => absurd (by rw [q]) hc)
  case ifnull off =>
    cases three hlen
    unfold zbrN at h
    split at h
    · simp only [if_true] at h
      obtain ⟨t, ht, h⟩ := zjmp_tgt h
      exact fun hn H locs k z ls hL hR => lv_ifnullN hx hb hd ht (h hn H locs k z ls hL hR)
    · simp only [if_true] at h
      exact fun hn H locs k z ls hL hR => lv_ifnull hx hb hd (h hn H locs k z ls hL hR)
    · exact h.elim
  case ifnonnull off =>
    cases three hlen
    unfold zbrN at h
    split at h
    · simp only [Bool.false_eq_true, if_false] at h
      exact fun hn H locs k z ls hL hR => lv_ifnonnullN hx hb hd (h hn H locs k z ls hL hR)
    · simp only [Bool.false_eq_true, if_false] at h
      obtain ⟨t, ht, h⟩ := zjmp_tgt h
      exact fun hn H locs k z ls hL hR => lv_ifnonnull hx hb hd ht (h hn H locs k z ls hL hR)
    · exact h.elim
  case tableswitch dflt lo hi offs =>
    unfold zb1 at h
    split at h
    case h_2 => exact h.elim
    rename_i x r
    obtain ⟨⟨h1, h2, h3, h4⟩, h⟩ := h
    have h5 : (offs.toList.length : Int) = hi - lo + 1 := by simpa using h4
    intro hn H locs k z ls hL hR
    by_cases hc : x.toInt < lo ∨ hi < x.toInt
    · have hj := zsw_out _ _ h h1 (by omega) (by omega)
      obtain ⟨t, ht, hj⟩ := zjmp_tgt hj
      exact lv_tableOut hx hb hd hc ht (hj hn H locs k z ls hL hR)
    · obtain ⟨off, ho, hj⟩ := zsw_in _ _ h h1 (by omega) (by omega) (by omega)
      obtain ⟨t, ht, hj⟩ := zjmp_tgt hj
      exact lv_tableIn hx hb hd (fun q => hc (Or.inl q)) (fun q => hc (Or.inr q)) (by rw [← ho]; simp) ht (hj hn H locs k z ls hL hR)
  case ireturn =>
    cases one hlen
    split at h
    case h_2 => exact h.elim
    rename_i v
    obtain ⟨h1, h2⟩ := h
    unfold zretI at h1
    split at h1
    case h_2 => exact h1.elim
    rename_i ty
    intro hn H locs k z ls hL hR
    obtain ⟨⟨g1, g2⟩, g3, g4⟩ := hKq _ _ _ _ _ _ hR h2
    exact W.widen g1 g2 (hQ _ _ _ (W.zret (v := v) hx hb hr h1 g4 g3 hd hlocks))
  case areturn =>
    cases one hlen
    split at h
    case h_2 => exact h.elim
    rename_i v
    obtain ⟨⟨rt, h1, h1'⟩, h2, h3⟩ := h
    intro hn H locs k z ls hL hR
    obtain ⟨⟨g1, g2⟩, g3, g4⟩ := hKq _ _ _ _ _ _ hR h3
    exact W.widen g1 g2 (hQ _ _ _ (W.aret (v := v) hx hb (hr.trans h1) h1' h2 g4 g3 hd hlocks))
  case return_ =>
    cases one hlen
    split at h
    case h_2 => exact h.elim
    obtain ⟨h1, h2⟩ := h
    intro hn H locs k z ls hL hR
    obtain ⟨⟨g1, g2⟩, g3, g4⟩ := hKq _ _ _ _ _ _ hR h2
    exact W.widen g1 g2 (hQ _ _ _ (W.vret hx hb (hr.trans h1) g4 g3 hd hlocks))
  all_goals exact hhp _ _ _ _ _ _ hd hlen h
end ZC2
