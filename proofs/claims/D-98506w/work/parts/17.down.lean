/-! rows for going through a body from the top down -/
section ZDN
variable {σ : Type} {ret : Option FieldType} {hp : Instr → List Value → σ → (List Value → σ → Prop) → Prop} {K : Option Value → σ → Prop} {cc : ByteArray} {S : Nat → zL → List Value → σ → Prop} {len pc t : Nat} {L : zL} {st r : List Value} {s : σ} {off : Int}
theorem zone_of {i : Instr} (hd : decode cc pc = .ok (i, len)) (hl : zlen i len = true) : zone ret hp K cc S pc L st s = zstp ret hp K S i len pc L st s := by
  unfold zone
  rw [hd]
  dsimp only
  rw [hl]
  rfl
theorem zjmp_of {k : Nat → Prop} (h : (pc : Int) + off = (t : Int)) : zjmp pc off k = k t := by
  unfold zjmp
  rw [h]
  simp
theorem zone_goto (hd : decode cc pc = .ok (.goto off, 3)) (h : (pc : Int) + off = (t : Int)) : zone ret hp K cc S pc L st s = S t L st s := by
  rw [zone_of hd rfl]
  exact zjmp_of (k := fun t => S t L st s) h
theorem zbr_of {o : Jvm.ClassFile.Cond} {x y : Int32} {k : Nat → Prop} (h : (pc : Int) + off = (t : Int)) : zbr o x y pc off k = (match o with
  | .eq => if x = y then k t else k (pc + 3)
  | .ne => if x = y then k (pc + 3) else k t
  | .lt => if x < y then k t else k (pc + 3)
  | .ge => if x < y then k (pc + 3) else k t
  | .gt => if y < x then k t else k (pc + 3)
  | .le => if y < x then k (pc + 3) else k t) := by
  unfold zbr
  rw [h]
  have : (0 : Int) ≤ (t : Int) := Int.natCast_nonneg t
  cases o <;> simp [this]
theorem zone_ic_eq (hd : decode cc pc = .ok (.if_icmp .eq off, 3)) (h : (pc : Int) + off = (t : Int)) : zone ret hp K cc S pc L st s = (zb2 st fun x y r => if x = y then S t L r s else S (pc + 3) L r s) := by
  rw [zone_of hd rfl]
  show (zb2 st fun x y r => zbr .eq x y pc off fun t => S t L r s) = _
  congr 1
  funext x y r
  exact zbr_of h
theorem zone_if_eq (hd : decode cc pc = .ok (.ifCond .eq off, 3)) (h : (pc : Int) + off = (t : Int)) : zone ret hp K cc S pc L st s = (zb1 st fun x r => if x = 0 then S t L r s else S (pc + 3) L r s) := by
  rw [zone_of hd rfl]
  show (zb1 st fun x r => zbr .eq x 0 pc off fun t => S t L r s) = _
  congr 1
  funext x r
  exact zbr_of h
theorem zone_ic_ne (hd : decode cc pc = .ok (.if_icmp .ne off, 3)) (h : (pc : Int) + off = (t : Int)) : zone ret hp K cc S pc L st s = (zb2 st fun x y r => if x = y then S (pc + 3) L r s else S t L r s) := by
  rw [zone_of hd rfl]
  show (zb2 st fun x y r => zbr .ne x y pc off fun t => S t L r s) = _
  congr 1
  funext x y r
  exact zbr_of h
theorem zone_if_ne (hd : decode cc pc = .ok (.ifCond .ne off, 3)) (h : (pc : Int) + off = (t : Int)) : zone ret hp K cc S pc L st s = (zb1 st fun x r => if x = 0 then S (pc + 3) L r s else S t L r s) := by
  rw [zone_of hd rfl]
  show (zb1 st fun x r => zbr .ne x 0 pc off fun t => S t L r s) = _
  congr 1
  funext x r
  exact zbr_of h
theorem zone_ic_lt (hd : decode cc pc = .ok (.if_icmp .lt off, 3)) (h : (pc : Int) + off = (t : Int)) : zone ret hp K cc S pc L st s = (zb2 st fun x y r => if x < y then S t L r s else S (pc + 3) L r s) := by
  rw [zone_of hd rfl]
  show (zb2 st fun x y r => zbr .lt x y pc off fun t => S t L r s) = _
  congr 1
  funext x y r
  exact zbr_of h
theorem zone_if_lt (hd : decode cc pc = .ok (.ifCond .lt off, 3)) (h : (pc : Int) + off = (t : Int)) : zone ret hp K cc S pc L st s = (zb1 st fun x r => if x < 0 then S t L r s else S (pc + 3) L r s) := by
  rw [zone_of hd rfl]
  show (zb1 st fun x r => zbr .lt x 0 pc off fun t => S t L r s) = _
  congr 1
  funext x r
  exact zbr_of h
theorem zone_ic_ge (hd : decode cc pc = .ok (.if_icmp .ge off, 3)) (h : (pc : Int) + off = (t : Int)) : zone ret hp K cc S pc L st s = (zb2 st fun x y r => if x < y then S (pc + 3) L r s else S t L r s) := by
  rw [zone_of hd rfl]
  show (zb2 st fun x y r => zbr .ge x y pc off fun t => S t L r s) = _
  congr 1
  funext x y r
  exact zbr_of h
theorem zone_if_ge (hd : decode cc pc = .ok (.ifCond .ge off, 3)) (h : (pc : Int) + off = (t : Int)) : zone ret hp K cc S pc L st s = (zb1 st fun x r => if x < 0 then S (pc + 3) L r s else S t L r s) := by
  rw [zone_of hd rfl]
  show (zb1 st fun x r => zbr .ge x 0 pc off fun t => S t L r s) = _
  congr 1
  funext x r
  exact zbr_of h
theorem zone_ic_gt (hd : decode cc pc = .ok (.if_icmp .gt off, 3)) (h : (pc : Int) + off = (t : Int)) : zone ret hp K cc S pc L st s = (zb2 st fun x y r => if y < x then S t L r s else S (pc + 3) L r s) := by
  rw [zone_of hd rfl]
  show (zb2 st fun x y r => zbr .gt x y pc off fun t => S t L r s) = _
  congr 1
  funext x y r
  exact zbr_of h
theorem zone_if_gt (hd : decode cc pc = .ok (.ifCond .gt off, 3)) (h : (pc : Int) + off = (t : Int)) : zone ret hp K cc S pc L st s = (zb1 st fun x r => if 0 < x then S t L r s else S (pc + 3) L r s) := by
  rw [zone_of hd rfl]
  show (zb1 st fun x r => zbr .gt x 0 pc off fun t => S t L r s) = _
  congr 1
  funext x r
  exact zbr_of h
theorem zone_ic_le (hd : decode cc pc = .ok (.if_icmp .le off, 3)) (h : (pc : Int) + off = (t : Int)) : zone ret hp K cc S pc L st s = (zb2 st fun x y r => if y < x then S (pc + 3) L r s else S t L r s) := by
  rw [zone_of hd rfl]
  show (zb2 st fun x y r => zbr .le x y pc off fun t => S t L r s) = _
  congr 1
  funext x y r
  exact zbr_of h
theorem zone_if_le (hd : decode cc pc = .ok (.ifCond .le off, 3)) (h : (pc : Int) + off = (t : Int)) : zone ret hp K cc S pc L st s = (zb1 st fun x r => if 0 < x then S (pc + 3) L r s else S t L r s) := by
  rw [zone_of hd rfl]
  show (zb1 st fun x r => zbr .le x 0 pc off fun t => S t L r s) = _
  congr 1
  funext x r
  exact zbr_of h
theorem zrun_stop {stop : Nat → Bool} {n : Nat} (h : stop pc = true) : zrun ret hp K cc stop S (n + 1) pc L st s = S pc L st s := by
  rw [zrun, h]; rfl
theorem zrun_step {stop : Nat → Bool} {n : Nat} (h : stop pc = false) : zrun ret hp K cc stop S (n + 1) pc L st s = zone ret hp K cc (zrun ret hp K cc stop S n) pc L st s := by
  rw [zrun, h]; rfl
theorem zb2_i {x y : Int32} {k : Int32 → Int32 → List Value → Prop} : zb2 (.int y :: .int x :: r) k = k x y r := rfl
theorem zb1_i {x : Int32} {k : Int32 → List Value → Prop} : zb1 (.int x :: r) k = k x r := rfl
theorem zldi_0 {x : Int32} {k : Value → Prop} : zldi (some (.int x) :: L) 0 k = k (.int x) := rfl
theorem zldi_s {y : Option Value} {n : Nat} {k : Value → Prop} : zldi (y :: L) (n + 1) k = zldi L n k := rfl
theorem zlda_0 {x : Nat} {k : Value → Prop} : zlda (some (.ref x) :: L) 0 k = k (.ref x) := rfl
theorem zlda_n {k : Value → Prop} : zlda (some .null :: L) 0 k = k .null := rfl
theorem zlda_s {y : Option Value} {n : Nat} {k : Value → Prop} : zlda (y :: L) (n + 1) k = zlda L n k := rfl
def zsc : zL → Nat → Value → (zL → Prop) → Prop
  | [], _, _, _ => False
  | _ :: t, 0, v, k => k (some v :: t)
  | x :: t, n + 1, v, k => zsc t n v (fun q => k (x :: q))
theorem zsc_0 {y : Option Value} {v : Value} {k : zL → Prop} : zsc (y :: L) 0 v k = k (some v :: L) := rfl
theorem zsc_s {y : Option Value} {n : Nat} {v : Value} {k : zL → Prop} : zsc (y :: L) (n + 1) v k = zsc L n v (fun q => k (y :: q)) := rfl
theorem zsc_eq : ∀ (L : zL) (i : Nat) (v : Value) (k : zL → Prop), (i < L.length ∧ k (zset L i v)) = zsc L i v k
  | [], i, v, k => by simp [zsc]
  | x :: t, 0, v, k => by simp [zsc, zset]
  | x :: t, n + 1, v, k => by
    rw [zsc, ← zsc_eq t n v]
    simp [zset]
theorem zsti_c {x : Int32} {i : Nat} {k : zL → List Value → Prop} : zsti L i (.int x :: r) k = zsc L i (.int x) (fun q => k q r) := zsc_eq L i _ (fun q => k q r)
theorem zsta_r {x : Nat} {i : Nat} {k : zL → List Value → Prop} : zsta L i (.ref x :: r) k = zsc L i (.ref x) (fun q => k q r) := zsc_eq L i _ (fun q => k q r)
theorem zsta_n {i : Nat} {k : zL → List Value → Prop} : zsta L i (.null :: r) k = zsc L i .null (fun q => k q r) := zsc_eq L i _ (fun q => k q r)
def zic : zL → Nat → Int32 → (zL → Prop) → Prop
  | [], _, _, _ => False
  | some (.int x) :: t, 0, v, k => k (some (.int (x + v)) :: t)
  | _ :: _, 0, _, _ => False
  | x :: t, n + 1, v, k => zic t n v (fun q => k (x :: q))
theorem zic_0 {x v : Int32} {k : zL → Prop} : zic (some (.int x) :: L) 0 v k = k (some (.int (x + v)) :: L) := rfl
theorem zic_s {y : Option Value} {n : Nat} {v : Int32} {k : zL → Prop} : zic (y :: L) (n + 1) v k = zic L n v (fun q => k (y :: q)) := by
  cases y with
  | none => rfl
  | some w => cases w <;> rfl
theorem zic_eq : ∀ (L : zL) (i : Nat) (v : Int) (k : zL → Prop), zinc L i v k = zic L i (Int32.ofInt v) k
  | [], i, v, k => by simp [zic, zinc, zget]
  | x :: t, 0, v, k => by
    cases x with
    | none => rfl
    | some w => cases w <;> simp [zic, zinc, zget, zset]
  | x :: t, n + 1, v, k => by
    rw [zic_s, ← zic_eq t n v]
    unfold zinc
    rw [show zget (x :: t) (n + 1) = zget t n from rfl]
    cases zget t n with
    | none => rfl
    | some w => cases w <;> simp [zset]
theorem zcallS_n {Γ : zΓ σ} {i n : Nat} {T : zT σ} {k : List Value → σ → Prop} {as : List Value} (h : zlk Γ i = some (false, n, T)) (hp : zpop n [] st = some (as, r)) : zcallS Γ i st s k = (zfew r 8 = true ∧ T as s (fun v s' => k (v.toList ++ r) s')) := by
  unfold zcallS
  rw [h]
  dsimp only
  rw [hp]
  simp
theorem zcallV_n {Γ : zΓ σ} {i n b : Nat} {T : zT σ} {k : List Value → σ → Prop} {as : List Value} (h : zlk Γ i = some (true, n, T)) (hp : zpop n [] st = some (as, .ref b :: r)) : zcallV b Γ i st s k = (zfew r 8 = true ∧ T as s (fun v s' => k (v.toList ++ r) s')) := by
  unfold zcallV
  rw [h]
  dsimp only
  rw [hp]
  simp
theorem zfew_0 {n : Nat} : (zfew [] n = true) = True := by simp [zfew]
theorem zfew_i {x : Int32} {n : Nat} : (zfew (.int x :: r) (n + 1) = true) = (zfew r n = true) := rfl
theorem zfew_r {x : Nat} {n : Nat} : (zfew (.ref x :: r) (n + 1) = true) = (zfew r n = true) := rfl
theorem zfew_n {n : Nat} : (zfew (.null :: r) (n + 1) = true) = (zfew r n = true) := rfl
end ZDN
theorem zMg'_7 {E : zEnv} {b : Nat} {Γ : zΓ zM} {r : List Value} {m : zM} {k : List Value → zM → Prop} : zMhp E b Γ (.getfield 7) (.ref b :: r) m k = (k (.ref (b + 1) :: r) m) := by rw [zMg_7]; simp
theorem zMg'_13 {E : zEnv} {b : Nat} {Γ : zΓ zM} {r : List Value} {m : zM} {k : List Value → zM → Prop} : zMhp E b Γ (.getfield 13) (.ref b :: r) m k = (k (.ref (b + 2) :: r) m) := by rw [zMg_13]; simp
theorem zMg'_16 {E : zEnv} {b : Nat} {Γ : zΓ zM} {r : List Value} {m : zM} {k : List Value → zM → Prop} : zMhp E b Γ (.getfield 16) (.ref b :: r) m k = (k (.ref (b + 3) :: r) m) := by rw [zMg_16]; simp
theorem zMg'_19 {E : zEnv} {b : Nat} {Γ : zΓ zM} {r : List Value} {m : zM} {k : List Value → zM → Prop} : zMhp E b Γ (.getfield 19) (.ref b :: r) m k = (k (.ref (b + 4) :: r) m) := by rw [zMg_19]; simp
theorem zMg'_22 {E : zEnv} {b : Nat} {Γ : zΓ zM} {r : List Value} {m : zM} {k : List Value → zM → Prop} : zMhp E b Γ (.getfield 22) (.ref b :: r) m k = (k (.ref (b + 5) :: r) m) := by rw [zMg_22]; simp
theorem zMg'_25 {E : zEnv} {b : Nat} {Γ : zΓ zM} {r : List Value} {m : zM} {k : List Value → zM → Prop} : zMhp E b Γ (.getfield 25) (.ref b :: r) m k = (k (.ref (b + 6) :: r) m) := by rw [zMg_25]; simp
theorem zMg'_28 {E : zEnv} {b : Nat} {Γ : zΓ zM} {r : List Value} {m : zM} {k : List Value → zM → Prop} : zMhp E b Γ (.getfield 28) (.ref b :: r) m k = (k (.ref (b + 7) :: r) m) := by rw [zMg_28]; simp
theorem zMg'_31 {E : zEnv} {b : Nat} {Γ : zΓ zM} {r : List Value} {m : zM} {k : List Value → zM → Prop} : zMhp E b Γ (.getfield 31) (.ref b :: r) m k = (k (.ref (b + 8) :: r) m) := by rw [zMg_31]; simp
theorem zMg'_34 {E : zEnv} {b : Nat} {Γ : zΓ zM} {r : List Value} {m : zM} {k : List Value → zM → Prop} : zMhp E b Γ (.getfield 34) (.ref b :: r) m k = (k (.ref (b + 9) :: r) m) := by rw [zMg_34]; simp
theorem zMg'_37 {E : zEnv} {b : Nat} {Γ : zΓ zM} {r : List Value} {m : zM} {k : List Value → zM → Prop} : zMhp E b Γ (.getfield 37) (.ref b :: r) m k = (k (.ref (b + 10) :: r) m) := by rw [zMg_37]; simp
theorem zMg'_40 {E : zEnv} {b : Nat} {Γ : zΓ zM} {r : List Value} {m : zM} {k : List Value → zM → Prop} : zMhp E b Γ (.getfield 40) (.ref b :: r) m k = (k (.int (m.1 25) :: r) m) := by rw [zMg_40]; simp
theorem zMg'_44 {E : zEnv} {b : Nat} {Γ : zΓ zM} {r : List Value} {m : zM} {k : List Value → zM → Prop} : zMhp E b Γ (.getfield 44) (.ref b :: r) m k = (k (.ref (b + 11) :: r) m) := by rw [zMg_44]; simp
theorem zMg'_48 {E : zEnv} {b : Nat} {Γ : zΓ zM} {r : List Value} {m : zM} {k : List Value → zM → Prop} : zMhp E b Γ (.getfield 48) (.ref b :: r) m k = (k (.ref (b + 12) :: r) m) := by rw [zMg_48]; simp
theorem zMg'_51 {E : zEnv} {b : Nat} {Γ : zΓ zM} {r : List Value} {m : zM} {k : List Value → zM → Prop} : zMhp E b Γ (.getfield 51) (.ref b :: r) m k = (k (.ref (b + 13) :: r) m) := by rw [zMg_51]; simp
theorem zMg'_55 {E : zEnv} {b : Nat} {Γ : zΓ zM} {r : List Value} {m : zM} {k : List Value → zM → Prop} : zMhp E b Γ (.getfield 55) (.ref b :: r) m k = (k (.ref (b + 14) :: r) m) := by rw [zMg_55]; simp
theorem zMg'_58 {E : zEnv} {b : Nat} {Γ : zΓ zM} {r : List Value} {m : zM} {k : List Value → zM → Prop} : zMhp E b Γ (.getfield 58) (.ref b :: r) m k = (k (.ref (b + 15) :: r) m) := by rw [zMg_58]; simp
theorem zMg'_61 {E : zEnv} {b : Nat} {Γ : zΓ zM} {r : List Value} {m : zM} {k : List Value → zM → Prop} : zMhp E b Γ (.getfield 61) (.ref b :: r) m k = (k (.ref (b + 16) :: r) m) := by rw [zMg_61]; simp
theorem zMg'_64 {E : zEnv} {b : Nat} {Γ : zΓ zM} {r : List Value} {m : zM} {k : List Value → zM → Prop} : zMhp E b Γ (.getfield 64) (.ref b :: r) m k = (k (.ref (b + 17) :: r) m) := by rw [zMg_64]; simp
theorem zMg'_67 {E : zEnv} {b : Nat} {Γ : zΓ zM} {r : List Value} {m : zM} {k : List Value → zM → Prop} : zMhp E b Γ (.getfield 67) (.ref b :: r) m k = (k (.ref (b + 18) :: r) m) := by rw [zMg_67]; simp
theorem zMg'_81 {E : zEnv} {b : Nat} {Γ : zΓ zM} {r : List Value} {m : zM} {k : List Value → zM → Prop} : zMhp E b Γ (.getfield 81) (.ref b :: r) m k = (k (.int (m.1 4) :: r) m) := by rw [zMg_81]; simp
theorem zMg'_104 {E : zEnv} {b : Nat} {Γ : zΓ zM} {r : List Value} {m : zM} {k : List Value → zM → Prop} : zMhp E b Γ (.getfield 104) (.ref b :: r) m k = (k (.int (m.1 16) :: r) m) := by rw [zMg_104]; simp
theorem zMg'_107 {E : zEnv} {b : Nat} {Γ : zΓ zM} {r : List Value} {m : zM} {k : List Value → zM → Prop} : zMhp E b Γ (.getfield 107) (.ref b :: r) m k = (k (.int (m.1 17) :: r) m) := by rw [zMg_107]; simp
theorem zMg'_110 {E : zEnv} {b : Nat} {Γ : zΓ zM} {r : List Value} {m : zM} {k : List Value → zM → Prop} : zMhp E b Γ (.getfield 110) (.ref b :: r) m k = (k (.int (m.1 19) :: r) m) := by rw [zMg_110]; simp
theorem zMg'_155 {E : zEnv} {b : Nat} {Γ : zΓ zM} {r : List Value} {m : zM} {k : List Value → zM → Prop} : zMhp E b Γ (.getfield 155) (.ref b :: r) m k = (k (.int (m.1 12) :: r) m) := by rw [zMg_155]; simp
theorem zMg'_197 {E : zEnv} {b : Nat} {Γ : zΓ zM} {r : List Value} {m : zM} {k : List Value → zM → Prop} : zMhp E b Γ (.getfield 197) (.ref b :: r) m k = (k (.int (m.1 18) :: r) m) := by rw [zMg_197]; simp
theorem zMg'_209 {E : zEnv} {b : Nat} {Γ : zΓ zM} {r : List Value} {m : zM} {k : List Value → zM → Prop} : zMhp E b Γ (.getfield 209) (.ref b :: r) m k = (k (.int (m.1 20) :: r) m) := by rw [zMg_209]; simp
theorem zMg'_212 {E : zEnv} {b : Nat} {Γ : zΓ zM} {r : List Value} {m : zM} {k : List Value → zM → Prop} : zMhp E b Γ (.getfield 212) (.ref b :: r) m k = (k (.int (m.1 21) :: r) m) := by rw [zMg_212]; simp
theorem zMg'_215 {E : zEnv} {b : Nat} {Γ : zΓ zM} {r : List Value} {m : zM} {k : List Value → zM → Prop} : zMhp E b Γ (.getfield 215) (.ref b :: r) m k = (k (.int (m.1 22) :: r) m) := by rw [zMg_215]; simp
theorem zMg'_224 {E : zEnv} {b : Nat} {Γ : zΓ zM} {r : List Value} {m : zM} {k : List Value → zM → Prop} : zMhp E b Γ (.getfield 224) (.ref b :: r) m k = (k (.int (m.1 14) :: r) m) := by rw [zMg_224]; simp
theorem zMg'_227 {E : zEnv} {b : Nat} {Γ : zΓ zM} {r : List Value} {m : zM} {k : List Value → zM → Prop} : zMhp E b Γ (.getfield 227) (.ref b :: r) m k = (k (.int (m.1 24) :: r) m) := by rw [zMg_227]; simp
theorem zMg'_259 {E : zEnv} {b : Nat} {Γ : zΓ zM} {r : List Value} {m : zM} {k : List Value → zM → Prop} : zMhp E b Γ (.getfield 259) (.ref b :: r) m k = (k (.int (m.1 13) :: r) m) := by rw [zMg_259]; simp
theorem zMg'_265 {E : zEnv} {b : Nat} {Γ : zΓ zM} {r : List Value} {m : zM} {k : List Value → zM → Prop} : zMhp E b Γ (.getfield 265) (.ref b :: r) m k = (k (.int (m.1 26) :: r) m) := by rw [zMg_265]; simp
theorem zMg'_272 {E : zEnv} {b : Nat} {Γ : zΓ zM} {r : List Value} {m : zM} {k : List Value → zM → Prop} : zMhp E b Γ (.getfield 272) (.ref b :: r) m k = (k (.int (m.1 15) :: r) m) := by rw [zMg_272]; simp
theorem zMg'_285 {E : zEnv} {b : Nat} {Γ : zΓ zM} {r : List Value} {m : zM} {k : List Value → zM → Prop} : zMhp E b Γ (.getfield 285) (.ref b :: r) m k = (k (.int (m.1 23) :: r) m) := by rw [zMg_285]; simp
theorem zMg'_355 {E : zEnv} {b : Nat} {Γ : zΓ zM} {r : List Value} {m : zM} {k : List Value → zM → Prop} : zMhp E b Γ (.getfield 355) (.ref b :: r) m k = (k (.int (m.1 30) :: r) m) := by rw [zMg_355]; simp
theorem zMg'_367 {E : zEnv} {b : Nat} {Γ : zΓ zM} {r : List Value} {m : zM} {k : List Value → zM → Prop} : zMhp E b Γ (.getfield 367) (.ref b :: r) m k = (k (.int (m.1 29) :: r) m) := by rw [zMg_367]; simp
theorem zMg'_377 {E : zEnv} {b : Nat} {Γ : zΓ zM} {r : List Value} {m : zM} {k : List Value → zM → Prop} : zMhp E b Γ (.getfield 377) (.ref b :: r) m k = (k (.int (m.1 27) :: r) m) := by rw [zMg_377]; simp
theorem zMg'_380 {E : zEnv} {b : Nat} {Γ : zΓ zM} {r : List Value} {m : zM} {k : List Value → zM → Prop} : zMhp E b Γ (.getfield 380) (.ref b :: r) m k = (k (.int (m.1 28) :: r) m) := by rw [zMg_380]; simp
theorem zMg'_511 {E : zEnv} {b : Nat} {Γ : zΓ zM} {r : List Value} {m : zM} {k : List Value → zM → Prop} : zMhp E b Γ (.getfield 511) (.ref b :: r) m k = (k (.int (m.1 5) :: r) m) := by rw [zMg_511]; simp
theorem zMp'_40 {E : zEnv} {b : Nat} {Γ : zΓ zM} {r : List Value} {v : Int32} {m : zM} {k : List Value → zM → Prop} : zMhp E b Γ (.putfield 40) (.int v :: .ref b :: r) m k = (k r (zF m 25 v)) := by rw [zMp_40]; simp
theorem zMp'_81 {E : zEnv} {b : Nat} {Γ : zΓ zM} {r : List Value} {v : Int32} {m : zM} {k : List Value → zM → Prop} : zMhp E b Γ (.putfield 81) (.int v :: .ref b :: r) m k = (k r (zF m 4 v)) := by rw [zMp_81]; simp
theorem zMp'_104 {E : zEnv} {b : Nat} {Γ : zΓ zM} {r : List Value} {v : Int32} {m : zM} {k : List Value → zM → Prop} : zMhp E b Γ (.putfield 104) (.int v :: .ref b :: r) m k = (k r (zF m 16 v)) := by rw [zMp_104]; simp
theorem zMp'_107 {E : zEnv} {b : Nat} {Γ : zΓ zM} {r : List Value} {v : Int32} {m : zM} {k : List Value → zM → Prop} : zMhp E b Γ (.putfield 107) (.int v :: .ref b :: r) m k = (k r (zF m 17 v)) := by rw [zMp_107]; simp
theorem zMp'_110 {E : zEnv} {b : Nat} {Γ : zΓ zM} {r : List Value} {v : Int32} {m : zM} {k : List Value → zM → Prop} : zMhp E b Γ (.putfield 110) (.int v :: .ref b :: r) m k = (k r (zF m 19 v)) := by rw [zMp_110]; simp
theorem zMp'_155 {E : zEnv} {b : Nat} {Γ : zΓ zM} {r : List Value} {v : Int32} {m : zM} {k : List Value → zM → Prop} : zMhp E b Γ (.putfield 155) (.int v :: .ref b :: r) m k = (k r (zF m 12 v)) := by rw [zMp_155]; simp
theorem zMp'_197 {E : zEnv} {b : Nat} {Γ : zΓ zM} {r : List Value} {v : Int32} {m : zM} {k : List Value → zM → Prop} : zMhp E b Γ (.putfield 197) (.int v :: .ref b :: r) m k = (k r (zF m 18 v)) := by rw [zMp_197]; simp
theorem zMp'_209 {E : zEnv} {b : Nat} {Γ : zΓ zM} {r : List Value} {v : Int32} {m : zM} {k : List Value → zM → Prop} : zMhp E b Γ (.putfield 209) (.int v :: .ref b :: r) m k = (k r (zF m 20 v)) := by rw [zMp_209]; simp
theorem zMp'_212 {E : zEnv} {b : Nat} {Γ : zΓ zM} {r : List Value} {v : Int32} {m : zM} {k : List Value → zM → Prop} : zMhp E b Γ (.putfield 212) (.int v :: .ref b :: r) m k = (k r (zF m 21 v)) := by rw [zMp_212]; simp
theorem zMp'_215 {E : zEnv} {b : Nat} {Γ : zΓ zM} {r : List Value} {v : Int32} {m : zM} {k : List Value → zM → Prop} : zMhp E b Γ (.putfield 215) (.int v :: .ref b :: r) m k = (k r (zF m 22 v)) := by rw [zMp_215]; simp
theorem zMp'_224 {E : zEnv} {b : Nat} {Γ : zΓ zM} {r : List Value} {v : Int32} {m : zM} {k : List Value → zM → Prop} : zMhp E b Γ (.putfield 224) (.int v :: .ref b :: r) m k = (k r (zF m 14 v)) := by rw [zMp_224]; simp
theorem zMp'_227 {E : zEnv} {b : Nat} {Γ : zΓ zM} {r : List Value} {v : Int32} {m : zM} {k : List Value → zM → Prop} : zMhp E b Γ (.putfield 227) (.int v :: .ref b :: r) m k = (k r (zF m 24 v)) := by rw [zMp_227]; simp
theorem zMp'_259 {E : zEnv} {b : Nat} {Γ : zΓ zM} {r : List Value} {v : Int32} {m : zM} {k : List Value → zM → Prop} : zMhp E b Γ (.putfield 259) (.int v :: .ref b :: r) m k = (k r (zF m 13 v)) := by rw [zMp_259]; simp
theorem zMp'_265 {E : zEnv} {b : Nat} {Γ : zΓ zM} {r : List Value} {v : Int32} {m : zM} {k : List Value → zM → Prop} : zMhp E b Γ (.putfield 265) (.int v :: .ref b :: r) m k = (k r (zF m 26 v)) := by rw [zMp_265]; simp
theorem zMp'_272 {E : zEnv} {b : Nat} {Γ : zΓ zM} {r : List Value} {v : Int32} {m : zM} {k : List Value → zM → Prop} : zMhp E b Γ (.putfield 272) (.int v :: .ref b :: r) m k = (k r (zF m 15 v)) := by rw [zMp_272]; simp
theorem zMp'_285 {E : zEnv} {b : Nat} {Γ : zΓ zM} {r : List Value} {v : Int32} {m : zM} {k : List Value → zM → Prop} : zMhp E b Γ (.putfield 285) (.int v :: .ref b :: r) m k = (k r (zF m 23 v)) := by rw [zMp_285]; simp
theorem zMp'_355 {E : zEnv} {b : Nat} {Γ : zΓ zM} {r : List Value} {v : Int32} {m : zM} {k : List Value → zM → Prop} : zMhp E b Γ (.putfield 355) (.int v :: .ref b :: r) m k = (k r (zF m 30 v)) := by rw [zMp_355]; simp
theorem zMp'_367 {E : zEnv} {b : Nat} {Γ : zΓ zM} {r : List Value} {v : Int32} {m : zM} {k : List Value → zM → Prop} : zMhp E b Γ (.putfield 367) (.int v :: .ref b :: r) m k = (k r (zF m 29 v)) := by rw [zMp_367]; simp
theorem zMp'_377 {E : zEnv} {b : Nat} {Γ : zΓ zM} {r : List Value} {v : Int32} {m : zM} {k : List Value → zM → Prop} : zMhp E b Γ (.putfield 377) (.int v :: .ref b :: r) m k = (k r (zF m 27 v)) := by rw [zMp_377]; simp
theorem zMp'_380 {E : zEnv} {b : Nat} {Γ : zΓ zM} {r : List Value} {v : Int32} {m : zM} {k : List Value → zM → Prop} : zMhp E b Γ (.putfield 380) (.int v :: .ref b :: r) m k = (k r (zF m 28 v)) := by rw [zMp_380]; simp
theorem zMp'_511 {E : zEnv} {b : Nat} {Γ : zΓ zM} {r : List Value} {v : Int32} {m : zM} {k : List Value → zM → Prop} : zMhp E b Γ (.putfield 511) (.int v :: .ref b :: r) m k = ((v = 0 ∨ v = 1) ∧ k r (zF m 5 v)) := by rw [zMp_511]; simp
/-- an answer goes onto the stack -/
def zpush (v : Option Value) (r : List Value) (k : List Value → Prop) : Prop := k (v.toList ++ r)
theorem zpush_s {v : Value} {r : List Value} {k : List Value → Prop} : zpush (some v) r k = k (v :: r) := rfl
theorem zpush_n {r : List Value} {k : List Value → Prop} : zpush none r k = k r := rfl
section ZDN2
variable {σ : Type} {ret : Option FieldType} {hp : Instr → List Value → σ → (List Value → σ → Prop) → Prop} {K : Option Value → σ → Prop} {cc : ByteArray} {S : Nat → zL → List Value → σ → Prop} {len pc t : Nat} {L : zL} {st r : List Value} {s : σ} {off n : Int} {v : Int32}
theorem zcS_n {Γ : zΓ σ} {i n : Nat} {T : zT σ} {k : List Value → σ → Prop} {as : List Value} (h : zlk Γ i = some (false, n, T)) (hp : zpop n [] st = some (as, r)) : zcallS Γ i st s k = (zfew r 8 = true ∧ T as s (fun v s' => zpush v r (fun q => k q s'))) := zcallS_n h hp
theorem zcV_n {Γ : zΓ σ} {i n b : Nat} {T : zT σ} {k : List Value → σ → Prop} {as : List Value} (h : zlk Γ i = some (true, n, T)) (hp : zpop n [] st = some (as, .ref b :: r)) : zcallV b Γ i st s k = (zfew r 8 = true ∧ T as s (fun v s' => zpush v r (fun q => k q s'))) := zcallV_n h hp
theorem zone_iconst (hd : decode cc pc = .ok (.iconst n, 1)) (hv : Int32.ofInt n = v) : zone ret hp K cc S pc L st s = S (pc + 1) L (.int v :: st) s := by
  subst hv
  exact zone_of hd rfl
theorem zone_bipush (hd : decode cc pc = .ok (.bipush n, 2)) (hv : (Int8.ofInt n).toInt32 = v) : zone ret hp K cc S pc L st s = S (pc + 2) L (.int v :: st) s := by
  subst hv
  exact zone_of hd rfl
theorem zone_sipush (hd : decode cc pc = .ok (.sipush n, 3)) (hv : (Int16.ofInt n).toInt32 = v) : zone ret hp K cc S pc L st s = S (pc + 3) L (.int v :: st) s := by
  subst hv
  exact zone_of hd rfl
theorem zone_iinc {j : Nat} (hd : decode cc pc = .ok (.iinc j n, 3)) (hv : Int32.ofInt n = v) : zone ret hp K cc S pc L st s = zic L j v (fun q => S (pc + 3) q st s) := by
  subst hv
  rw [zone_of hd rfl]
  exact zic_eq L j n (fun q => S (pc + 3) q st s)
theorem zsw_0 {x : Int32} {dflt : Int} {k : Nat → Prop} (h : (pc : Int) + dflt = (t : Int)) (i : Int) : zsw x pc dflt k i [] = k t := zjmp_of h
theorem zsw_s {x v : Int32} {dflt o : Int} {l : List Int} {k : Nat → Prop} {A : Prop} {i : Int} (h : (pc : Int) + o = (t : Int)) (hv : Int32.ofInt i = v) (ht : zsw x pc dflt k (i + 1) l = A) : zsw x pc dflt k i (o :: l) = if x = v then k t else A := by
  rw [zsw, zjmp_of h, hv, ht]
theorem zone_sw {lo hi : Int} {offs : Array Int} {dflt : Int} (hd : decode cc pc = .ok (.tableswitch dflt lo hi offs, len)) (hb : -1000 ≤ lo ∧ lo ≤ hi ∧ hi ≤ 1000 ∧ (offs.size : Int) = hi - lo + 1) {F : Int32 → List Value → Prop} (h : ∀ x r, zsw x pc dflt (fun t => S t L r s) lo offs.toList = F x r) : zone ret hp K cc S pc L st s = zb1 st F := by
  rw [zone_of hd rfl]
  show (zb1 st fun x r => _ ∧ _) = _
  congr 1
  funext x r
  rw [h x r]
  simp [hb]
end ZDN2
theorem zcat_int {x : Int32} : (Value.int x).category = 1 := rfl
theorem zcat_ref {x : Nat} : (Value.ref x).category = 1 := rfl
theorem zcat_null : Value.null.category = 1 := rfl
theorem zlit_vp {x : Int32} {N : Nat} (h : (!decide (x < 0) && decide (x.toNatClampNeg < N)) = true) : vp_in x N = True := by
  simp only [Bool.and_eq_true, Bool.not_eq_true', decide_eq_false_iff_not, decide_eq_true_eq] at h
  exact eq_true (fun q => q.elim h.1 (fun z => absurd z (Nat.not_le.mpr h.2)))
theorem zvp_N {t : Int32} {n : Nat} (hn : n < 2147483648) : vp_in t n ↔ ∃ i : Nat, i < n ∧ t = nI i := ⟨fun h => vp_in_of h hn, fun ⟨i, h, e⟩ => by rw [e]; exact vp_in_nI h hn⟩
theorem zvp_clamp {t : Int32} {n : Nat} (h : vp_in t n) (hn : n < 2147483648) : t = nI t.toNatClampNeg ∧ t.toNatClampNeg < n := by
  obtain ⟨i, hi, rfl⟩ := vp_in_of h hn
  rw [nI_clamp (by omega)]
  exact ⟨rfl, hi⟩
/-- reading and writing at places that are plain numbers -/
theorem upd_s {f : Nat → Int32} {k : Nat} {v : Int32} : upd f k v k = v := by simp [upd]
theorem upd_n {f : Nat → Int32} {k j : Nat} {v : Int32} (h : j ≠ k) : upd f k v j = f j := by simp [upd, h]
/-! plain numbers under simp -/
theorem nI_al {a n : Nat} : nI a + (no_index (OfNat.ofNat n) : Int32) = nI (a + OfNat.ofNat n) := nI_add a n
theorem nI_la {a n : Nat} : (no_index (OfNat.ofNat n) : Int32) + nI a = nI (OfNat.ofNat n + a) := nI_add n a
theorem nI_lm {a n : Nat} : (no_index (OfNat.ofNat n) : Int32) * nI a = nI (OfNat.ofNat n * a) := pk_mul n a
theorem nI_ml {a n : Nat} : nI a * (no_index (OfNat.ofNat n) : Int32) = nI (a * OfNat.ofNat n) := pk_mul a n
theorem nI_sl {a n : Nat} (h : (OfNat.ofNat n : Nat) ≤ a) : nI a - (no_index (OfNat.ofNat n) : Int32) = nI (a - OfNat.ofNat n) := pk_sub h
theorem nI_ltl {a n : Nat} (ha : a < 2147483648) (hn : n < 2147483648) : (nI a < (no_index (OfNat.ofNat n) : Int32)) = (a < OfNat.ofNat n) := propext (nI_ltI ha hn)
theorem nI_llt {a n : Nat} (ha : a < 2147483648) (hn : n < 2147483648) : ((no_index (OfNat.ofNat n) : Int32) < nI a) = (OfNat.ofNat n < a) := propext (nI_ltI hn ha)
theorem nI_eql {a n : Nat} (ha : a < 2147483648) (hn : n < 2147483648) : (nI a = (no_index (OfNat.ofNat n) : Int32)) = (a = OfNat.ofNat n) := propext (nI_eq ha hn)
theorem nI_lt2 {a b : Nat} (ha : a < 2147483648) (hb : b < 2147483648) : (nI a < nI b) = (a < b) := propext (nI_ltI ha hb)
theorem nI_eq2 {a b : Nat} (ha : a < 2147483648) (hb : b < 2147483648) : (nI a = nI b) = (a = b) := propext (nI_eq ha hb)
theorem nI_vp {n N : Nat} (h : n < N) (hN : N < 2147483648) : vp_in (nI n) N = True := eq_true (vp_in_nI h hN)
theorem nI_cl {n : Nat} (h : n < 2147483648) : (nI n).toNatClampNeg = n := nI_clamp h
/-- a whole array set -/
def zB (m : zM) (h : Nat) (f : Nat → Int32) : zM := (m.1, fun q => if q = h then f else m.2 q)
theorem zA_B {m : zM} {h i : Nat} {v : Int32} : zA m h i v = zB m h (upd (m.2 h) i v) := rfl
theorem zB_1 {m : zM} {h : Nat} {f : Nat → Int32} : (zB m h f).1 = m.1 := rfl
theorem zB_2 {m : zM} {h q : Nat} {f : Nat → Int32} : (zB m h f).2 q = if q = h then f else m.2 q := rfl
theorem zB_2s {m : zM} {h : Nat} {f : Nat → Int32} : (zB m h f).2 h = f := by simp [zB]
theorem zB_B {m : zM} {h : Nat} {f g : Nat → Int32} : zB (zB m h f) h g = zB m h g := by
  unfold zB
  congr 1
  funext q
  by_cases hq : q = h <;> simp [hq]
theorem zB_F {m : zM} {h j : Nat} {f : Nat → Int32} {v : Int32} : zB (zF m j v) h f = zF (zB m h f) j v := rfl
theorem zF_F {m : zM} {j : Nat} {v w : Int32} : zF (zF m j v) j w = zF m j w := by
  unfold zF upd
  congr 1
  funext q
  by_cases hq : q = j <;> simp [hq]
theorem zB_id {m : zM} {h : Nat} : zB m h (m.2 h) = m := by
  unfold zB
  have : (fun q => if q = h then m.2 h else m.2 q) = m.2 := by
    funext q
    by_cases hq : q = h <;> simp [hq]
  rw [this]
theorem zB_step {m : zM} {h i : Nat} {F G : Nat → Int32} {v : Int32} (e : ∀ j, (if j = i then v else F j) = G j) : zA (zB m h F) h i v = zB m h G := by
  rw [zA_B, zB_2s, zB_B]
  congr 1
  funext j
  exact e j
theorem zA_F {m : zM} {h i j : Nat} {v w : Int32} : zA (zF m j v) h i w = zF (zA m h i w) j v := rfl
theorem zF_eq {m m' : zM} {j : Nat} {v : Int32} (h : m = m') : zF m j v = zF m' j v := by rw [h]
theorem zB_eq {m : zM} {h : Nat} {F G : Nat → Int32} (e : ∀ j, F j = G j) : zB m h F = zB m h G := by rw [funext e]
theorem zB_0 {m : zM} {h : Nat} {F : Nat → Int32} (e : ∀ j, F j = m.2 h j) : zB m h F = m := by rw [show F = m.2 h from funext e, zB_id]
theorem zS_eq {σ : Type} {S : Nat → zL → List Value → σ → Prop} {pc : Nat} {L : zL} {st : List Value} {s s' : σ} (e : s = s') (h : S pc L st s') : S pc L st s := by rw [e]; exact h
theorem zF_id {m : zM} {j : Nat} {v : Int32} (h : m.1 j = v) : zF m j v = m := by
  subst h
  unfold zF
  have : upd m.1 j (m.1 j) = m.1 := by
    funext q
    by_cases hq : q = j <;> simp [upd, hq]
  rw [this]
/-- a loop that counts up -/
def yfold (f : Nat → Int32 → Int32) (a : Int32) : Nat → Int32
  | 0 => a
  | n + 1 => f n (yfold f a n)
theorem yfold_s {f : Nat → Int32 → Int32} {a : Int32} {n : Nat} : yfold f a (n + 1) = f n (yfold f a n) := rfl
def ybit (s k : Int32) : Bool := decide ((s >>> (k &&& 31)) &&& 1 = 1)
def yshl (k : Nat) : Int32 := 1 <<< (nI k &&& 31)
theorem yand1 (v : Int32) : v &&& 1 = 0 ∨ v &&& 1 = 1 := by
  obtain ⟨j, hj, e⟩ := pk_andE v (m := 1) 1 (by decide)
  rcases (by omega : j = 0 ∨ j = 1) with rfl | rfl
  · exact Or.inl e
  · exact Or.inr e
theorem ybit_f {s k : Int32} : (ybit s k = false) = ((s >>> (k &&& 31)) &&& 1 = 0) := by
  unfold ybit
  rw [decide_eq_false_iff_not]
  rcases yand1 (s >>> (k &&& 31)) with h | h <;> simp [h]
theorem ypow {n : Nat} (h : n < 9) : (1 : Int32) <<< (nI n &&& 31) = nI (2 ^ n) := by
  have : ∀ n, n < 9 → (1 : Int32) <<< (nI n &&& 31) = nI (2 ^ n) := by decide +kernel
  exact this n h
theorem ypow_le {n : Nat} (h : n < 9) : 1 ≤ 2 ^ n ∧ 2 ^ n ≤ 256 := by
  have : ∀ n, n < 9 → 1 ≤ 2 ^ n ∧ 2 ^ n ≤ 256 := by decide
  exact this n h
theorem zA_2s {m : zM} {h i : Nat} {v : Int32} : (zA m h i v).2 h = upd (m.2 h) i v := by simp [zA]
theorem zA_2n {m : zM} {h i q : Nat} {v : Int32} (hq : q ≠ h) : (zA m h i v).2 q = m.2 q := by simp [zA, hq]
theorem zB_2n {m : zM} {h q : Nat} {f : Nat → Int32} (hq : q ≠ h) : (zB m h f).2 q = m.2 q := by simp [zB, hq]
theorem zK_eq {σ : Type} {K : Option Value → σ → Prop} {v v' : Option Value} {s s' : σ} (ev : v = v') (e : s = s') (h : K v' s') : K v s := by rw [ev, e]; exact h
