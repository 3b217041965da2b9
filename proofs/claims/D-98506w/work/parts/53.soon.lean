/-! hour by hour: the first set, how soon -/
theorem ysub_iff {S O : Nat} (hS : S < 4294967296) : (nI S &&& (nI O ^^^ (-1)) = 0) ↔ ysub S O := by
  have h1 : ∀ j, j < 32 → ((nI S).toBitVec &&& ((nI O).toBitVec ^^^ (-1 : Int32).toBitVec)).getLsbD j = (S.testBit j && !O.testBit j) := by
    intro j hj
    rw [BitVec.getLsbD_and, BitVec.getLsbD_xor, nI_lsb S j hj, nI_lsb O j hj]
    rw [show (-1 : Int32).toBitVec = BitVec.allOnes 32 from rfl, BitVec.getLsbD_allOnes]
    simp [hj]
  rw [← Int32.toBitVec_inj, Int32.toBitVec_and, Int32.toBitVec_xor]
  constructor
  · intro h i hi
    have hi32 : i < 32 := by
      by_cases c : i < 32
      · exact c
      · rw [Nat.testBit_lt_two_pow (Nat.lt_of_lt_of_le hS (Nat.pow_le_pow_right (show 0 < 2 by omega) (show 32 ≤ i by omega)))] at hi
        cases hi
    have := h1 i hi32
    rw [h, hi] at this
    cases c : O.testBit i
    · rw [c] at this; simp at this
    · rfl
  · intro h
    apply BitVec.eq_of_getLsbD_eq
    intro j hj
    rw [h1 j hj]
    show _ = (0#32).getLsbD j
    rw [BitVec.getLsbD_zero]
    cases c : S.testBit j
    · rfl
    · rw [h j c]; rfl
def yfirstQ (w tg : Nat → Int32) (hours : Int32) (k : Nat) : Bool := decide (nI (k + 1) &&& (nI (yopn w (yV0 w)) ^^^ (-1)) = 0) && !decide (tg (k + 1) = 0) && decide (yfarV w tg (yadd (k + 1) (yV0 w) (w 98).toNatClampNeg) = hours - 1)
def yfirstS (w tg : Nat → Int32) (hours : Int32) : Int32 := match yfind (yfirstQ w tg hours) (yopn w (yV0 w)) with
  | some k => nI (k + 1)
  | none => 0
def T_X3_firstSet : zT zM := zx1 (fun _ s => ywf (s.2 1) ∧ yhull (s.2 1) ∧ ymemo (s.2 1) (s.2 11) (s.2 14)) (fun h s => some (.int (yfirstS (s.2 1) (s.2 11) h))) (fun _ s u => ∃ f, u = zB s 14 f)
abbrev G_X3_firstSet : zΓ zM := [(441, true, 0, T_X3_started), (429, true, 1, T_X3_openIn), (435, true, 2, T_X3_step), (444, true, 0, T_X3_ended), (438, true, 2, T_X3_farFrom)]
theorem Z_X3_firstSet_0 {σ : Type} {ret : Option FieldType} {hp : Instr → List Value → σ → (List Value → σ → Prop) → Prop} {K : Option Value → σ → Prop} {S : Nat → zL → List Value → σ → Prop} {L : zL} {s : σ} {st : List Value} : zone ret hp K cX3_firstSet S 0 L st s = (zlda L 0 fun v => S 1 L (v :: st) s) := zone_of dX3_firstSet_0 rfl
theorem Z_X3_firstSet_1 {σ : Type} {ret : Option FieldType} {hp : Instr → List Value → σ → (List Value → σ → Prop) → Prop} {K : Option Value → σ → Prop} {S : Nat → zL → List Value → σ → Prop} {L : zL} {s : σ} {st : List Value} : zone ret hp K cX3_firstSet S 1 L st s = (zlda L 0 fun v => S 2 L (v :: st) s) := zone_of dX3_firstSet_1 rfl
theorem Z_X3_firstSet_2 {σ : Type} {ret : Option FieldType} {hp : Instr → List Value → σ → (List Value → σ → Prop) → Prop} {K : Option Value → σ → Prop} {S : Nat → zL → List Value → σ → Prop} {L : zL} {s : σ} {st : List Value} : zone ret hp K cX3_firstSet S 2 L st s = (hp (.invokevirtual 441) st s (fun st' s' => S 5 L st' s')) := zone_of dX3_firstSet_2 rfl
theorem Z_X3_firstSet_5 {σ : Type} {ret : Option FieldType} {hp : Instr → List Value → σ → (List Value → σ → Prop) → Prop} {K : Option Value → σ → Prop} {S : Nat → zL → List Value → σ → Prop} {L : zL} {s : σ} {st : List Value} : zone ret hp K cX3_firstSet S 5 L st s = (hp (.invokevirtual 429) st s (fun st' s' => S 8 L st' s')) := zone_of dX3_firstSet_5 rfl
theorem Z_X3_firstSet_8 {σ : Type} {ret : Option FieldType} {hp : Instr → List Value → σ → (List Value → σ → Prop) → Prop} {K : Option Value → σ → Prop} {S : Nat → zL → List Value → σ → Prop} {L : zL} {s : σ} {st : List Value} : zone ret hp K cX3_firstSet S 8 L st s = (zsti L 2 st fun q r => S 9 q r s) := zone_of dX3_firstSet_8 rfl
theorem Z_X3_firstSet_9 {σ : Type} {ret : Option FieldType} {hp : Instr → List Value → σ → (List Value → σ → Prop) → Prop} {K : Option Value → σ → Prop} {S : Nat → zL → List Value → σ → Prop} {L : zL} {s : σ} {st : List Value} : zone ret hp K cX3_firstSet S 9 L st s = (S 10 L (.int 1 :: st) s) := zone_iconst dX3_firstSet_9 (by decide)
theorem Z_X3_firstSet_10 {σ : Type} {ret : Option FieldType} {hp : Instr → List Value → σ → (List Value → σ → Prop) → Prop} {K : Option Value → σ → Prop} {S : Nat → zL → List Value → σ → Prop} {L : zL} {s : σ} {st : List Value} : zone ret hp K cX3_firstSet S 10 L st s = (zsti L 3 st fun q r => S 11 q r s) := zone_of dX3_firstSet_10 rfl
theorem Z_X3_firstSet_11 {σ : Type} {ret : Option FieldType} {hp : Instr → List Value → σ → (List Value → σ → Prop) → Prop} {K : Option Value → σ → Prop} {S : Nat → zL → List Value → σ → Prop} {L : zL} {s : σ} {st : List Value} : zone ret hp K cX3_firstSet S 11 L st s = (zldi L 3 fun v => S 12 L (v :: st) s) := zone_of dX3_firstSet_11 rfl
theorem Z_X3_firstSet_12 {σ : Type} {ret : Option FieldType} {hp : Instr → List Value → σ → (List Value → σ → Prop) → Prop} {K : Option Value → σ → Prop} {S : Nat → zL → List Value → σ → Prop} {L : zL} {s : σ} {st : List Value} : zone ret hp K cX3_firstSet S 12 L st s = (zldi L 2 fun v => S 13 L (v :: st) s) := zone_of dX3_firstSet_12 rfl
theorem Z_X3_firstSet_13 {σ : Type} {ret : Option FieldType} {hp : Instr → List Value → σ → (List Value → σ → Prop) → Prop} {K : Option Value → σ → Prop} {S : Nat → zL → List Value → σ → Prop} {L : zL} {s : σ} {st : List Value} : zone ret hp K cX3_firstSet S 13 L st s = (zb2 st fun x y r => if y < x then S 64 L r s else S 16 L r s) := zone_ic_gt dX3_firstSet_13 (by decide)
theorem Z_X3_firstSet_16 {σ : Type} {ret : Option FieldType} {hp : Instr → List Value → σ → (List Value → σ → Prop) → Prop} {K : Option Value → σ → Prop} {S : Nat → zL → List Value → σ → Prop} {L : zL} {s : σ} {st : List Value} : zone ret hp K cX3_firstSet S 16 L st s = (zldi L 3 fun v => S 17 L (v :: st) s) := zone_of dX3_firstSet_16 rfl
theorem Z_X3_firstSet_17 {σ : Type} {ret : Option FieldType} {hp : Instr → List Value → σ → (List Value → σ → Prop) → Prop} {K : Option Value → σ → Prop} {S : Nat → zL → List Value → σ → Prop} {L : zL} {s : σ} {st : List Value} : zone ret hp K cX3_firstSet S 17 L st s = (zldi L 2 fun v => S 18 L (v :: st) s) := zone_of dX3_firstSet_17 rfl
theorem Z_X3_firstSet_18 {σ : Type} {ret : Option FieldType} {hp : Instr → List Value → σ → (List Value → σ → Prop) → Prop} {K : Option Value → σ → Prop} {S : Nat → zL → List Value → σ → Prop} {L : zL} {s : σ} {st : List Value} : zone ret hp K cX3_firstSet S 18 L st s = (S 19 L (.int (-1) :: st) s) := zone_iconst dX3_firstSet_18 (by decide)
theorem Z_X3_firstSet_19 {σ : Type} {ret : Option FieldType} {hp : Instr → List Value → σ → (List Value → σ → Prop) → Prop} {K : Option Value → σ → Prop} {S : Nat → zL → List Value → σ → Prop} {L : zL} {s : σ} {st : List Value} : zone ret hp K cX3_firstSet S 19 L st s = (zb2 st fun x y r => S 20 L (.int (x ^^^ y) :: r) s) := zone_of dX3_firstSet_19 rfl
theorem Z_X3_firstSet_20 {σ : Type} {ret : Option FieldType} {hp : Instr → List Value → σ → (List Value → σ → Prop) → Prop} {K : Option Value → σ → Prop} {S : Nat → zL → List Value → σ → Prop} {L : zL} {s : σ} {st : List Value} : zone ret hp K cX3_firstSet S 20 L st s = (zb2 st fun x y r => S 21 L (.int (x &&& y) :: r) s) := zone_of dX3_firstSet_20 rfl
theorem Z_X3_firstSet_21 {σ : Type} {ret : Option FieldType} {hp : Instr → List Value → σ → (List Value → σ → Prop) → Prop} {K : Option Value → σ → Prop} {S : Nat → zL → List Value → σ → Prop} {L : zL} {s : σ} {st : List Value} : zone ret hp K cX3_firstSet S 21 L st s = (zb1 st fun x r => if x = 0 then S 24 L r s else S 58 L r s) := zone_if_ne dX3_firstSet_21 (by decide)
theorem Z_X3_firstSet_24 {σ : Type} {ret : Option FieldType} {hp : Instr → List Value → σ → (List Value → σ → Prop) → Prop} {K : Option Value → σ → Prop} {S : Nat → zL → List Value → σ → Prop} {L : zL} {s : σ} {st : List Value} : zone ret hp K cX3_firstSet S 24 L st s = (zlda L 0 fun v => S 25 L (v :: st) s) := zone_of dX3_firstSet_24 rfl
theorem Z_X3_firstSet_25 {σ : Type} {ret : Option FieldType} {hp : Instr → List Value → σ → (List Value → σ → Prop) → Prop} {K : Option Value → σ → Prop} {S : Nat → zL → List Value → σ → Prop} {L : zL} {s : σ} {st : List Value} : zone ret hp K cX3_firstSet S 25 L st s = (hp (.getfield 44) st s (fun st' s' => S 28 L st' s')) := zone_of dX3_firstSet_25 rfl
theorem Z_X3_firstSet_28 {σ : Type} {ret : Option FieldType} {hp : Instr → List Value → σ → (List Value → σ → Prop) → Prop} {K : Option Value → σ → Prop} {S : Nat → zL → List Value → σ → Prop} {L : zL} {s : σ} {st : List Value} : zone ret hp K cX3_firstSet S 28 L st s = (zldi L 3 fun v => S 29 L (v :: st) s) := zone_of dX3_firstSet_28 rfl
theorem Z_X3_firstSet_29 {σ : Type} {ret : Option FieldType} {hp : Instr → List Value → σ → (List Value → σ → Prop) → Prop} {K : Option Value → σ → Prop} {S : Nat → zL → List Value → σ → Prop} {L : zL} {s : σ} {st : List Value} : zone ret hp K cX3_firstSet S 29 L st s = (hp (.baload) st s (fun st' s' => S 30 L st' s')) := zone_of dX3_firstSet_29 rfl
theorem Z_X3_firstSet_30 {σ : Type} {ret : Option FieldType} {hp : Instr → List Value → σ → (List Value → σ → Prop) → Prop} {K : Option Value → σ → Prop} {S : Nat → zL → List Value → σ → Prop} {L : zL} {s : σ} {st : List Value} : zone ret hp K cX3_firstSet S 30 L st s = (zb1 st fun x r => if x = 0 then S 58 L r s else S 33 L r s) := zone_if_eq dX3_firstSet_30 (by decide)
theorem Z_X3_firstSet_33 {σ : Type} {ret : Option FieldType} {hp : Instr → List Value → σ → (List Value → σ → Prop) → Prop} {K : Option Value → σ → Prop} {S : Nat → zL → List Value → σ → Prop} {L : zL} {s : σ} {st : List Value} : zone ret hp K cX3_firstSet S 33 L st s = (zlda L 0 fun v => S 34 L (v :: st) s) := zone_of dX3_firstSet_33 rfl
theorem Z_X3_firstSet_34 {σ : Type} {ret : Option FieldType} {hp : Instr → List Value → σ → (List Value → σ → Prop) → Prop} {K : Option Value → σ → Prop} {S : Nat → zL → List Value → σ → Prop} {L : zL} {s : σ} {st : List Value} : zone ret hp K cX3_firstSet S 34 L st s = (zlda L 0 fun v => S 35 L (v :: st) s) := zone_of dX3_firstSet_34 rfl
theorem Z_X3_firstSet_35 {σ : Type} {ret : Option FieldType} {hp : Instr → List Value → σ → (List Value → σ → Prop) → Prop} {K : Option Value → σ → Prop} {S : Nat → zL → List Value → σ → Prop} {L : zL} {s : σ} {st : List Value} : zone ret hp K cX3_firstSet S 35 L st s = (zlda L 0 fun v => S 36 L (v :: st) s) := zone_of dX3_firstSet_35 rfl
theorem Z_X3_firstSet_36 {σ : Type} {ret : Option FieldType} {hp : Instr → List Value → σ → (List Value → σ → Prop) → Prop} {K : Option Value → σ → Prop} {S : Nat → zL → List Value → σ → Prop} {L : zL} {s : σ} {st : List Value} : zone ret hp K cX3_firstSet S 36 L st s = (hp (.invokevirtual 441) st s (fun st' s' => S 39 L st' s')) := zone_of dX3_firstSet_36 rfl
theorem Z_X3_firstSet_39 {σ : Type} {ret : Option FieldType} {hp : Instr → List Value → σ → (List Value → σ → Prop) → Prop} {K : Option Value → σ → Prop} {S : Nat → zL → List Value → σ → Prop} {L : zL} {s : σ} {st : List Value} : zone ret hp K cX3_firstSet S 39 L st s = (zldi L 3 fun v => S 40 L (v :: st) s) := zone_of dX3_firstSet_39 rfl
theorem Z_X3_firstSet_40 {σ : Type} {ret : Option FieldType} {hp : Instr → List Value → σ → (List Value → σ → Prop) → Prop} {K : Option Value → σ → Prop} {S : Nat → zL → List Value → σ → Prop} {L : zL} {s : σ} {st : List Value} : zone ret hp K cX3_firstSet S 40 L st s = (hp (.invokevirtual 435) st s (fun st' s' => S 43 L st' s')) := zone_of dX3_firstSet_40 rfl
theorem Z_X3_firstSet_43 {σ : Type} {ret : Option FieldType} {hp : Instr → List Value → σ → (List Value → σ → Prop) → Prop} {K : Option Value → σ → Prop} {S : Nat → zL → List Value → σ → Prop} {L : zL} {s : σ} {st : List Value} : zone ret hp K cX3_firstSet S 43 L st s = (zlda L 0 fun v => S 44 L (v :: st) s) := zone_of dX3_firstSet_43 rfl
theorem Z_X3_firstSet_44 {σ : Type} {ret : Option FieldType} {hp : Instr → List Value → σ → (List Value → σ → Prop) → Prop} {K : Option Value → σ → Prop} {S : Nat → zL → List Value → σ → Prop} {L : zL} {s : σ} {st : List Value} : zone ret hp K cX3_firstSet S 44 L st s = (hp (.invokevirtual 444) st s (fun st' s' => S 47 L st' s')) := zone_of dX3_firstSet_44 rfl
theorem Z_X3_firstSet_47 {σ : Type} {ret : Option FieldType} {hp : Instr → List Value → σ → (List Value → σ → Prop) → Prop} {K : Option Value → σ → Prop} {S : Nat → zL → List Value → σ → Prop} {L : zL} {s : σ} {st : List Value} : zone ret hp K cX3_firstSet S 47 L st s = (hp (.invokevirtual 438) st s (fun st' s' => S 50 L st' s')) := zone_of dX3_firstSet_47 rfl
theorem Z_X3_firstSet_50 {σ : Type} {ret : Option FieldType} {hp : Instr → List Value → σ → (List Value → σ → Prop) → Prop} {K : Option Value → σ → Prop} {S : Nat → zL → List Value → σ → Prop} {L : zL} {s : σ} {st : List Value} : zone ret hp K cX3_firstSet S 50 L st s = (zldi L 1 fun v => S 51 L (v :: st) s) := zone_of dX3_firstSet_50 rfl
theorem Z_X3_firstSet_51 {σ : Type} {ret : Option FieldType} {hp : Instr → List Value → σ → (List Value → σ → Prop) → Prop} {K : Option Value → σ → Prop} {S : Nat → zL → List Value → σ → Prop} {L : zL} {s : σ} {st : List Value} : zone ret hp K cX3_firstSet S 51 L st s = (S 52 L (.int 1 :: st) s) := zone_iconst dX3_firstSet_51 (by decide)
theorem Z_X3_firstSet_52 {σ : Type} {ret : Option FieldType} {hp : Instr → List Value → σ → (List Value → σ → Prop) → Prop} {K : Option Value → σ → Prop} {S : Nat → zL → List Value → σ → Prop} {L : zL} {s : σ} {st : List Value} : zone ret hp K cX3_firstSet S 52 L st s = (zb2 st fun x y r => S 53 L (.int (x - y) :: r) s) := zone_of dX3_firstSet_52 rfl
theorem Z_X3_firstSet_53 {σ : Type} {ret : Option FieldType} {hp : Instr → List Value → σ → (List Value → σ → Prop) → Prop} {K : Option Value → σ → Prop} {S : Nat → zL → List Value → σ → Prop} {L : zL} {s : σ} {st : List Value} : zone ret hp K cX3_firstSet S 53 L st s = (zb2 st fun x y r => if x = y then S 56 L r s else S 58 L r s) := zone_ic_ne dX3_firstSet_53 (by decide)
theorem Z_X3_firstSet_56 {σ : Type} {ret : Option FieldType} {hp : Instr → List Value → σ → (List Value → σ → Prop) → Prop} {K : Option Value → σ → Prop} {S : Nat → zL → List Value → σ → Prop} {L : zL} {s : σ} {st : List Value} : zone ret hp K cX3_firstSet S 56 L st s = (zldi L 3 fun v => S 57 L (v :: st) s) := zone_of dX3_firstSet_56 rfl
theorem Z_X3_firstSet_57 {σ : Type} {ret : Option FieldType} {hp : Instr → List Value → σ → (List Value → σ → Prop) → Prop} {K : Option Value → σ → Prop} {S : Nat → zL → List Value → σ → Prop} {L : zL} {s : σ} {v : Int32} : zone ret hp K cX3_firstSet S 57 L [.int v] s = (zretI ret v ∧ K (some (.int v)) s) := zone_of dX3_firstSet_57 rfl
theorem Z_X3_firstSet_58 {σ : Type} {ret : Option FieldType} {hp : Instr → List Value → σ → (List Value → σ → Prop) → Prop} {K : Option Value → σ → Prop} {S : Nat → zL → List Value → σ → Prop} {L : zL} {s : σ} {st : List Value} : zone ret hp K cX3_firstSet S 58 L st s = (zic L 3 1 fun q => S 61 q st s) := zone_iinc dX3_firstSet_58 (by decide)
theorem Z_X3_firstSet_61 {σ : Type} {ret : Option FieldType} {hp : Instr → List Value → σ → (List Value → σ → Prop) → Prop} {K : Option Value → σ → Prop} {S : Nat → zL → List Value → σ → Prop} {L : zL} {s : σ} {st : List Value} : zone ret hp K cX3_firstSet S 61 L st s = (S 11 L st s) := zone_goto dX3_firstSet_61 (by decide)
theorem Z_X3_firstSet_64 {σ : Type} {ret : Option FieldType} {hp : Instr → List Value → σ → (List Value → σ → Prop) → Prop} {K : Option Value → σ → Prop} {S : Nat → zL → List Value → σ → Prop} {L : zL} {s : σ} {st : List Value} : zone ret hp K cX3_firstSet S 64 L st s = (S 65 L (.int 0 :: st) s) := zone_iconst dX3_firstSet_64 (by decide)
theorem Z_X3_firstSet_65 {σ : Type} {ret : Option FieldType} {hp : Instr → List Value → σ → (List Value → σ → Prop) → Prop} {K : Option Value → σ → Prop} {S : Nat → zL → List Value → σ → Prop} {L : zL} {s : σ} {v : Int32} : zone ret hp K cX3_firstSet S 65 L [.int v] s = (zretI ret v ∧ K (some (.int v)) s) := zone_of dX3_firstSet_65 rfl
theorem CC_X3_firstSet_441 {b : Nat} {r : List Value} {s : zM} {k : List Value → zM → Prop} : zcallV b G_X3_firstSet 441 (.ref b :: r) s k = (zfew r 8 = true ∧ T_X3_started [] s (fun v s' => zpush v r (fun q => k q s'))) := zcV_n rfl rfl
theorem CC_X3_firstSet_429 {b : Nat} {a0 : Value} {r : List Value} {s : zM} {k : List Value → zM → Prop} : zcallV b G_X3_firstSet 429 (a0 :: .ref b :: r) s k = (zfew r 8 = true ∧ T_X3_openIn [a0] s (fun v s' => zpush v r (fun q => k q s'))) := zcV_n rfl rfl
theorem CC_X3_firstSet_435 {b : Nat} {a0 a1 : Value} {r : List Value} {s : zM} {k : List Value → zM → Prop} : zcallV b G_X3_firstSet 435 (a1 :: a0 :: .ref b :: r) s k = (zfew r 8 = true ∧ T_X3_step [a0, a1] s (fun v s' => zpush v r (fun q => k q s'))) := zcV_n rfl rfl
theorem CC_X3_firstSet_444 {b : Nat} {r : List Value} {s : zM} {k : List Value → zM → Prop} : zcallV b G_X3_firstSet 444 (.ref b :: r) s k = (zfew r 8 = true ∧ T_X3_ended [] s (fun v s' => zpush v r (fun q => k q s'))) := zcV_n rfl rfl
theorem CC_X3_firstSet_438 {b : Nat} {a0 a1 : Value} {r : List Value} {s : zM} {k : List Value → zM → Prop} : zcallV b G_X3_firstSet 438 (a1 :: a0 :: .ref b :: r) s k = (zfew r 8 = true ∧ T_X3_farFrom [a0, a1] s (fun v s' => zpush v r (fun q => k q s'))) := zcV_n rfl rfl
theorem TE_X3_firstSet {h : Int32} {s : zM} {K : Option Value → zM → Prop} : T_X3_firstSet [.int h] s K = ((fun _ s => ywf (s.2 1) ∧ yhull (s.2 1) ∧ ymemo (s.2 1) (s.2 11) (s.2 14)) h s ∧ ∀ u9 : zM, (fun _ s u => ∃ f, u = zB s 14 f) h s u9 → K ((fun h s => some (.int (yfirstS (s.2 1) (s.2 11) h))) h s) u9) := rfl
set_option maxRecDepth 100000 in
set_option maxHeartbeats 4000000 in
theorem B_X3_firstSet {E : zEnv} (b : Nat) (h : Int32) (s : zM) (K : Option Value → zM → Prop) (hT : T_X3_firstSet [.int h] s K) (S : Nat → zL → List Value → zM → Prop) (hm : zMono (zMhp E b G_X3_firstSet)) (hc : zClosed (some .int) (zMhp E b G_X3_firstSet) K cX3_firstSet S) : S 0 [some (.ref b), some (.int h), none, none] [] s := by
  obtain ⟨⟨hwf, hy, hmemo⟩, hK⟩ := hT
  dsimp only at hK
  obtain ⟨W, hW, eW⟩ := vp_in_of hwf.2.2.2.2.2.2.1 (by decide)
  have aW : (s.2 1 98).toNatClampNeg = W := by rw [eW, nI_clamp (by omega)]
  have hW8 : (s.2 1 98).toNatClampNeg ≤ 8 := by omega
  have hw8 := hwf.2.2.2.2.2.2.1
  have hp4 := ypow4_le W hW
  have e0 := ystarted_nI hy hW8
  have eE := yended_nI hy hW8
  have hv := yvalid_0 hy hW8
  have hVl := hv.1
  rw [aW] at hVl
  have hvV : vp_in (nI (yV0 (s.2 1))) 65536 := vp_in_nI (by omega) (by decide)
  have hcV : (nI (yV0 (s.2 1))).toNatClampNeg = yV0 (s.2 1) := nI_clamp (by omega)
  have hstep : ∀ Z V, ystep (s.2 1) (nI V) (nI Z) = nI (yadd Z V W) := fun Z V => ystep_nI (by omega) aW
  have hadd := fun Z hs => yadd_ok (S := Z) hy hW8 hv hs
  have hOl := yopn_lt (w := s.2 1) (V := yV0 (s.2 1))
  rw [aW] at hOl
  have hpw := ypow_le hW
  have hO : yopn (s.2 1) (yV0 (s.2 1)) < 256 := by omega
  unfold yfirstS at hK
  generalize hQ : yfirstQ (s.2 1) (s.2 11) h = Q at hK
  have loop : ∀ n k : Nat, k + n = yopn (s.2 1) (yV0 (s.2 1)) → (∀ i, i < k → Q i = false) → ∀ f, ymemo (s.2 1) (s.2 11) f → S 11 [some (.ref b), some (.int h), some (.int (nI (yopn (s.2 1) (yV0 (s.2 1))))), some (.int (nI (k + 1)))] [] (zB s 14 f) := by
    intro n
    induction n with
    | zero =>
      intro k hk hno f hf
      rw [← hk, yfind_n (fun i hi => hno i (by omega))] at hK
      have hlt : yopn (s.2 1) (yV0 (s.2 1)) < k + 1 := by omega
      refine zgo hm hc (fun q => q == 11) 60 ?_
      simp (config := {decide := true, maxSteps := 1000000}) (disch := first | rfl | decide | omega) only [↓Z_X3_firstSet_0, ↓Z_X3_firstSet_1, ↓Z_X3_firstSet_2, ↓Z_X3_firstSet_5, ↓Z_X3_firstSet_8, ↓Z_X3_firstSet_9, ↓Z_X3_firstSet_10, ↓Z_X3_firstSet_11, ↓Z_X3_firstSet_12, ↓Z_X3_firstSet_13, ↓Z_X3_firstSet_16, ↓Z_X3_firstSet_17, ↓Z_X3_firstSet_18, ↓Z_X3_firstSet_19, ↓Z_X3_firstSet_20, ↓Z_X3_firstSet_21, ↓Z_X3_firstSet_24, ↓Z_X3_firstSet_25, ↓Z_X3_firstSet_28, ↓Z_X3_firstSet_29, ↓Z_X3_firstSet_30, ↓Z_X3_firstSet_33, ↓Z_X3_firstSet_34, ↓Z_X3_firstSet_35, ↓Z_X3_firstSet_36, ↓Z_X3_firstSet_39, ↓Z_X3_firstSet_40, ↓Z_X3_firstSet_43, ↓Z_X3_firstSet_44, ↓Z_X3_firstSet_47, ↓Z_X3_firstSet_50, ↓Z_X3_firstSet_51, ↓Z_X3_firstSet_52, ↓Z_X3_firstSet_53, ↓Z_X3_firstSet_56, ↓Z_X3_firstSet_57, ↓Z_X3_firstSet_58, ↓Z_X3_firstSet_61, ↓Z_X3_firstSet_64, ↓Z_X3_firstSet_65, ↓reduceIte, ↓zrun_stop, ↓zrun_step, ↓zb2_i, ↓zb1_i, ↓zldi_0, ↓zldi_s, ↓zlda_0, ↓zlda_n, ↓zlda_s, ↓zsc_0, ↓zsc_s, ↓zsti_c, ↓zsta_r, ↓zsta_n, ↓zic_0, ↓zic_s, ↓zpush_s, ↓zpush_n, ↓zfew_0, ↓zfew_i, ↓zfew_r, ↓zfew_n, ↓zMg'_44, ↓zMhp_iV, ↓zMl_1, ↓zMl_10, ↓zMl_11, ↓zMl_12, ↓zMl_13, ↓zMl_14, ↓zMl_15, ↓zMl_16, ↓zMl_17, ↓zMl_18, ↓zMl_2, ↓zMl_3, ↓zMl_4, ↓zMl_5, ↓zMl_6, ↓zMl_7, ↓zMl_8, ↓zMl_9, ↓CC_X3_firstSet_441, ↓CC_X3_firstSet_429, ↓CC_X3_firstSet_435, ↓CC_X3_firstSet_444, ↓CC_X3_firstSet_438, ↓TE_X3_started, ↓TE_X3_openIn, ↓TE_X3_step, ↓TE_X3_ended, ↓TE_X3_farFrom, zcat_int, zcat_ref, zcat_null, zret_int, zret_b0, zret_b1, zret_b, Nat.reduceAdd, Nat.reduceSub, Nat.reduceLT, Nat.reduceEqDiff, Nat.reduceBEq, Nat.reduceBNe, true_and, and_true, if_true, if_false, Bool.false_eq_true, Bool.true_eq_false, Bool.or_self, Bool.or_false, Bool.or_true, Bool.false_or, Bool.true_or, zbi_e0, zbi_e1, eq_self, reduceCtorEq, Fin.isValue, zent, List.map_cons, List.map_nil, List.length_cons, List.length_nil, List.replicate, List.cons_append, List.nil_append, List.append_nil, Nat.zero_add, Nat.add_zero, zF_1, zF_2, zA_1, zA_2s, zA_2n, zB_1, zB_2s, zB_2n, not_true_eq_false, not_false_eq_true, Int32.reduceLT, Int32.reduceAdd, Int32.reduceSub, Int32.reduceMul, ne_eq, Int32.reduceToNatClampNeg, zlit_vp, nI_al, nI_la, nI_lm, nI_ml, nI_ltl, nI_llt, nI_eql, nI_lt2, nI_eq2, nI_vp, nI_cl, nI_add, pk_mul, nI_divl, nI_sub2, nI_lsub, nI_ne0l, nI_1, nI_pred, pk_m1, upd_s, upd_n, Nat.lt_irrefl, decide_eq_false_iff_not, decide_eq_true_eq, ite_not, ite_self, Nat.reducePow, Nat.reduceMul, hlt, nI_lt2]
      exact hK _ ⟨f, rfl⟩
    | succ n ih =>
      intro k hk hno f hf
      have hlt : ¬ yopn (s.2 1) (yV0 (s.2 1)) < k + 1 := by omega
      have ih := fun (hq : Q k = false) => ih (k + 1) (by omega) (fun i hi => by
        rcases Nat.lt_succ_iff_lt_or_eq.mp hi with h2 | h2
        · exact hno i h2
        · rw [h2]; exact hq)
      have hk2 : k < yopn (s.2 1) (yV0 (s.2 1)) := by omega
      have hvS : vp_in (nI (k + 1)) 256 := vp_in_nI (by omega) (by decide)
      have hcS : (nI (k + 1)).toNatClampNeg = k + 1 := nI_clamp (by omega)
      have hQk : Q k = (decide (nI (k + 1) &&& (nI (yopn (s.2 1) (yV0 (s.2 1))) ^^^ (-1)) = 0) && !decide (s.2 11 (k + 1) = 0) && decide (yfarV (s.2 1) (s.2 11) (yadd (k + 1) (yV0 (s.2 1)) (s.2 1 98).toNatClampNeg) = h - 1)) := by rw [← hQ]; rfl
      by_cases c1 : nI (k + 1) &&& (nI (yopn (s.2 1) (yV0 (s.2 1))) ^^^ (-1)) = 0
      · by_cases c2 : s.2 11 (k + 1) = 0
        · rw [c2, decide_eq_true (rfl : (0 : Int32) = 0), Bool.not_true, Bool.and_false, Bool.false_and] at hQk
          refine zgo hm hc (fun q => q == 11) 60 ?_
          simp (config := {decide := true, maxSteps := 1000000}) (disch := first | rfl | decide | omega) only [↓Z_X3_firstSet_0, ↓Z_X3_firstSet_1, ↓Z_X3_firstSet_2, ↓Z_X3_firstSet_5, ↓Z_X3_firstSet_8, ↓Z_X3_firstSet_9, ↓Z_X3_firstSet_10, ↓Z_X3_firstSet_11, ↓Z_X3_firstSet_12, ↓Z_X3_firstSet_13, ↓Z_X3_firstSet_16, ↓Z_X3_firstSet_17, ↓Z_X3_firstSet_18, ↓Z_X3_firstSet_19, ↓Z_X3_firstSet_20, ↓Z_X3_firstSet_21, ↓Z_X3_firstSet_24, ↓Z_X3_firstSet_25, ↓Z_X3_firstSet_28, ↓Z_X3_firstSet_29, ↓Z_X3_firstSet_30, ↓Z_X3_firstSet_33, ↓Z_X3_firstSet_34, ↓Z_X3_firstSet_35, ↓Z_X3_firstSet_36, ↓Z_X3_firstSet_39, ↓Z_X3_firstSet_40, ↓Z_X3_firstSet_43, ↓Z_X3_firstSet_44, ↓Z_X3_firstSet_47, ↓Z_X3_firstSet_50, ↓Z_X3_firstSet_51, ↓Z_X3_firstSet_52, ↓Z_X3_firstSet_53, ↓Z_X3_firstSet_56, ↓Z_X3_firstSet_57, ↓Z_X3_firstSet_58, ↓Z_X3_firstSet_61, ↓Z_X3_firstSet_64, ↓Z_X3_firstSet_65, ↓reduceIte, ↓zrun_stop, ↓zrun_step, ↓zb2_i, ↓zb1_i, ↓zldi_0, ↓zldi_s, ↓zlda_0, ↓zlda_n, ↓zlda_s, ↓zsc_0, ↓zsc_s, ↓zsti_c, ↓zsta_r, ↓zsta_n, ↓zic_0, ↓zic_s, ↓zpush_s, ↓zpush_n, ↓zfew_0, ↓zfew_i, ↓zfew_r, ↓zfew_n, ↓zMg'_44, ↓zMhp_iV, ↓zMl_1, ↓zMl_10, ↓zMl_11, ↓zMl_12, ↓zMl_13, ↓zMl_14, ↓zMl_15, ↓zMl_16, ↓zMl_17, ↓zMl_18, ↓zMl_2, ↓zMl_3, ↓zMl_4, ↓zMl_5, ↓zMl_6, ↓zMl_7, ↓zMl_8, ↓zMl_9, ↓CC_X3_firstSet_441, ↓CC_X3_firstSet_429, ↓CC_X3_firstSet_435, ↓CC_X3_firstSet_444, ↓CC_X3_firstSet_438, ↓TE_X3_started, ↓TE_X3_openIn, ↓TE_X3_step, ↓TE_X3_ended, ↓TE_X3_farFrom, zcat_int, zcat_ref, zcat_null, zret_int, zret_b0, zret_b1, zret_b, Nat.reduceAdd, Nat.reduceSub, Nat.reduceLT, Nat.reduceEqDiff, Nat.reduceBEq, Nat.reduceBNe, true_and, and_true, if_true, if_false, Bool.false_eq_true, Bool.true_eq_false, Bool.or_self, Bool.or_false, Bool.or_true, Bool.false_or, Bool.true_or, zbi_e0, zbi_e1, eq_self, reduceCtorEq, Fin.isValue, zent, List.map_cons, List.map_nil, List.length_cons, List.length_nil, List.replicate, List.cons_append, List.nil_append, List.append_nil, Nat.zero_add, Nat.add_zero, zF_1, zF_2, zA_1, zA_2s, zA_2n, zB_1, zB_2s, zB_2n, not_true_eq_false, not_false_eq_true, Int32.reduceLT, Int32.reduceAdd, Int32.reduceSub, Int32.reduceMul, ne_eq, Int32.reduceToNatClampNeg, zlit_vp, nI_al, nI_la, nI_lm, nI_ml, nI_ltl, nI_llt, nI_eql, nI_lt2, nI_eq2, nI_vp, nI_cl, nI_add, pk_mul, nI_divl, nI_sub2, nI_lsub, nI_ne0l, nI_1, nI_pred, pk_m1, upd_s, upd_n, Nat.lt_irrefl, decide_eq_false_iff_not, decide_eq_true_eq, ite_not, ite_self, Nat.reducePow, Nat.reduceMul, hlt, nI_lt2, c1, hvS, hcS, c2]
          exact ih hQk f hf
        · obtain ⟨a1, a2⟩ := hadd (k + 1) ((ysub_iff (by omega)).mp c1)
          have a3 := a1.1
          rw [aW] at a1 a3
          have a4 := yrem4_le (V := yadd (k + 1) (yV0 (s.2 1)) W) hy hW8
          have hP : yfarP (zB s 14 f) (nI (yadd (k + 1) (yV0 (s.2 1)) W)) (nI (yVE (s.2 1))) 26 := ⟨hwf, hy, ⟨_, rfl, a1, by show yrem4 (s.2 1) _ < _; omega⟩, rfl, by show ymemo (s.2 1) (s.2 11) ((zB s 14 f).2 14); rw [zB_2s]; exact hf⟩
          have hcA : (nI (yadd (k + 1) (yV0 (s.2 1)) W)).toNatClampNeg = yadd (k + 1) (yV0 (s.2 1)) W := nI_clamp (by omega)
          rw [decide_eq_true c1, decide_eq_false c2, Bool.not_false, Bool.true_and, Bool.true_and, aW] at hQk
          refine zgo hm hc (fun q => q == 11) 80 ?_
          simp (config := {decide := true, maxSteps := 1000000}) (disch := first | rfl | decide | omega) only [↓Z_X3_firstSet_0, ↓Z_X3_firstSet_1, ↓Z_X3_firstSet_2, ↓Z_X3_firstSet_5, ↓Z_X3_firstSet_8, ↓Z_X3_firstSet_9, ↓Z_X3_firstSet_10, ↓Z_X3_firstSet_11, ↓Z_X3_firstSet_12, ↓Z_X3_firstSet_13, ↓Z_X3_firstSet_16, ↓Z_X3_firstSet_17, ↓Z_X3_firstSet_18, ↓Z_X3_firstSet_19, ↓Z_X3_firstSet_20, ↓Z_X3_firstSet_21, ↓Z_X3_firstSet_24, ↓Z_X3_firstSet_25, ↓Z_X3_firstSet_28, ↓Z_X3_firstSet_29, ↓Z_X3_firstSet_30, ↓Z_X3_firstSet_33, ↓Z_X3_firstSet_34, ↓Z_X3_firstSet_35, ↓Z_X3_firstSet_36, ↓Z_X3_firstSet_39, ↓Z_X3_firstSet_40, ↓Z_X3_firstSet_43, ↓Z_X3_firstSet_44, ↓Z_X3_firstSet_47, ↓Z_X3_firstSet_50, ↓Z_X3_firstSet_51, ↓Z_X3_firstSet_52, ↓Z_X3_firstSet_53, ↓Z_X3_firstSet_56, ↓Z_X3_firstSet_57, ↓Z_X3_firstSet_58, ↓Z_X3_firstSet_61, ↓Z_X3_firstSet_64, ↓Z_X3_firstSet_65, ↓reduceIte, ↓zrun_stop, ↓zrun_step, ↓zb2_i, ↓zb1_i, ↓zldi_0, ↓zldi_s, ↓zlda_0, ↓zlda_n, ↓zlda_s, ↓zsc_0, ↓zsc_s, ↓zsti_c, ↓zsta_r, ↓zsta_n, ↓zic_0, ↓zic_s, ↓zpush_s, ↓zpush_n, ↓zfew_0, ↓zfew_i, ↓zfew_r, ↓zfew_n, ↓zMg'_44, ↓zMhp_iV, ↓zMl_1, ↓zMl_10, ↓zMl_11, ↓zMl_12, ↓zMl_13, ↓zMl_14, ↓zMl_15, ↓zMl_16, ↓zMl_17, ↓zMl_18, ↓zMl_2, ↓zMl_3, ↓zMl_4, ↓zMl_5, ↓zMl_6, ↓zMl_7, ↓zMl_8, ↓zMl_9, ↓CC_X3_firstSet_441, ↓CC_X3_firstSet_429, ↓CC_X3_firstSet_435, ↓CC_X3_firstSet_444, ↓CC_X3_firstSet_438, ↓TE_X3_started, ↓TE_X3_openIn, ↓TE_X3_step, ↓TE_X3_ended, ↓TE_X3_farFrom, zcat_int, zcat_ref, zcat_null, zret_int, zret_b0, zret_b1, zret_b, Nat.reduceAdd, Nat.reduceSub, Nat.reduceLT, Nat.reduceEqDiff, Nat.reduceBEq, Nat.reduceBNe, true_and, and_true, if_true, if_false, Bool.false_eq_true, Bool.true_eq_false, Bool.or_self, Bool.or_false, Bool.or_true, Bool.false_or, Bool.true_or, zbi_e0, zbi_e1, eq_self, reduceCtorEq, Fin.isValue, zent, List.map_cons, List.map_nil, List.length_cons, List.length_nil, List.replicate, List.cons_append, List.nil_append, List.append_nil, Nat.zero_add, Nat.add_zero, zF_1, zF_2, zA_1, zA_2s, zA_2n, zB_1, zB_2s, zB_2n, not_true_eq_false, not_false_eq_true, Int32.reduceLT, Int32.reduceAdd, Int32.reduceSub, Int32.reduceMul, ne_eq, Int32.reduceToNatClampNeg, zlit_vp, nI_al, nI_la, nI_lm, nI_ml, nI_ltl, nI_llt, nI_eql, nI_lt2, nI_eq2, nI_vp, nI_cl, nI_add, pk_mul, nI_divl, nI_sub2, nI_lsub, nI_ne0l, nI_1, nI_pred, pk_m1, upd_s, upd_n, Nat.lt_irrefl, decide_eq_false_iff_not, decide_eq_true_eq, ite_not, ite_self, Nat.reducePow, Nat.reduceMul, hlt, nI_lt2, c1, hvS, hcS, c2, hw8, e0, eE, hstep, hP, hcA]
          rintro u ⟨f2, rfl, hf2⟩
          rw [zB_B]
          have hf2 : ymemo (s.2 1) (s.2 11) f2 := hf2
          by_cases c3 : yfarV (s.2 1) (s.2 11) (yadd (k + 1) (yV0 (s.2 1)) W) = h - 1
          · rw [if_pos c3]
            rw [decide_eq_true c3] at hQk
            rw [yfind_s hk2 hQk hno] at hK
            exact hK _ ⟨f2, rfl⟩
          · rw [if_neg c3]
            rw [decide_eq_false c3] at hQk
            exact ih hQk f2 hf2
      · rw [decide_eq_false c1, Bool.false_and, Bool.false_and] at hQk
        refine zgo hm hc (fun q => q == 11) 60 ?_
        simp (config := {decide := true, maxSteps := 1000000}) (disch := first | rfl | decide | omega) only [↓Z_X3_firstSet_0, ↓Z_X3_firstSet_1, ↓Z_X3_firstSet_2, ↓Z_X3_firstSet_5, ↓Z_X3_firstSet_8, ↓Z_X3_firstSet_9, ↓Z_X3_firstSet_10, ↓Z_X3_firstSet_11, ↓Z_X3_firstSet_12, ↓Z_X3_firstSet_13, ↓Z_X3_firstSet_16, ↓Z_X3_firstSet_17, ↓Z_X3_firstSet_18, ↓Z_X3_firstSet_19, ↓Z_X3_firstSet_20, ↓Z_X3_firstSet_21, ↓Z_X3_firstSet_24, ↓Z_X3_firstSet_25, ↓Z_X3_firstSet_28, ↓Z_X3_firstSet_29, ↓Z_X3_firstSet_30, ↓Z_X3_firstSet_33, ↓Z_X3_firstSet_34, ↓Z_X3_firstSet_35, ↓Z_X3_firstSet_36, ↓Z_X3_firstSet_39, ↓Z_X3_firstSet_40, ↓Z_X3_firstSet_43, ↓Z_X3_firstSet_44, ↓Z_X3_firstSet_47, ↓Z_X3_firstSet_50, ↓Z_X3_firstSet_51, ↓Z_X3_firstSet_52, ↓Z_X3_firstSet_53, ↓Z_X3_firstSet_56, ↓Z_X3_firstSet_57, ↓Z_X3_firstSet_58, ↓Z_X3_firstSet_61, ↓Z_X3_firstSet_64, ↓Z_X3_firstSet_65, ↓reduceIte, ↓zrun_stop, ↓zrun_step, ↓zb2_i, ↓zb1_i, ↓zldi_0, ↓zldi_s, ↓zlda_0, ↓zlda_n, ↓zlda_s, ↓zsc_0, ↓zsc_s, ↓zsti_c, ↓zsta_r, ↓zsta_n, ↓zic_0, ↓zic_s, ↓zpush_s, ↓zpush_n, ↓zfew_0, ↓zfew_i, ↓zfew_r, ↓zfew_n, ↓zMg'_44, ↓zMhp_iV, ↓zMl_1, ↓zMl_10, ↓zMl_11, ↓zMl_12, ↓zMl_13, ↓zMl_14, ↓zMl_15, ↓zMl_16, ↓zMl_17, ↓zMl_18, ↓zMl_2, ↓zMl_3, ↓zMl_4, ↓zMl_5, ↓zMl_6, ↓zMl_7, ↓zMl_8, ↓zMl_9, ↓CC_X3_firstSet_441, ↓CC_X3_firstSet_429, ↓CC_X3_firstSet_435, ↓CC_X3_firstSet_444, ↓CC_X3_firstSet_438, ↓TE_X3_started, ↓TE_X3_openIn, ↓TE_X3_step, ↓TE_X3_ended, ↓TE_X3_farFrom, zcat_int, zcat_ref, zcat_null, zret_int, zret_b0, zret_b1, zret_b, Nat.reduceAdd, Nat.reduceSub, Nat.reduceLT, Nat.reduceEqDiff, Nat.reduceBEq, Nat.reduceBNe, true_and, and_true, if_true, if_false, Bool.false_eq_true, Bool.true_eq_false, Bool.or_self, Bool.or_false, Bool.or_true, Bool.false_or, Bool.true_or, zbi_e0, zbi_e1, eq_self, reduceCtorEq, Fin.isValue, zent, List.map_cons, List.map_nil, List.length_cons, List.length_nil, List.replicate, List.cons_append, List.nil_append, List.append_nil, Nat.zero_add, Nat.add_zero, zF_1, zF_2, zA_1, zA_2s, zA_2n, zB_1, zB_2s, zB_2n, not_true_eq_false, not_false_eq_true, Int32.reduceLT, Int32.reduceAdd, Int32.reduceSub, Int32.reduceMul, ne_eq, Int32.reduceToNatClampNeg, zlit_vp, nI_al, nI_la, nI_lm, nI_ml, nI_ltl, nI_llt, nI_eql, nI_lt2, nI_eq2, nI_vp, nI_cl, nI_add, pk_mul, nI_divl, nI_sub2, nI_lsub, nI_ne0l, nI_1, nI_pred, pk_m1, upd_s, upd_n, Nat.lt_irrefl, decide_eq_false_iff_not, decide_eq_true_eq, ite_not, ite_self, Nat.reducePow, Nat.reduceMul, hlt, nI_lt2, c1]
        exact ih hQk f hf
  refine zgo hm hc (fun q => q == 11) 60 ?_
  simp (config := {decide := true, maxSteps := 1000000}) (disch := first | rfl | decide | omega) only [↓Z_X3_firstSet_0, ↓Z_X3_firstSet_1, ↓Z_X3_firstSet_2, ↓Z_X3_firstSet_5, ↓Z_X3_firstSet_8, ↓Z_X3_firstSet_9, ↓Z_X3_firstSet_10, ↓Z_X3_firstSet_11, ↓Z_X3_firstSet_12, ↓Z_X3_firstSet_13, ↓Z_X3_firstSet_16, ↓Z_X3_firstSet_17, ↓Z_X3_firstSet_18, ↓Z_X3_firstSet_19, ↓Z_X3_firstSet_20, ↓Z_X3_firstSet_21, ↓Z_X3_firstSet_24, ↓Z_X3_firstSet_25, ↓Z_X3_firstSet_28, ↓Z_X3_firstSet_29, ↓Z_X3_firstSet_30, ↓Z_X3_firstSet_33, ↓Z_X3_firstSet_34, ↓Z_X3_firstSet_35, ↓Z_X3_firstSet_36, ↓Z_X3_firstSet_39, ↓Z_X3_firstSet_40, ↓Z_X3_firstSet_43, ↓Z_X3_firstSet_44, ↓Z_X3_firstSet_47, ↓Z_X3_firstSet_50, ↓Z_X3_firstSet_51, ↓Z_X3_firstSet_52, ↓Z_X3_firstSet_53, ↓Z_X3_firstSet_56, ↓Z_X3_firstSet_57, ↓Z_X3_firstSet_58, ↓Z_X3_firstSet_61, ↓Z_X3_firstSet_64, ↓Z_X3_firstSet_65, ↓reduceIte, ↓zrun_stop, ↓zrun_step, ↓zb2_i, ↓zb1_i, ↓zldi_0, ↓zldi_s, ↓zlda_0, ↓zlda_n, ↓zlda_s, ↓zsc_0, ↓zsc_s, ↓zsti_c, ↓zsta_r, ↓zsta_n, ↓zic_0, ↓zic_s, ↓zpush_s, ↓zpush_n, ↓zfew_0, ↓zfew_i, ↓zfew_r, ↓zfew_n, ↓zMg'_44, ↓zMhp_iV, ↓zMl_1, ↓zMl_10, ↓zMl_11, ↓zMl_12, ↓zMl_13, ↓zMl_14, ↓zMl_15, ↓zMl_16, ↓zMl_17, ↓zMl_18, ↓zMl_2, ↓zMl_3, ↓zMl_4, ↓zMl_5, ↓zMl_6, ↓zMl_7, ↓zMl_8, ↓zMl_9, ↓CC_X3_firstSet_441, ↓CC_X3_firstSet_429, ↓CC_X3_firstSet_435, ↓CC_X3_firstSet_444, ↓CC_X3_firstSet_438, ↓TE_X3_started, ↓TE_X3_openIn, ↓TE_X3_step, ↓TE_X3_ended, ↓TE_X3_farFrom, zcat_int, zcat_ref, zcat_null, zret_int, zret_b0, zret_b1, zret_b, Nat.reduceAdd, Nat.reduceSub, Nat.reduceLT, Nat.reduceEqDiff, Nat.reduceBEq, Nat.reduceBNe, true_and, and_true, if_true, if_false, Bool.false_eq_true, Bool.true_eq_false, Bool.or_self, Bool.or_false, Bool.or_true, Bool.false_or, Bool.true_or, zbi_e0, zbi_e1, eq_self, reduceCtorEq, Fin.isValue, zent, List.map_cons, List.map_nil, List.length_cons, List.length_nil, List.replicate, List.cons_append, List.nil_append, List.append_nil, Nat.zero_add, Nat.add_zero, zF_1, zF_2, zA_1, zA_2s, zA_2n, zB_1, zB_2s, zB_2n, not_true_eq_false, not_false_eq_true, Int32.reduceLT, Int32.reduceAdd, Int32.reduceSub, Int32.reduceMul, ne_eq, Int32.reduceToNatClampNeg, zlit_vp, nI_al, nI_la, nI_lm, nI_ml, nI_ltl, nI_llt, nI_eql, nI_lt2, nI_eq2, nI_vp, nI_cl, nI_add, pk_mul, nI_divl, nI_sub2, nI_lsub, nI_ne0l, nI_1, nI_pred, pk_m1, upd_s, upd_n, Nat.lt_irrefl, decide_eq_false_iff_not, decide_eq_true_eq, ite_not, ite_self, Nat.reducePow, Nat.reduceMul, hwf, hw8, e0, hvV, hcV]
  exact zS_eq (zB_id (m := s) (h := 14)).symm (loop _ 0 (Nat.zero_add _) (fun i hi => absurd hi (Nat.not_lt_zero _)) _ hmemo)
theorem MS_X3_firstSet {l : Launch} {E : zEnv} {b0 : Nat} : zMS l E b0 29 yX3_firstSet (ws_ yX3_firstSet cX3_firstSet 4 (some .int)) 0 0 (zlV E T_X3_firstSet) := by
  refine zM_MS (Γ := G_X3_firstSet) rfl (zΓok_cons (IM_X3_started (by decide)) (zΓok_cons (IM_X3_openIn (by decide)) (zΓok_cons (IM_X3_step (by decide)) (zΓok_cons (IM_X3_ended (by decide)) (zΓok_cons (IM_X3_farFrom (by decide)) zΓok_nil))))) (fun as s K h => ?_) ?_
  · have h1 := zx1_a as s K h
    exact ⟨by rw [h1.1]; decide, h1.2⟩
  · intro b as s K hT S hm hc
    have h0 := hT
    unfold T_X3_firstSet zx1 at h0
    split at h0
    · exact B_X3_firstSet b _ s K hT S hm hc
    · exact h0.elim
theorem IM_X3_firstSet {l : Launch} {E : zEnv} {b0 d0 : Nat} (hd : 29 + 1 ≤ d0) : zΓokq l E b0 d0 (450, true, 1, T_X3_firstSet) := ⟨zx1_m, (fun _ => zInv.V MS_X3_firstSet hd (by decide) (lw_V q1901 q1903 qs134 q158 q1904) (by decide +kernel) rfl rfl), fun h => nomatch h⟩
theorem yfull_tg {tg tg' : Nat → Int32} {W Z O : Nat} (h : ∀ x, x < 2 ^ W → tg x = tg' x) (hZ : Z < 2 ^ W) : yfull tg W Z O = yfull tg' W Z O := by
  unfold yfull
  have : ∀ n, n ≤ W → yall (fun i => !(O.testBit i && !Z.testBit i && !decide (tg (Z ||| 2 ^ i) = 0))) n = yall (fun i => !(O.testBit i && !Z.testBit i && !decide (tg' (Z ||| 2 ^ i) = 0))) n := by
    intro n
    induction n with
    | zero => intro _; rfl
    | succ n ih =>
      intro hn
      unfold yall
      rw [ih (by omega), h _ (yor_lt hZ (by omega))]
  exact this W (Nat.le_refl _)
theorem yfar_tg {w tg tg' : Nat → Int32} (h : ∀ x, x < 2 ^ (w 98).toNatClampNeg → tg x = tg' x) : ∀ n V, yfar w tg n V = yfar w tg' n V
  | 0, _ => rfl
  | n + 1, V => by
    show (if V = yVE w then 0 else yscan (yfarS w tg (yfar w tg n) V) (yopn w V) 256 (yopn w V) (-1)) = (if V = yVE w then 0 else yscan (yfarS w tg' (yfar w tg' n) V) (yopn w V) 256 (yopn w V) (-1))
    rw [yscan_c (G := yfarS w tg' (yfar w tg' n) V) (fun Z hZ hs => by
      have hl := ysub_lt hs (yopn_lt (w := w) (V := V))
      unfold yfarS
      rw [h Z hl, yfull_tg h hl, yfar_tg h n]) _ _ _ (fun i q => q)]
theorem yfirstS_tg {w tg tg' : Nat → Int32} {hours : Int32} (h : ∀ x, x < 2 ^ (w 98).toNatClampNeg → tg x = tg' x) : yfirstS w tg hours = yfirstS w tg' hours := by
  unfold yfirstS
  rw [yfind_c (Q' := yfirstQ w tg' hours) (fun i hi => by
    have hl := yopn_lt (w := w) (V := yV0 w)
    unfold yfirstQ yfarV
    rw [h (i + 1) (by omega), yfar_tg h])]
noncomputable def ysoonR (w : Nat → Int32) (x : Int32) : Int32 := if yin x 0 1 = true then (if x = 0 ∨ yfarV w (ytw w) (yV0 w) = -1 then yfarV w (ytw w) (yV0 w) else if yfarV w (ytw w) (yV0 w) = 0 then 0 else yfirstS w (ytw w) (yfarV w (ytw w) (yV0 w))) else -1
def T_X3_soonest : zT zM := zr1 (fun _ s => ywf (s.2 1) ∧ yhull (s.2 1)) (fun x s => some (.int (ysoonR (s.2 1) x)))
abbrev G_X3_soonest : zΓ zM := [(77, false, 3, T_X3_isIn), (447, true, 0, T_X3_laysTogether), (441, true, 0, T_X3_started), (444, true, 0, T_X3_ended), (438, true, 2, T_X3_farFrom), (450, true, 1, T_X3_firstSet)]
theorem Z_X3_soonest_0 {σ : Type} {ret : Option FieldType} {hp : Instr → List Value → σ → (List Value → σ → Prop) → Prop} {K : Option Value → σ → Prop} {S : Nat → zL → List Value → σ → Prop} {L : zL} {s : σ} {st : List Value} : zone ret hp K cX3_soonest S 0 L st s = (zldi L 1 fun v => S 1 L (v :: st) s) := zone_of dX3_soonest_0 rfl
theorem Z_X3_soonest_1 {σ : Type} {ret : Option FieldType} {hp : Instr → List Value → σ → (List Value → σ → Prop) → Prop} {K : Option Value → σ → Prop} {S : Nat → zL → List Value → σ → Prop} {L : zL} {s : σ} {st : List Value} : zone ret hp K cX3_soonest S 1 L st s = (S 2 L (.int 0 :: st) s) := zone_iconst dX3_soonest_1 (by decide)
theorem Z_X3_soonest_2 {σ : Type} {ret : Option FieldType} {hp : Instr → List Value → σ → (List Value → σ → Prop) → Prop} {K : Option Value → σ → Prop} {S : Nat → zL → List Value → σ → Prop} {L : zL} {s : σ} {st : List Value} : zone ret hp K cX3_soonest S 2 L st s = (S 3 L (.int 1 :: st) s) := zone_iconst dX3_soonest_2 (by decide)
theorem Z_X3_soonest_3 {σ : Type} {ret : Option FieldType} {hp : Instr → List Value → σ → (List Value → σ → Prop) → Prop} {K : Option Value → σ → Prop} {S : Nat → zL → List Value → σ → Prop} {L : zL} {s : σ} {st : List Value} : zone ret hp K cX3_soonest S 3 L st s = (hp (.invokestatic 77) st s (fun st' s' => S 6 L st' s')) := zone_of dX3_soonest_3 rfl
theorem Z_X3_soonest_6 {σ : Type} {ret : Option FieldType} {hp : Instr → List Value → σ → (List Value → σ → Prop) → Prop} {K : Option Value → σ → Prop} {S : Nat → zL → List Value → σ → Prop} {L : zL} {s : σ} {st : List Value} : zone ret hp K cX3_soonest S 6 L st s = (zb1 st fun x r => if x = 0 then S 9 L r s else S 11 L r s) := zone_if_ne dX3_soonest_6 (by decide)
theorem Z_X3_soonest_9 {σ : Type} {ret : Option FieldType} {hp : Instr → List Value → σ → (List Value → σ → Prop) → Prop} {K : Option Value → σ → Prop} {S : Nat → zL → List Value → σ → Prop} {L : zL} {s : σ} {st : List Value} : zone ret hp K cX3_soonest S 9 L st s = (S 10 L (.int (-1) :: st) s) := zone_iconst dX3_soonest_9 (by decide)
theorem Z_X3_soonest_10 {σ : Type} {ret : Option FieldType} {hp : Instr → List Value → σ → (List Value → σ → Prop) → Prop} {K : Option Value → σ → Prop} {S : Nat → zL → List Value → σ → Prop} {L : zL} {s : σ} {v : Int32} : zone ret hp K cX3_soonest S 10 L [.int v] s = (zretI ret v ∧ K (some (.int v)) s) := zone_of dX3_soonest_10 rfl
theorem Z_X3_soonest_11 {σ : Type} {ret : Option FieldType} {hp : Instr → List Value → σ → (List Value → σ → Prop) → Prop} {K : Option Value → σ → Prop} {S : Nat → zL → List Value → σ → Prop} {L : zL} {s : σ} {st : List Value} : zone ret hp K cX3_soonest S 11 L st s = (zlda L 0 fun v => S 12 L (v :: st) s) := zone_of dX3_soonest_11 rfl
theorem Z_X3_soonest_12 {σ : Type} {ret : Option FieldType} {hp : Instr → List Value → σ → (List Value → σ → Prop) → Prop} {K : Option Value → σ → Prop} {S : Nat → zL → List Value → σ → Prop} {L : zL} {s : σ} {st : List Value} : zone ret hp K cX3_soonest S 12 L st s = (hp (.invokevirtual 447) st s (fun st' s' => S 15 L st' s')) := zone_of dX3_soonest_12 rfl
theorem Z_X3_soonest_15 {σ : Type} {ret : Option FieldType} {hp : Instr → List Value → σ → (List Value → σ → Prop) → Prop} {K : Option Value → σ → Prop} {S : Nat → zL → List Value → σ → Prop} {L : zL} {s : σ} {st : List Value} : zone ret hp K cX3_soonest S 15 L st s = (S 16 L (.int 0 :: st) s) := zone_iconst dX3_soonest_15 (by decide)
theorem Z_X3_soonest_16 {σ : Type} {ret : Option FieldType} {hp : Instr → List Value → σ → (List Value → σ → Prop) → Prop} {K : Option Value → σ → Prop} {S : Nat → zL → List Value → σ → Prop} {L : zL} {s : σ} {st : List Value} : zone ret hp K cX3_soonest S 16 L st s = (zsti L 2 st fun q r => S 17 q r s) := zone_of dX3_soonest_16 rfl
theorem Z_X3_soonest_17 {σ : Type} {ret : Option FieldType} {hp : Instr → List Value → σ → (List Value → σ → Prop) → Prop} {K : Option Value → σ → Prop} {S : Nat → zL → List Value → σ → Prop} {L : zL} {s : σ} {st : List Value} : zone ret hp K cX3_soonest S 17 L st s = (zldi L 2 fun v => S 18 L (v :: st) s) := zone_of dX3_soonest_17 rfl
theorem Z_X3_soonest_18 {σ : Type} {ret : Option FieldType} {hp : Instr → List Value → σ → (List Value → σ → Prop) → Prop} {K : Option Value → σ → Prop} {S : Nat → zL → List Value → σ → Prop} {L : zL} {s : σ} {st : List Value} : zone ret hp K cX3_soonest S 18 L st s = (hp (.ldc 54) st s (fun st' s' => S 20 L st' s')) := zone_of dX3_soonest_18 rfl
theorem Z_X3_soonest_20 {σ : Type} {ret : Option FieldType} {hp : Instr → List Value → σ → (List Value → σ → Prop) → Prop} {K : Option Value → σ → Prop} {S : Nat → zL → List Value → σ → Prop} {L : zL} {s : σ} {st : List Value} : zone ret hp K cX3_soonest S 20 L st s = (zb2 st fun x y r => if x < y then S 23 L r s else S 37 L r s) := zone_ic_ge dX3_soonest_20 (by decide)
theorem Z_X3_soonest_23 {σ : Type} {ret : Option FieldType} {hp : Instr → List Value → σ → (List Value → σ → Prop) → Prop} {K : Option Value → σ → Prop} {S : Nat → zL → List Value → σ → Prop} {L : zL} {s : σ} {st : List Value} : zone ret hp K cX3_soonest S 23 L st s = (zlda L 0 fun v => S 24 L (v :: st) s) := zone_of dX3_soonest_23 rfl
theorem Z_X3_soonest_24 {σ : Type} {ret : Option FieldType} {hp : Instr → List Value → σ → (List Value → σ → Prop) → Prop} {K : Option Value → σ → Prop} {S : Nat → zL → List Value → σ → Prop} {L : zL} {s : σ} {st : List Value} : zone ret hp K cX3_soonest S 24 L st s = (hp (.getfield 55) st s (fun st' s' => S 27 L st' s')) := zone_of dX3_soonest_24 rfl
theorem Z_X3_soonest_27 {σ : Type} {ret : Option FieldType} {hp : Instr → List Value → σ → (List Value → σ → Prop) → Prop} {K : Option Value → σ → Prop} {S : Nat → zL → List Value → σ → Prop} {L : zL} {s : σ} {st : List Value} : zone ret hp K cX3_soonest S 27 L st s = (zldi L 2 fun v => S 28 L (v :: st) s) := zone_of dX3_soonest_27 rfl
theorem Z_X3_soonest_28 {σ : Type} {ret : Option FieldType} {hp : Instr → List Value → σ → (List Value → σ → Prop) → Prop} {K : Option Value → σ → Prop} {S : Nat → zL → List Value → σ → Prop} {L : zL} {s : σ} {st : List Value} : zone ret hp K cX3_soonest S 28 L st s = (S 30 L (.int (-2) :: st) s) := zone_bipush dX3_soonest_28 (by decide)
theorem Z_X3_soonest_30 {σ : Type} {ret : Option FieldType} {hp : Instr → List Value → σ → (List Value → σ → Prop) → Prop} {K : Option Value → σ → Prop} {S : Nat → zL → List Value → σ → Prop} {L : zL} {s : σ} {st : List Value} : zone ret hp K cX3_soonest S 30 L st s = (hp (.iastore) st s (fun st' s' => S 31 L st' s')) := zone_of dX3_soonest_30 rfl
theorem Z_X3_soonest_31 {σ : Type} {ret : Option FieldType} {hp : Instr → List Value → σ → (List Value → σ → Prop) → Prop} {K : Option Value → σ → Prop} {S : Nat → zL → List Value → σ → Prop} {L : zL} {s : σ} {st : List Value} : zone ret hp K cX3_soonest S 31 L st s = (zic L 2 1 fun q => S 34 q st s) := zone_iinc dX3_soonest_31 (by decide)
theorem Z_X3_soonest_34 {σ : Type} {ret : Option FieldType} {hp : Instr → List Value → σ → (List Value → σ → Prop) → Prop} {K : Option Value → σ → Prop} {S : Nat → zL → List Value → σ → Prop} {L : zL} {s : σ} {st : List Value} : zone ret hp K cX3_soonest S 34 L st s = (S 17 L st s) := zone_goto dX3_soonest_34 (by decide)
theorem Z_X3_soonest_37 {σ : Type} {ret : Option FieldType} {hp : Instr → List Value → σ → (List Value → σ → Prop) → Prop} {K : Option Value → σ → Prop} {S : Nat → zL → List Value → σ → Prop} {L : zL} {s : σ} {st : List Value} : zone ret hp K cX3_soonest S 37 L st s = (zlda L 0 fun v => S 38 L (v :: st) s) := zone_of dX3_soonest_37 rfl
theorem Z_X3_soonest_38 {σ : Type} {ret : Option FieldType} {hp : Instr → List Value → σ → (List Value → σ → Prop) → Prop} {K : Option Value → σ → Prop} {S : Nat → zL → List Value → σ → Prop} {L : zL} {s : σ} {st : List Value} : zone ret hp K cX3_soonest S 38 L st s = (zlda L 0 fun v => S 39 L (v :: st) s) := zone_of dX3_soonest_38 rfl
theorem Z_X3_soonest_39 {σ : Type} {ret : Option FieldType} {hp : Instr → List Value → σ → (List Value → σ → Prop) → Prop} {K : Option Value → σ → Prop} {S : Nat → zL → List Value → σ → Prop} {L : zL} {s : σ} {st : List Value} : zone ret hp K cX3_soonest S 39 L st s = (hp (.invokevirtual 441) st s (fun st' s' => S 42 L st' s')) := zone_of dX3_soonest_39 rfl
theorem Z_X3_soonest_42 {σ : Type} {ret : Option FieldType} {hp : Instr → List Value → σ → (List Value → σ → Prop) → Prop} {K : Option Value → σ → Prop} {S : Nat → zL → List Value → σ → Prop} {L : zL} {s : σ} {st : List Value} : zone ret hp K cX3_soonest S 42 L st s = (zlda L 0 fun v => S 43 L (v :: st) s) := zone_of dX3_soonest_42 rfl
theorem Z_X3_soonest_43 {σ : Type} {ret : Option FieldType} {hp : Instr → List Value → σ → (List Value → σ → Prop) → Prop} {K : Option Value → σ → Prop} {S : Nat → zL → List Value → σ → Prop} {L : zL} {s : σ} {st : List Value} : zone ret hp K cX3_soonest S 43 L st s = (hp (.invokevirtual 444) st s (fun st' s' => S 46 L st' s')) := zone_of dX3_soonest_43 rfl
theorem Z_X3_soonest_46 {σ : Type} {ret : Option FieldType} {hp : Instr → List Value → σ → (List Value → σ → Prop) → Prop} {K : Option Value → σ → Prop} {S : Nat → zL → List Value → σ → Prop} {L : zL} {s : σ} {st : List Value} : zone ret hp K cX3_soonest S 46 L st s = (hp (.invokevirtual 438) st s (fun st' s' => S 49 L st' s')) := zone_of dX3_soonest_46 rfl
theorem Z_X3_soonest_49 {σ : Type} {ret : Option FieldType} {hp : Instr → List Value → σ → (List Value → σ → Prop) → Prop} {K : Option Value → σ → Prop} {S : Nat → zL → List Value → σ → Prop} {L : zL} {s : σ} {st : List Value} : zone ret hp K cX3_soonest S 49 L st s = (zsti L 2 st fun q r => S 50 q r s) := zone_of dX3_soonest_49 rfl
theorem Z_X3_soonest_50 {σ : Type} {ret : Option FieldType} {hp : Instr → List Value → σ → (List Value → σ → Prop) → Prop} {K : Option Value → σ → Prop} {S : Nat → zL → List Value → σ → Prop} {L : zL} {s : σ} {st : List Value} : zone ret hp K cX3_soonest S 50 L st s = (zldi L 1 fun v => S 51 L (v :: st) s) := zone_of dX3_soonest_50 rfl
theorem Z_X3_soonest_51 {σ : Type} {ret : Option FieldType} {hp : Instr → List Value → σ → (List Value → σ → Prop) → Prop} {K : Option Value → σ → Prop} {S : Nat → zL → List Value → σ → Prop} {L : zL} {s : σ} {st : List Value} : zone ret hp K cX3_soonest S 51 L st s = (zb1 st fun x r => if x = 0 then S 59 L r s else S 54 L r s) := zone_if_eq dX3_soonest_51 (by decide)
theorem Z_X3_soonest_54 {σ : Type} {ret : Option FieldType} {hp : Instr → List Value → σ → (List Value → σ → Prop) → Prop} {K : Option Value → σ → Prop} {S : Nat → zL → List Value → σ → Prop} {L : zL} {s : σ} {st : List Value} : zone ret hp K cX3_soonest S 54 L st s = (zldi L 2 fun v => S 55 L (v :: st) s) := zone_of dX3_soonest_54 rfl
theorem Z_X3_soonest_55 {σ : Type} {ret : Option FieldType} {hp : Instr → List Value → σ → (List Value → σ → Prop) → Prop} {K : Option Value → σ → Prop} {S : Nat → zL → List Value → σ → Prop} {L : zL} {s : σ} {st : List Value} : zone ret hp K cX3_soonest S 55 L st s = (S 56 L (.int (-1) :: st) s) := zone_iconst dX3_soonest_55 (by decide)
theorem Z_X3_soonest_56 {σ : Type} {ret : Option FieldType} {hp : Instr → List Value → σ → (List Value → σ → Prop) → Prop} {K : Option Value → σ → Prop} {S : Nat → zL → List Value → σ → Prop} {L : zL} {s : σ} {st : List Value} : zone ret hp K cX3_soonest S 56 L st s = (zb2 st fun x y r => if x = y then S 59 L r s else S 63 L r s) := zone_ic_ne dX3_soonest_56 (by decide)
theorem Z_X3_soonest_59 {σ : Type} {ret : Option FieldType} {hp : Instr → List Value → σ → (List Value → σ → Prop) → Prop} {K : Option Value → σ → Prop} {S : Nat → zL → List Value → σ → Prop} {L : zL} {s : σ} {st : List Value} : zone ret hp K cX3_soonest S 59 L st s = (zldi L 2 fun v => S 60 L (v :: st) s) := zone_of dX3_soonest_59 rfl
theorem Z_X3_soonest_60 {σ : Type} {ret : Option FieldType} {hp : Instr → List Value → σ → (List Value → σ → Prop) → Prop} {K : Option Value → σ → Prop} {S : Nat → zL → List Value → σ → Prop} {L : zL} {s : σ} {st : List Value} : zone ret hp K cX3_soonest S 60 L st s = (S 76 L st s) := zone_goto dX3_soonest_60 (by decide)
theorem Z_X3_soonest_63 {σ : Type} {ret : Option FieldType} {hp : Instr → List Value → σ → (List Value → σ → Prop) → Prop} {K : Option Value → σ → Prop} {S : Nat → zL → List Value → σ → Prop} {L : zL} {s : σ} {st : List Value} : zone ret hp K cX3_soonest S 63 L st s = (zldi L 2 fun v => S 64 L (v :: st) s) := zone_of dX3_soonest_63 rfl
theorem Z_X3_soonest_64 {σ : Type} {ret : Option FieldType} {hp : Instr → List Value → σ → (List Value → σ → Prop) → Prop} {K : Option Value → σ → Prop} {S : Nat → zL → List Value → σ → Prop} {L : zL} {s : σ} {st : List Value} : zone ret hp K cX3_soonest S 64 L st s = (zb1 st fun x r => if x = 0 then S 67 L r s else S 71 L r s) := zone_if_ne dX3_soonest_64 (by decide)
theorem Z_X3_soonest_67 {σ : Type} {ret : Option FieldType} {hp : Instr → List Value → σ → (List Value → σ → Prop) → Prop} {K : Option Value → σ → Prop} {S : Nat → zL → List Value → σ → Prop} {L : zL} {s : σ} {st : List Value} : zone ret hp K cX3_soonest S 67 L st s = (S 68 L (.int 0 :: st) s) := zone_iconst dX3_soonest_67 (by decide)
theorem Z_X3_soonest_68 {σ : Type} {ret : Option FieldType} {hp : Instr → List Value → σ → (List Value → σ → Prop) → Prop} {K : Option Value → σ → Prop} {S : Nat → zL → List Value → σ → Prop} {L : zL} {s : σ} {st : List Value} : zone ret hp K cX3_soonest S 68 L st s = (S 76 L st s) := zone_goto dX3_soonest_68 (by decide)
theorem Z_X3_soonest_71 {σ : Type} {ret : Option FieldType} {hp : Instr → List Value → σ → (List Value → σ → Prop) → Prop} {K : Option Value → σ → Prop} {S : Nat → zL → List Value → σ → Prop} {L : zL} {s : σ} {st : List Value} : zone ret hp K cX3_soonest S 71 L st s = (zlda L 0 fun v => S 72 L (v :: st) s) := zone_of dX3_soonest_71 rfl
theorem Z_X3_soonest_72 {σ : Type} {ret : Option FieldType} {hp : Instr → List Value → σ → (List Value → σ → Prop) → Prop} {K : Option Value → σ → Prop} {S : Nat → zL → List Value → σ → Prop} {L : zL} {s : σ} {st : List Value} : zone ret hp K cX3_soonest S 72 L st s = (zldi L 2 fun v => S 73 L (v :: st) s) := zone_of dX3_soonest_72 rfl
theorem Z_X3_soonest_73 {σ : Type} {ret : Option FieldType} {hp : Instr → List Value → σ → (List Value → σ → Prop) → Prop} {K : Option Value → σ → Prop} {S : Nat → zL → List Value → σ → Prop} {L : zL} {s : σ} {st : List Value} : zone ret hp K cX3_soonest S 73 L st s = (hp (.invokevirtual 450) st s (fun st' s' => S 76 L st' s')) := zone_of dX3_soonest_73 rfl
theorem Z_X3_soonest_76 {σ : Type} {ret : Option FieldType} {hp : Instr → List Value → σ → (List Value → σ → Prop) → Prop} {K : Option Value → σ → Prop} {S : Nat → zL → List Value → σ → Prop} {L : zL} {s : σ} {v : Int32} : zone ret hp K cX3_soonest S 76 L [.int v] s = (zretI ret v ∧ K (some (.int v)) s) := zone_of dX3_soonest_76 rfl
theorem CC_X3_soonest_77 {a0 a1 a2 : Value} {r : List Value} {s : zM} {k : List Value → zM → Prop} : zcallS G_X3_soonest 77 (a2 :: a1 :: a0 :: r) s k = (zfew r 8 = true ∧ T_X3_isIn [a0, a1, a2] s (fun v s' => zpush v r (fun q => k q s'))) := zcS_n rfl rfl
theorem CC_X3_soonest_447 {b : Nat} {r : List Value} {s : zM} {k : List Value → zM → Prop} : zcallV b G_X3_soonest 447 (.ref b :: r) s k = (zfew r 8 = true ∧ T_X3_laysTogether [] s (fun v s' => zpush v r (fun q => k q s'))) := zcV_n rfl rfl
theorem CC_X3_soonest_441 {b : Nat} {r : List Value} {s : zM} {k : List Value → zM → Prop} : zcallV b G_X3_soonest 441 (.ref b :: r) s k = (zfew r 8 = true ∧ T_X3_started [] s (fun v s' => zpush v r (fun q => k q s'))) := zcV_n rfl rfl
theorem CC_X3_soonest_444 {b : Nat} {r : List Value} {s : zM} {k : List Value → zM → Prop} : zcallV b G_X3_soonest 444 (.ref b :: r) s k = (zfew r 8 = true ∧ T_X3_ended [] s (fun v s' => zpush v r (fun q => k q s'))) := zcV_n rfl rfl
theorem CC_X3_soonest_438 {b : Nat} {a0 a1 : Value} {r : List Value} {s : zM} {k : List Value → zM → Prop} : zcallV b G_X3_soonest 438 (a1 :: a0 :: .ref b :: r) s k = (zfew r 8 = true ∧ T_X3_farFrom [a0, a1] s (fun v s' => zpush v r (fun q => k q s'))) := zcV_n rfl rfl
theorem CC_X3_soonest_450 {b : Nat} {a0 : Value} {r : List Value} {s : zM} {k : List Value → zM → Prop} : zcallV b G_X3_soonest 450 (a0 :: .ref b :: r) s k = (zfew r 8 = true ∧ T_X3_firstSet [a0] s (fun v s' => zpush v r (fun q => k q s'))) := zcV_n rfl rfl
theorem TE_X3_soonest {x : Int32} {s : zM} {K : Option Value → zM → Prop} : T_X3_soonest [.int x] s K = ((fun _ s => ywf (s.2 1) ∧ yhull (s.2 1)) x s ∧ ∀ u9 : zM, zes s u9 → K ((fun x s => some (.int (ysoonR (s.2 1) x))) x s) u9) := rfl
set_option maxRecDepth 100000 in
set_option maxHeartbeats 4000000 in
theorem B_X3_soonest {E : zEnv} (b : Nat) (x : Int32) (s : zM) (K : Option Value → zM → Prop) (hT : T_X3_soonest [.int x] s K) (S : Nat → zL → List Value → zM → Prop) (hm : zMono (zMhp E b G_X3_soonest)) (hc : zClosed (some .int) (zMhp E b G_X3_soonest) K cX3_soonest S) : S 0 [some (.ref b), some (.int x), none] [] s := by
  obtain ⟨⟨hwf, hy⟩, hK⟩ := hT
  dsimp only at hwf hy hK
  unfold ysoonR at hK
  obtain ⟨W, hW, eW⟩ := vp_in_of hwf.2.2.2.2.2.2.1 (by decide)
  have aW : (s.2 1 98).toNatClampNeg = W := by rw [eW, nI_clamp (by omega)]
  have hW8 : (s.2 1 98).toNatClampNeg ≤ 8 := by omega
  have hp4 := ypow4_le W hW
  cases c : yin x 0 1
  · simp only [c, Bool.false_eq_true, if_false] at hK
    refine zgo hm hc (fun q => q == 17) 60 ?_
    simp (config := {decide := true, maxSteps := 1000000}) (disch := first | rfl | decide | omega) only [↓Z_X3_soonest_0, ↓Z_X3_soonest_1, ↓Z_X3_soonest_2, ↓Z_X3_soonest_3, ↓Z_X3_soonest_6, ↓Z_X3_soonest_9, ↓Z_X3_soonest_10, ↓Z_X3_soonest_11, ↓Z_X3_soonest_12, ↓Z_X3_soonest_15, ↓Z_X3_soonest_16, ↓Z_X3_soonest_17, ↓Z_X3_soonest_18, ↓Z_X3_soonest_20, ↓Z_X3_soonest_23, ↓Z_X3_soonest_24, ↓Z_X3_soonest_27, ↓Z_X3_soonest_28, ↓Z_X3_soonest_30, ↓Z_X3_soonest_31, ↓Z_X3_soonest_34, ↓Z_X3_soonest_37, ↓Z_X3_soonest_38, ↓Z_X3_soonest_39, ↓Z_X3_soonest_42, ↓Z_X3_soonest_43, ↓Z_X3_soonest_46, ↓Z_X3_soonest_49, ↓Z_X3_soonest_50, ↓Z_X3_soonest_51, ↓Z_X3_soonest_54, ↓Z_X3_soonest_55, ↓Z_X3_soonest_56, ↓Z_X3_soonest_59, ↓Z_X3_soonest_60, ↓Z_X3_soonest_63, ↓Z_X3_soonest_64, ↓Z_X3_soonest_67, ↓Z_X3_soonest_68, ↓Z_X3_soonest_71, ↓Z_X3_soonest_72, ↓Z_X3_soonest_73, ↓Z_X3_soonest_76, ↓reduceIte, ↓zrun_stop, ↓zrun_step, ↓zb2_i, ↓zb1_i, ↓zldi_0, ↓zldi_s, ↓zlda_0, ↓zlda_n, ↓zlda_s, ↓zsc_0, ↓zsc_s, ↓zsti_c, ↓zsta_r, ↓zsta_n, ↓zic_0, ↓zic_s, ↓zpush_s, ↓zpush_n, ↓zfew_0, ↓zfew_i, ↓zfew_r, ↓zfew_n, ↓zMc_54, ↓zMg'_55, ↓zMhp_iS, ↓zMhp_iV, ↓zMs_1, ↓zMs_10, ↓zMs_11, ↓zMs_12, ↓zMs_13, ↓zMs_14, ↓zMs_15, ↓zMs_16, ↓zMs_17, ↓zMs_18, ↓zMs_2, ↓zMs_3, ↓zMs_4, ↓zMs_5, ↓zMs_6, ↓zMs_7, ↓zMs_8, ↓zMs_9, ↓CC_X3_soonest_77, ↓CC_X3_soonest_447, ↓CC_X3_soonest_441, ↓CC_X3_soonest_444, ↓CC_X3_soonest_438, ↓CC_X3_soonest_450, ↓TE_X3_isIn, ↓TE_X3_laysTogether, ↓TE_X3_started, ↓TE_X3_ended, ↓TE_X3_farFrom, ↓TE_X3_firstSet, zcat_int, zcat_ref, zcat_null, zret_int, zret_b0, zret_b1, zret_b, Nat.reduceAdd, Nat.reduceSub, Nat.reduceLT, Nat.reduceEqDiff, Nat.reduceBEq, Nat.reduceBNe, true_and, and_true, if_true, if_false, Bool.false_eq_true, Bool.true_eq_false, Bool.or_self, Bool.or_false, Bool.or_true, Bool.false_or, Bool.true_or, zbi_e0, zbi_e1, eq_self, reduceCtorEq, Fin.isValue, zent, List.map_cons, List.map_nil, List.length_cons, List.length_nil, List.replicate, List.cons_append, List.nil_append, List.append_nil, Nat.zero_add, Nat.add_zero, zF_1, zF_2, zA_1, zA_2s, zA_2n, zB_1, zB_2s, zB_2n, not_true_eq_false, not_false_eq_true, Int32.reduceLT, Int32.reduceAdd, Int32.reduceSub, Int32.reduceMul, ne_eq, Int32.reduceToNatClampNeg, zlit_vp, nI_al, nI_la, nI_lm, nI_ml, nI_ltl, nI_llt, nI_eql, nI_lt2, nI_eq2, nI_vp, nI_cl, nI_add, pk_mul, nI_divl, nI_sub2, nI_lsub, nI_ne0l, nI_1, nI_pred, pk_m1, upd_s, upd_n, Nat.lt_irrefl, decide_eq_false_iff_not, decide_eq_true_eq, ite_not, ite_self, Nat.reducePow, Nat.reduceMul, c]
    exact hK _ zes.rf
  · simp only [c, if_true] at hK
    have main : ∀ u, zes s u → (∀ z, z < 2 ^ (s.2 1 98).toNatClampNeg → u.2 11 z = ytw (s.2 1) z) → S 17 [some (.ref b), some (.int x), some (.int 0)] [] u := by
      intro u hz htg
      have hwu : ywf (u.2 1) := by rw [hz.1]; exact hwf
      have hyu : yhull (u.2 1) := by rw [hz.1]; exact hy
      have hwu8 := hwu.2.2.2.2.2.2.1
      have e1 : yfarV (s.2 1) (ytw (s.2 1)) (yV0 (s.2 1)) = yfarV (u.2 1) (u.2 11) (yV0 (u.2 1)) := by
        unfold yfarV
        rw [hz.1]
        exact (yfar_tg htg _ _).symm
      have e2 : ∀ q, yfirstS (s.2 1) (ytw (s.2 1)) q = yfirstS (u.2 1) (u.2 11) q := by
        intro q
        rw [hz.1]
        exact (yfirstS_tg htg).symm
      simp only [e1, e2] at hK
      have aWu : (u.2 1 98).toNatClampNeg = W := by rw [hz.1]; exact aW
      have hWu8 : (u.2 1 98).toNatClampNeg ≤ 8 := by omega
      have s0 := ystarted_nI hyu hWu8
      have sE := yended_nI hyu hWu8
      have hv := yvalid_0 hyu hWu8
      have hVl := hv.1
      rw [aWu] at hVl
      have hcV : (nI (yV0 (u.2 1))).toNatClampNeg = yV0 (u.2 1) := nI_clamp (by omega)
      have a4 := yrem4_le (V := yV0 (u.2 1)) hyu hWu8
      have loop : ∀ n k : Nat, k + n = 65536 → S 17 [some (.ref b), some (.int x), some (.int (nI k))] [] (zB u 14 (fun j => if j < k then -2 else u.2 14 j)) := by
        intro n
        induction n with
        | zero =>
          intro k hk
          obtain rfl : k = 65536 := by omega
          have hmm : ymemo (u.2 1) (u.2 11) (fun j => if j < 65536 then -2 else u.2 14 j) := by
            intro V hV
            left
            have := hV.1
            rw [aWu] at this
            exact if_pos (by omega)
          generalize (fun j => if j < 65536 then (-2 : Int32) else u.2 14 j) = f at hmm ⊢
          have hP : yfarP (zB u 14 f) (nI (yV0 (u.2 1))) (nI (yVE (u.2 1))) 26 := ⟨hwu, hyu, ⟨_, rfl, hv, by show yrem4 (u.2 1) _ < _; omega⟩, rfl, by show ymemo (u.2 1) (u.2 11) ((zB u 14 f).2 14); rw [zB_2s]; exact hmm⟩
          have hlt : ¬ (65536 : Nat) < 65536 := by omega
          refine zgo hm hc (fun q => q == 17) 80 ?_
          simp (config := {decide := true, maxSteps := 1000000}) (disch := first | rfl | decide | omega) only [↓Z_X3_soonest_0, ↓Z_X3_soonest_1, ↓Z_X3_soonest_2, ↓Z_X3_soonest_3, ↓Z_X3_soonest_6, ↓Z_X3_soonest_9, ↓Z_X3_soonest_10, ↓Z_X3_soonest_11, ↓Z_X3_soonest_12, ↓Z_X3_soonest_15, ↓Z_X3_soonest_16, ↓Z_X3_soonest_17, ↓Z_X3_soonest_18, ↓Z_X3_soonest_20, ↓Z_X3_soonest_23, ↓Z_X3_soonest_24, ↓Z_X3_soonest_27, ↓Z_X3_soonest_28, ↓Z_X3_soonest_30, ↓Z_X3_soonest_31, ↓Z_X3_soonest_34, ↓Z_X3_soonest_37, ↓Z_X3_soonest_38, ↓Z_X3_soonest_39, ↓Z_X3_soonest_42, ↓Z_X3_soonest_43, ↓Z_X3_soonest_46, ↓Z_X3_soonest_49, ↓Z_X3_soonest_50, ↓Z_X3_soonest_51, ↓Z_X3_soonest_54, ↓Z_X3_soonest_55, ↓Z_X3_soonest_56, ↓Z_X3_soonest_59, ↓Z_X3_soonest_60, ↓Z_X3_soonest_63, ↓Z_X3_soonest_64, ↓Z_X3_soonest_67, ↓Z_X3_soonest_68, ↓Z_X3_soonest_71, ↓Z_X3_soonest_72, ↓Z_X3_soonest_73, ↓Z_X3_soonest_76, ↓reduceIte, ↓zrun_stop, ↓zrun_step, ↓zb2_i, ↓zb1_i, ↓zldi_0, ↓zldi_s, ↓zlda_0, ↓zlda_n, ↓zlda_s, ↓zsc_0, ↓zsc_s, ↓zsti_c, ↓zsta_r, ↓zsta_n, ↓zic_0, ↓zic_s, ↓zpush_s, ↓zpush_n, ↓zfew_0, ↓zfew_i, ↓zfew_r, ↓zfew_n, ↓zMc_54, ↓zMg'_55, ↓zMhp_iS, ↓zMhp_iV, ↓zMs_1, ↓zMs_10, ↓zMs_11, ↓zMs_12, ↓zMs_13, ↓zMs_14, ↓zMs_15, ↓zMs_16, ↓zMs_17, ↓zMs_18, ↓zMs_2, ↓zMs_3, ↓zMs_4, ↓zMs_5, ↓zMs_6, ↓zMs_7, ↓zMs_8, ↓zMs_9, ↓CC_X3_soonest_77, ↓CC_X3_soonest_447, ↓CC_X3_soonest_441, ↓CC_X3_soonest_444, ↓CC_X3_soonest_438, ↓CC_X3_soonest_450, ↓TE_X3_isIn, ↓TE_X3_laysTogether, ↓TE_X3_started, ↓TE_X3_ended, ↓TE_X3_farFrom, ↓TE_X3_firstSet, zcat_int, zcat_ref, zcat_null, zret_int, zret_b0, zret_b1, zret_b, Nat.reduceAdd, Nat.reduceSub, Nat.reduceLT, Nat.reduceEqDiff, Nat.reduceBEq, Nat.reduceBNe, true_and, and_true, if_true, if_false, Bool.false_eq_true, Bool.true_eq_false, Bool.or_self, Bool.or_false, Bool.or_true, Bool.false_or, Bool.true_or, zbi_e0, zbi_e1, eq_self, reduceCtorEq, Fin.isValue, zent, List.map_cons, List.map_nil, List.length_cons, List.length_nil, List.replicate, List.cons_append, List.nil_append, List.append_nil, Nat.zero_add, Nat.add_zero, zF_1, zF_2, zA_1, zA_2s, zA_2n, zB_1, zB_2s, zB_2n, not_true_eq_false, not_false_eq_true, Int32.reduceLT, Int32.reduceAdd, Int32.reduceSub, Int32.reduceMul, ne_eq, Int32.reduceToNatClampNeg, zlit_vp, nI_al, nI_la, nI_lm, nI_ml, nI_ltl, nI_llt, nI_eql, nI_lt2, nI_eq2, nI_vp, nI_cl, nI_add, pk_mul, nI_divl, nI_sub2, nI_lsub, nI_ne0l, nI_1, nI_pred, pk_m1, upd_s, upd_n, Nat.lt_irrefl, decide_eq_false_iff_not, decide_eq_true_eq, ite_not, ite_self, Nat.reducePow, Nat.reduceMul, hwu8, s0, sE, hP, hcV]
          rintro u2 ⟨f2, rfl, hf2⟩
          rw [zB_B]
          have hf2 : ymemo (u.2 1) (u.2 11) f2 := hf2
          have hz2 : ∀ f, zes s (zB u 14 f) := fun f => hz.B (by decide) (by decide) (by decide) (by decide)
          generalize yfarV (u.2 1) (u.2 11) (yV0 (u.2 1)) = far at hK ⊢
          by_cases d0 : x = 0
          · rw [if_pos (Or.inl d0)] at hK
            rw [if_pos d0]
            exact hK _ (hz2 _)
          · rw [if_neg d0]
            by_cases d1 : far = -1
            · rw [if_pos (Or.inr d1)] at hK
              rw [if_pos d1]
              exact hK _ (hz2 _)
            · rw [if_neg (by simp [d0, d1])] at hK
              rw [if_neg d1]
              by_cases d2 : far = 0
              · rw [if_pos d2] at hK
                rw [if_pos d2]
                exact hK _ (hz2 _)
              · rw [if_neg d2] at hK
                rw [if_neg d2]
                refine ⟨⟨hwu, hyu, hf2⟩, ?_⟩
                rintro u3 ⟨f3, rfl⟩
                rw [zB_B]
                exact hK _ (hz2 _)
        | succ n ih =>
          intro k hk
          have hk' : k < 65536 := by omega
          refine zgo hm hc (fun q => q == 17) 60 ?_
          simp (config := {decide := true, maxSteps := 1000000}) (disch := first | rfl | decide | omega) only [↓Z_X3_soonest_0, ↓Z_X3_soonest_1, ↓Z_X3_soonest_2, ↓Z_X3_soonest_3, ↓Z_X3_soonest_6, ↓Z_X3_soonest_9, ↓Z_X3_soonest_10, ↓Z_X3_soonest_11, ↓Z_X3_soonest_12, ↓Z_X3_soonest_15, ↓Z_X3_soonest_16, ↓Z_X3_soonest_17, ↓Z_X3_soonest_18, ↓Z_X3_soonest_20, ↓Z_X3_soonest_23, ↓Z_X3_soonest_24, ↓Z_X3_soonest_27, ↓Z_X3_soonest_28, ↓Z_X3_soonest_30, ↓Z_X3_soonest_31, ↓Z_X3_soonest_34, ↓Z_X3_soonest_37, ↓Z_X3_soonest_38, ↓Z_X3_soonest_39, ↓Z_X3_soonest_42, ↓Z_X3_soonest_43, ↓Z_X3_soonest_46, ↓Z_X3_soonest_49, ↓Z_X3_soonest_50, ↓Z_X3_soonest_51, ↓Z_X3_soonest_54, ↓Z_X3_soonest_55, ↓Z_X3_soonest_56, ↓Z_X3_soonest_59, ↓Z_X3_soonest_60, ↓Z_X3_soonest_63, ↓Z_X3_soonest_64, ↓Z_X3_soonest_67, ↓Z_X3_soonest_68, ↓Z_X3_soonest_71, ↓Z_X3_soonest_72, ↓Z_X3_soonest_73, ↓Z_X3_soonest_76, ↓reduceIte, ↓zrun_stop, ↓zrun_step, ↓zb2_i, ↓zb1_i, ↓zldi_0, ↓zldi_s, ↓zlda_0, ↓zlda_n, ↓zlda_s, ↓zsc_0, ↓zsc_s, ↓zsti_c, ↓zsta_r, ↓zsta_n, ↓zic_0, ↓zic_s, ↓zpush_s, ↓zpush_n, ↓zfew_0, ↓zfew_i, ↓zfew_r, ↓zfew_n, ↓zMc_54, ↓zMg'_55, ↓zMhp_iS, ↓zMhp_iV, ↓zMs_1, ↓zMs_10, ↓zMs_11, ↓zMs_12, ↓zMs_13, ↓zMs_14, ↓zMs_15, ↓zMs_16, ↓zMs_17, ↓zMs_18, ↓zMs_2, ↓zMs_3, ↓zMs_4, ↓zMs_5, ↓zMs_6, ↓zMs_7, ↓zMs_8, ↓zMs_9, ↓CC_X3_soonest_77, ↓CC_X3_soonest_447, ↓CC_X3_soonest_441, ↓CC_X3_soonest_444, ↓CC_X3_soonest_438, ↓CC_X3_soonest_450, ↓TE_X3_isIn, ↓TE_X3_laysTogether, ↓TE_X3_started, ↓TE_X3_ended, ↓TE_X3_farFrom, ↓TE_X3_firstSet, zcat_int, zcat_ref, zcat_null, zret_int, zret_b0, zret_b1, zret_b, Nat.reduceAdd, Nat.reduceSub, Nat.reduceLT, Nat.reduceEqDiff, Nat.reduceBEq, Nat.reduceBNe, true_and, and_true, if_true, if_false, Bool.false_eq_true, Bool.true_eq_false, Bool.or_self, Bool.or_false, Bool.or_true, Bool.false_or, Bool.true_or, zbi_e0, zbi_e1, eq_self, reduceCtorEq, Fin.isValue, zent, List.map_cons, List.map_nil, List.length_cons, List.length_nil, List.replicate, List.cons_append, List.nil_append, List.append_nil, Nat.zero_add, Nat.add_zero, zF_1, zF_2, zA_1, zA_2s, zA_2n, zB_1, zB_2s, zB_2n, not_true_eq_false, not_false_eq_true, Int32.reduceLT, Int32.reduceAdd, Int32.reduceSub, Int32.reduceMul, ne_eq, Int32.reduceToNatClampNeg, zlit_vp, nI_al, nI_la, nI_lm, nI_ml, nI_ltl, nI_llt, nI_eql, nI_lt2, nI_eq2, nI_vp, nI_cl, nI_add, pk_mul, nI_divl, nI_sub2, nI_lsub, nI_ne0l, nI_1, nI_pred, pk_m1, upd_s, upd_n, Nat.lt_irrefl, decide_eq_false_iff_not, decide_eq_true_eq, ite_not, ite_self, Nat.reducePow, Nat.reduceMul, hk']
          refine zS_eq ?_ (ih (k + 1) (by omega))
          exact zB_step (fun j => by grind)
      refine zS_eq ?_ (loop 65536 0 (by omega))
      exact (zB_0 (fun j => by simp)).symm
    refine zgo hm hc (fun q => q == 17) 60 ?_
    simp (config := {decide := true, maxSteps := 1000000}) (disch := first | rfl | decide | omega) only [↓Z_X3_soonest_0, ↓Z_X3_soonest_1, ↓Z_X3_soonest_2, ↓Z_X3_soonest_3, ↓Z_X3_soonest_6, ↓Z_X3_soonest_9, ↓Z_X3_soonest_10, ↓Z_X3_soonest_11, ↓Z_X3_soonest_12, ↓Z_X3_soonest_15, ↓Z_X3_soonest_16, ↓Z_X3_soonest_17, ↓Z_X3_soonest_18, ↓Z_X3_soonest_20, ↓Z_X3_soonest_23, ↓Z_X3_soonest_24, ↓Z_X3_soonest_27, ↓Z_X3_soonest_28, ↓Z_X3_soonest_30, ↓Z_X3_soonest_31, ↓Z_X3_soonest_34, ↓Z_X3_soonest_37, ↓Z_X3_soonest_38, ↓Z_X3_soonest_39, ↓Z_X3_soonest_42, ↓Z_X3_soonest_43, ↓Z_X3_soonest_46, ↓Z_X3_soonest_49, ↓Z_X3_soonest_50, ↓Z_X3_soonest_51, ↓Z_X3_soonest_54, ↓Z_X3_soonest_55, ↓Z_X3_soonest_56, ↓Z_X3_soonest_59, ↓Z_X3_soonest_60, ↓Z_X3_soonest_63, ↓Z_X3_soonest_64, ↓Z_X3_soonest_67, ↓Z_X3_soonest_68, ↓Z_X3_soonest_71, ↓Z_X3_soonest_72, ↓Z_X3_soonest_73, ↓Z_X3_soonest_76, ↓reduceIte, ↓zrun_stop, ↓zrun_step, ↓zb2_i, ↓zb1_i, ↓zldi_0, ↓zldi_s, ↓zlda_0, ↓zlda_n, ↓zlda_s, ↓zsc_0, ↓zsc_s, ↓zsti_c, ↓zsta_r, ↓zsta_n, ↓zic_0, ↓zic_s, ↓zpush_s, ↓zpush_n, ↓zfew_0, ↓zfew_i, ↓zfew_r, ↓zfew_n, ↓zMc_54, ↓zMg'_55, ↓zMhp_iS, ↓zMhp_iV, ↓zMs_1, ↓zMs_10, ↓zMs_11, ↓zMs_12, ↓zMs_13, ↓zMs_14, ↓zMs_15, ↓zMs_16, ↓zMs_17, ↓zMs_18, ↓zMs_2, ↓zMs_3, ↓zMs_4, ↓zMs_5, ↓zMs_6, ↓zMs_7, ↓zMs_8, ↓zMs_9, ↓CC_X3_soonest_77, ↓CC_X3_soonest_447, ↓CC_X3_soonest_441, ↓CC_X3_soonest_444, ↓CC_X3_soonest_438, ↓CC_X3_soonest_450, ↓TE_X3_isIn, ↓TE_X3_laysTogether, ↓TE_X3_started, ↓TE_X3_ended, ↓TE_X3_farFrom, ↓TE_X3_firstSet, zcat_int, zcat_ref, zcat_null, zret_int, zret_b0, zret_b1, zret_b, Nat.reduceAdd, Nat.reduceSub, Nat.reduceLT, Nat.reduceEqDiff, Nat.reduceBEq, Nat.reduceBNe, true_and, and_true, if_true, if_false, Bool.false_eq_true, Bool.true_eq_false, Bool.or_self, Bool.or_false, Bool.or_true, Bool.false_or, Bool.true_or, zbi_e0, zbi_e1, eq_self, reduceCtorEq, Fin.isValue, zent, List.map_cons, List.map_nil, List.length_cons, List.length_nil, List.replicate, List.cons_append, List.nil_append, List.append_nil, Nat.zero_add, Nat.add_zero, zF_1, zF_2, zA_1, zA_2s, zA_2n, zB_1, zB_2s, zB_2n, not_true_eq_false, not_false_eq_true, Int32.reduceLT, Int32.reduceAdd, Int32.reduceSub, Int32.reduceMul, ne_eq, Int32.reduceToNatClampNeg, zlit_vp, nI_al, nI_la, nI_lm, nI_ml, nI_ltl, nI_llt, nI_eql, nI_lt2, nI_eq2, nI_vp, nI_cl, nI_add, pk_mul, nI_divl, nI_sub2, nI_lsub, nI_ne0l, nI_1, nI_pred, pk_m1, upd_s, upd_n, Nat.lt_irrefl, decide_eq_false_iff_not, decide_eq_true_eq, ite_not, ite_self, Nat.reducePow, Nat.reduceMul, c, hwf]
    rintro u ⟨hz, htg⟩
    exact main u hz htg
theorem MS_X3_soonest {l : Launch} {E : zEnv} {b0 : Nat} : zMS l E b0 30 yX3_soonest (ws_ yX3_soonest cX3_soonest 3 (some .int)) 0 0 (zlV E T_X3_soonest) := by
  refine zM_MS (Γ := G_X3_soonest) rfl (zΓok_cons (IM_X3_isIn (by decide)) (zΓok_cons (IM_X3_laysTogether (by decide)) (zΓok_cons (IM_X3_started (by decide)) (zΓok_cons (IM_X3_ended (by decide)) (zΓok_cons (IM_X3_farFrom (by decide)) (zΓok_cons (IM_X3_firstSet (by decide)) zΓok_nil)))))) (fun as s K h => ?_) ?_
  · have h1 := zr1_a as s K h
    exact ⟨by rw [h1.1]; decide, h1.2⟩
  · intro b as s K hT S hm hc
    have h0 := hT
    unfold T_X3_soonest zr1 at h0
    split at h0
    · exact B_X3_soonest b _ s K hT S hm hc
    · exact h0.elim
