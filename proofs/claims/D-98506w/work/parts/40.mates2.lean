/-! mates: asking -/
theorem yand1_lsb (x : BitVec 32) : (x &&& 1#32 = 1#32) ↔ x.getLsbD 0 = true := by
  constructor
  · intro h
    have := congrArg (fun y => BitVec.getLsbD y 0) h
    simpa using this
  · intro h
    apply BitVec.eq_of_getLsbD_eq
    intro i hi
    rcases i with _ | i
    · simp [h]
    · simp
theorem ybit_lsb {s : Int32} : ∀ t, t < 32 → ybit s (nI t) = s.toBitVec.getLsbD t := by
  intro t ht
  unfold ybit
  have h0 : ∀ t, t < 32 → ((nI t &&& 31).toBitVec.smod 32).toNat = t := by decide
  have h : ((s >>> (nI t &&& 31)) &&& 1 = 1) ↔ s.toBitVec.getLsbD t = true := by
    rw [← Int32.toBitVec_inj, Int32.toBitVec_and, Int32.toBitVec_shiftRight]
    rw [show (1 : Int32).toBitVec = 1#32 from rfl, yand1_lsb]
    rw [BitVec.sshiftRight', h0 t ht, BitVec.getLsbD_sshiftRight]
    simp [ht]
  rw [Bool.eq_iff_iff]
  simpa using h
theorem yshl_lsb : ∀ t, t < 32 → (yshl t).toBitVec = BitVec.twoPow 32 t := by decide
theorem ybit_or {s : Int32} {t T : Nat} (ht : t < 32) (hT : T < 32) : ybit (s ||| yshl T) (nI t) = (ybit s (nI t) || decide (t = T)) := by
  rw [ybit_lsb t ht, ybit_lsb t ht, Int32.toBitVec_or, yshl_lsb T hT, BitVec.getLsbD_or, BitVec.getLsbD_twoPow]
  simp [ht, hT, eq_comm]
def ynf (f : Nat → Nat) : Nat → Nat
  | 0 => 0
  | n + 1 => ynf f n + f n
theorem ynf_le {f g : Nat → Nat} : ∀ n, (∀ i, i < n → f i ≤ g i) → ynf f n ≤ ynf g n
  | 0, _ => Nat.le_refl _
  | n + 1, h => by
    have := ynf_le n (fun i hi => h i (by omega))
    have := h n (by omega)
    unfold ynf
    omega
theorem ynf_lt {f g : Nat → Nat} {k : Nat} : ∀ n, k < n → (∀ i, i < n → f i ≤ g i) → f k < g k → ynf f n < ynf g n
  | 0, hk, _, _ => by omega
  | n + 1, hk, h, hl => by
    unfold ynf
    have h1 := h n (by omega)
    by_cases e : k = n
    · subst e
      have := ynf_le k (fun i hi => h i (by omega))
      omega
    · have := ynf_lt n (by omega) (fun i hi => h i (by omega)) hl
      omega
def yfreeb (s : Int32) : Nat := ynf (fun t => if ybit s (nI t) = true then 0 else 1) 8
def yleft (ask : Nat → Int32) : Nat := ynf (fun m => yfreeb (ask m)) 4
theorem yfreeb_lt {s : Int32} {T : Nat} (hT : T < 8) (h : ybit s (nI T) = false) : yfreeb (s ||| yshl T) < yfreeb s := by
  unfold yfreeb
  refine ynf_lt (k := T) 8 hT (fun i hi => ?_) ?_
  · rw [ybit_or (by omega) (by omega)]
    cases ybit s (nI i) <;> simp
    split <;> omega
  · rw [ybit_or (by omega) (by omega), h]
    simp
theorem yfreeb_le {s : Int32} : yfreeb s ≤ 8 := by
  unfold yfreeb
  have := ynf_le (f := fun t => if ybit s (nI t) = true then 0 else 1) (g := fun _ => 1) 8 (fun i hi => by split <;> omega)
  exact this
theorem yleft_le {ask : Nat → Int32} : yleft ask ≤ 32 := by
  unfold yleft
  have := ynf_le (f := fun m => yfreeb (ask m)) (g := fun _ => 8) 4 (fun i hi => yfreeb_le)
  exact this
theorem yleft_lt {ask : Nat → Int32} {M T : Nat} (hM : M < 4) (hT : T < 8) (h : ybit (ask M) (nI T) = false) : yleft (upd ask M (ask M ||| yshl T)) < yleft ask := by
  unfold yleft
  refine ynf_lt (k := M) 4 hM (fun i hi => ?_) ?_
  · by_cases e : i = M
    · subst e
      rw [upd_s]
      exact Nat.le_of_lt (yfreeb_lt hT h)
    · rw [upd_n e]
      exact Nat.le_refl _
  · rw [upd_s]
    exact yfreeb_lt hT h
def yasks (w : Nat → Int32) : Nat → Int32 → (Nat → Int32) → (Nat → Int32) → (Nat → Int32) × (Nat → Int32)
  | 0, _, ask, man => (ask, man)
  | n + 1, m, ask, man => if m = -1 then (ask, man) else
    if ybest w (ask m.toNatClampNeg) m.toNatClampNeg = -1 then (ask, man) else
    if man (ybest w (ask m.toNatClampNeg) m.toNatClampNeg).toNatClampNeg = -1 ∨ yrather w (ybest w (ask m.toNatClampNeg) m.toNatClampNeg).toNatClampNeg m.toNatClampNeg (man (ybest w (ask m.toNatClampNeg) m.toNatClampNeg).toNatClampNeg).toNatClampNeg = true then
      yasks w n (man (ybest w (ask m.toNatClampNeg) m.toNatClampNeg).toNatClampNeg) (upd ask m.toNatClampNeg (ask m.toNatClampNeg ||| yshl (ybest w (ask m.toNatClampNeg) m.toNatClampNeg).toNatClampNeg)) (upd man (ybest w (ask m.toNatClampNeg) m.toNatClampNeg).toNatClampNeg m)
    else yasks w n m (upd ask m.toNatClampNeg (ask m.toNatClampNeg ||| yshl (ybest w (ask m.toNatClampNeg) m.toNatClampNeg).toNatClampNeg)) man
def yman (f : Nat → Int32) : Prop := ∀ t, t < 8 → f t = -1 ∨ vp_in (f t) 4
theorem yman_u {f : Nat → Int32} {T : Nat} {m : Int32} (h : yman f) (hm4 : vp_in m 4) : yman (upd f T m) := fun t ht => by
  by_cases e : t = T
  · subst e; rw [upd_s]; exact Or.inr hm4
  · rw [upd_n e]; exact h t ht
theorem yasks_man {w : Nat → Int32} (hN : vp_in (w 96) 9) : ∀ (n : Nat) (m : Int32) (ask man : Nat → Int32), (m = -1 ∨ vp_in m 4) → yman man → yman (yasks w n m ask man).2
  | 0, _, _, _, _, h => h
  | n + 1, m, ask, man, hm4, h => by
    unfold yasks
    split
    · exact h
    · rename_i c
      split
      · exact h
      · rename_i c2
        rcases ybest_p (asked := ask m.toNatClampNeg) (M := m.toNatClampNeg) hN with e | ⟨T, hT, e, -⟩
        · exact absurd e c2
        · rw [e, nI_clamp (by omega)]
          split
          · exact yasks_man hN n _ _ _ (h T hT) (yman_u h (hm4.resolve_left c))
          · exact yasks_man hN n _ _ _ hm4 h
def T_X3_asksFor : zT zM := zx1 (fun m s => ywf (s.2 1) ∧ vp_in m 4 ∧ yman (s.2 15)) (fun _ _ => none) (fun m s u => zes s u ∧ (u.2 16, u.2 15) = yasks (s.2 1) 33 m (s.2 16) (s.2 15))
abbrev G_X3_asksFor : zΓ zM := [(468, true, 1, T_X3_bestTool), (471, true, 3, T_X3_isRather)]
theorem Z_X3_asksFor_0 {σ : Type} {ret : Option FieldType} {hp : Instr → List Value → σ → (List Value → σ → Prop) → Prop} {K : Option Value → σ → Prop} {S : Nat → zL → List Value → σ → Prop} {L : zL} {s : σ} {st : List Value} : zone ret hp K cX3_asksFor S 0 L st s = (zldi L 1 fun v => S 1 L (v :: st) s) := zone_of dX3_asksFor_0 rfl
theorem Z_X3_asksFor_1 {σ : Type} {ret : Option FieldType} {hp : Instr → List Value → σ → (List Value → σ → Prop) → Prop} {K : Option Value → σ → Prop} {S : Nat → zL → List Value → σ → Prop} {L : zL} {s : σ} {st : List Value} : zone ret hp K cX3_asksFor S 1 L st s = (zsti L 2 st fun q r => S 2 q r s) := zone_of dX3_asksFor_1 rfl
theorem Z_X3_asksFor_2 {σ : Type} {ret : Option FieldType} {hp : Instr → List Value → σ → (List Value → σ → Prop) → Prop} {K : Option Value → σ → Prop} {S : Nat → zL → List Value → σ → Prop} {L : zL} {s : σ} {st : List Value} : zone ret hp K cX3_asksFor S 2 L st s = (zldi L 2 fun v => S 3 L (v :: st) s) := zone_of dX3_asksFor_2 rfl
theorem Z_X3_asksFor_3 {σ : Type} {ret : Option FieldType} {hp : Instr → List Value → σ → (List Value → σ → Prop) → Prop} {K : Option Value → σ → Prop} {S : Nat → zL → List Value → σ → Prop} {L : zL} {s : σ} {st : List Value} : zone ret hp K cX3_asksFor S 3 L st s = (S 4 L (.int (-1) :: st) s) := zone_iconst dX3_asksFor_3 (by decide)
theorem Z_X3_asksFor_4 {σ : Type} {ret : Option FieldType} {hp : Instr → List Value → σ → (List Value → σ → Prop) → Prop} {K : Option Value → σ → Prop} {S : Nat → zL → List Value → σ → Prop} {L : zL} {s : σ} {st : List Value} : zone ret hp K cX3_asksFor S 4 L st s = (zb2 st fun x y r => if x = y then S 69 L r s else S 7 L r s) := zone_ic_eq dX3_asksFor_4 (by decide)
theorem Z_X3_asksFor_7 {σ : Type} {ret : Option FieldType} {hp : Instr → List Value → σ → (List Value → σ → Prop) → Prop} {K : Option Value → σ → Prop} {S : Nat → zL → List Value → σ → Prop} {L : zL} {s : σ} {st : List Value} : zone ret hp K cX3_asksFor S 7 L st s = (zlda L 0 fun v => S 8 L (v :: st) s) := zone_of dX3_asksFor_7 rfl
theorem Z_X3_asksFor_8 {σ : Type} {ret : Option FieldType} {hp : Instr → List Value → σ → (List Value → σ → Prop) → Prop} {K : Option Value → σ → Prop} {S : Nat → zL → List Value → σ → Prop} {L : zL} {s : σ} {st : List Value} : zone ret hp K cX3_asksFor S 8 L st s = (zldi L 2 fun v => S 9 L (v :: st) s) := zone_of dX3_asksFor_8 rfl
theorem Z_X3_asksFor_9 {σ : Type} {ret : Option FieldType} {hp : Instr → List Value → σ → (List Value → σ → Prop) → Prop} {K : Option Value → σ → Prop} {S : Nat → zL → List Value → σ → Prop} {L : zL} {s : σ} {st : List Value} : zone ret hp K cX3_asksFor S 9 L st s = (hp (.invokevirtual 468) st s (fun st' s' => S 12 L st' s')) := zone_of dX3_asksFor_9 rfl
theorem Z_X3_asksFor_12 {σ : Type} {ret : Option FieldType} {hp : Instr → List Value → σ → (List Value → σ → Prop) → Prop} {K : Option Value → σ → Prop} {S : Nat → zL → List Value → σ → Prop} {L : zL} {s : σ} {st : List Value} : zone ret hp K cX3_asksFor S 12 L st s = (zsti L 3 st fun q r => S 13 q r s) := zone_of dX3_asksFor_12 rfl
theorem Z_X3_asksFor_13 {σ : Type} {ret : Option FieldType} {hp : Instr → List Value → σ → (List Value → σ → Prop) → Prop} {K : Option Value → σ → Prop} {S : Nat → zL → List Value → σ → Prop} {L : zL} {s : σ} {st : List Value} : zone ret hp K cX3_asksFor S 13 L st s = (zldi L 3 fun v => S 14 L (v :: st) s) := zone_of dX3_asksFor_13 rfl
theorem Z_X3_asksFor_14 {σ : Type} {ret : Option FieldType} {hp : Instr → List Value → σ → (List Value → σ → Prop) → Prop} {K : Option Value → σ → Prop} {S : Nat → zL → List Value → σ → Prop} {L : zL} {s : σ} {st : List Value} : zone ret hp K cX3_asksFor S 14 L st s = (S 15 L (.int (-1) :: st) s) := zone_iconst dX3_asksFor_14 (by decide)
theorem Z_X3_asksFor_15 {σ : Type} {ret : Option FieldType} {hp : Instr → List Value → σ → (List Value → σ → Prop) → Prop} {K : Option Value → σ → Prop} {S : Nat → zL → List Value → σ → Prop} {L : zL} {s : σ} {st : List Value} : zone ret hp K cX3_asksFor S 15 L st s = (zb2 st fun x y r => if x = y then S 18 L r s else S 19 L r s) := zone_ic_ne dX3_asksFor_15 (by decide)
theorem Z_X3_asksFor_18 {σ : Type} {ret : Option FieldType} {hp : Instr → List Value → σ → (List Value → σ → Prop) → Prop} {K : Option Value → σ → Prop} {S : Nat → zL → List Value → σ → Prop} {L : zL} {s : σ} : zone ret hp K cX3_asksFor S 18 L [] s = (ret = none ∧ K none s) := zone_of dX3_asksFor_18 rfl
theorem Z_X3_asksFor_19 {σ : Type} {ret : Option FieldType} {hp : Instr → List Value → σ → (List Value → σ → Prop) → Prop} {K : Option Value → σ → Prop} {S : Nat → zL → List Value → σ → Prop} {L : zL} {s : σ} {st : List Value} : zone ret hp K cX3_asksFor S 19 L st s = (zlda L 0 fun v => S 20 L (v :: st) s) := zone_of dX3_asksFor_19 rfl
theorem Z_X3_asksFor_20 {σ : Type} {ret : Option FieldType} {hp : Instr → List Value → σ → (List Value → σ → Prop) → Prop} {K : Option Value → σ → Prop} {S : Nat → zL → List Value → σ → Prop} {L : zL} {s : σ} {st : List Value} : zone ret hp K cX3_asksFor S 20 L st s = (hp (.getfield 61) st s (fun st' s' => S 23 L st' s')) := zone_of dX3_asksFor_20 rfl
theorem Z_X3_asksFor_23 {σ : Type} {ret : Option FieldType} {hp : Instr → List Value → σ → (List Value → σ → Prop) → Prop} {K : Option Value → σ → Prop} {S : Nat → zL → List Value → σ → Prop} {L : zL} {s : σ} {st : List Value} : zone ret hp K cX3_asksFor S 23 L st s = (zldi L 2 fun v => S 24 L (v :: st) s) := zone_of dX3_asksFor_23 rfl
theorem Z_X3_asksFor_24 {σ : Type} {ret : Option FieldType} {hp : Instr → List Value → σ → (List Value → σ → Prop) → Prop} {K : Option Value → σ → Prop} {S : Nat → zL → List Value → σ → Prop} {L : zL} {s : σ} {r : List Value} {x y : Value} : zone ret hp K cX3_asksFor S 24 L (x :: y :: r) s = (x.category = 1 ∧ y.category = 1 ∧ S 25 L (x :: y :: x :: y :: r) s) := zone_of dX3_asksFor_24 rfl
theorem Z_X3_asksFor_25 {σ : Type} {ret : Option FieldType} {hp : Instr → List Value → σ → (List Value → σ → Prop) → Prop} {K : Option Value → σ → Prop} {S : Nat → zL → List Value → σ → Prop} {L : zL} {s : σ} {st : List Value} : zone ret hp K cX3_asksFor S 25 L st s = (hp (.iaload) st s (fun st' s' => S 26 L st' s')) := zone_of dX3_asksFor_25 rfl
theorem Z_X3_asksFor_26 {σ : Type} {ret : Option FieldType} {hp : Instr → List Value → σ → (List Value → σ → Prop) → Prop} {K : Option Value → σ → Prop} {S : Nat → zL → List Value → σ → Prop} {L : zL} {s : σ} {st : List Value} : zone ret hp K cX3_asksFor S 26 L st s = (S 27 L (.int 1 :: st) s) := zone_iconst dX3_asksFor_26 (by decide)
theorem Z_X3_asksFor_27 {σ : Type} {ret : Option FieldType} {hp : Instr → List Value → σ → (List Value → σ → Prop) → Prop} {K : Option Value → σ → Prop} {S : Nat → zL → List Value → σ → Prop} {L : zL} {s : σ} {st : List Value} : zone ret hp K cX3_asksFor S 27 L st s = (zldi L 3 fun v => S 28 L (v :: st) s) := zone_of dX3_asksFor_27 rfl
theorem Z_X3_asksFor_28 {σ : Type} {ret : Option FieldType} {hp : Instr → List Value → σ → (List Value → σ → Prop) → Prop} {K : Option Value → σ → Prop} {S : Nat → zL → List Value → σ → Prop} {L : zL} {s : σ} {st : List Value} : zone ret hp K cX3_asksFor S 28 L st s = (zb2 st fun x y r => S 29 L (.int (x <<< (y &&& 31)) :: r) s) := zone_of dX3_asksFor_28 rfl
theorem Z_X3_asksFor_29 {σ : Type} {ret : Option FieldType} {hp : Instr → List Value → σ → (List Value → σ → Prop) → Prop} {K : Option Value → σ → Prop} {S : Nat → zL → List Value → σ → Prop} {L : zL} {s : σ} {st : List Value} : zone ret hp K cX3_asksFor S 29 L st s = (zb2 st fun x y r => S 30 L (.int (x ||| y) :: r) s) := zone_of dX3_asksFor_29 rfl
theorem Z_X3_asksFor_30 {σ : Type} {ret : Option FieldType} {hp : Instr → List Value → σ → (List Value → σ → Prop) → Prop} {K : Option Value → σ → Prop} {S : Nat → zL → List Value → σ → Prop} {L : zL} {s : σ} {st : List Value} : zone ret hp K cX3_asksFor S 30 L st s = (hp (.iastore) st s (fun st' s' => S 31 L st' s')) := zone_of dX3_asksFor_30 rfl
theorem Z_X3_asksFor_31 {σ : Type} {ret : Option FieldType} {hp : Instr → List Value → σ → (List Value → σ → Prop) → Prop} {K : Option Value → σ → Prop} {S : Nat → zL → List Value → σ → Prop} {L : zL} {s : σ} {st : List Value} : zone ret hp K cX3_asksFor S 31 L st s = (zlda L 0 fun v => S 32 L (v :: st) s) := zone_of dX3_asksFor_31 rfl
theorem Z_X3_asksFor_32 {σ : Type} {ret : Option FieldType} {hp : Instr → List Value → σ → (List Value → σ → Prop) → Prop} {K : Option Value → σ → Prop} {S : Nat → zL → List Value → σ → Prop} {L : zL} {s : σ} {st : List Value} : zone ret hp K cX3_asksFor S 32 L st s = (hp (.getfield 58) st s (fun st' s' => S 35 L st' s')) := zone_of dX3_asksFor_32 rfl
theorem Z_X3_asksFor_35 {σ : Type} {ret : Option FieldType} {hp : Instr → List Value → σ → (List Value → σ → Prop) → Prop} {K : Option Value → σ → Prop} {S : Nat → zL → List Value → σ → Prop} {L : zL} {s : σ} {st : List Value} : zone ret hp K cX3_asksFor S 35 L st s = (zldi L 3 fun v => S 36 L (v :: st) s) := zone_of dX3_asksFor_35 rfl
theorem Z_X3_asksFor_36 {σ : Type} {ret : Option FieldType} {hp : Instr → List Value → σ → (List Value → σ → Prop) → Prop} {K : Option Value → σ → Prop} {S : Nat → zL → List Value → σ → Prop} {L : zL} {s : σ} {st : List Value} : zone ret hp K cX3_asksFor S 36 L st s = (hp (.iaload) st s (fun st' s' => S 37 L st' s')) := zone_of dX3_asksFor_36 rfl
theorem Z_X3_asksFor_37 {σ : Type} {ret : Option FieldType} {hp : Instr → List Value → σ → (List Value → σ → Prop) → Prop} {K : Option Value → σ → Prop} {S : Nat → zL → List Value → σ → Prop} {L : zL} {s : σ} {st : List Value} : zone ret hp K cX3_asksFor S 37 L st s = (zsti L 4 st fun q r => S 39 q r s) := zone_of dX3_asksFor_37 rfl
theorem Z_X3_asksFor_39 {σ : Type} {ret : Option FieldType} {hp : Instr → List Value → σ → (List Value → σ → Prop) → Prop} {K : Option Value → σ → Prop} {S : Nat → zL → List Value → σ → Prop} {L : zL} {s : σ} {st : List Value} : zone ret hp K cX3_asksFor S 39 L st s = (zldi L 4 fun v => S 41 L (v :: st) s) := zone_of dX3_asksFor_39 rfl
theorem Z_X3_asksFor_41 {σ : Type} {ret : Option FieldType} {hp : Instr → List Value → σ → (List Value → σ → Prop) → Prop} {K : Option Value → σ → Prop} {S : Nat → zL → List Value → σ → Prop} {L : zL} {s : σ} {st : List Value} : zone ret hp K cX3_asksFor S 41 L st s = (S 42 L (.int (-1) :: st) s) := zone_iconst dX3_asksFor_41 (by decide)
theorem Z_X3_asksFor_42 {σ : Type} {ret : Option FieldType} {hp : Instr → List Value → σ → (List Value → σ → Prop) → Prop} {K : Option Value → σ → Prop} {S : Nat → zL → List Value → σ → Prop} {L : zL} {s : σ} {st : List Value} : zone ret hp K cX3_asksFor S 42 L st s = (zb2 st fun x y r => if x = y then S 56 L r s else S 45 L r s) := zone_ic_eq dX3_asksFor_42 (by decide)
theorem Z_X3_asksFor_45 {σ : Type} {ret : Option FieldType} {hp : Instr → List Value → σ → (List Value → σ → Prop) → Prop} {K : Option Value → σ → Prop} {S : Nat → zL → List Value → σ → Prop} {L : zL} {s : σ} {st : List Value} : zone ret hp K cX3_asksFor S 45 L st s = (zlda L 0 fun v => S 46 L (v :: st) s) := zone_of dX3_asksFor_45 rfl
theorem Z_X3_asksFor_46 {σ : Type} {ret : Option FieldType} {hp : Instr → List Value → σ → (List Value → σ → Prop) → Prop} {K : Option Value → σ → Prop} {S : Nat → zL → List Value → σ → Prop} {L : zL} {s : σ} {st : List Value} : zone ret hp K cX3_asksFor S 46 L st s = (zldi L 3 fun v => S 47 L (v :: st) s) := zone_of dX3_asksFor_46 rfl
theorem Z_X3_asksFor_47 {σ : Type} {ret : Option FieldType} {hp : Instr → List Value → σ → (List Value → σ → Prop) → Prop} {K : Option Value → σ → Prop} {S : Nat → zL → List Value → σ → Prop} {L : zL} {s : σ} {st : List Value} : zone ret hp K cX3_asksFor S 47 L st s = (zldi L 2 fun v => S 48 L (v :: st) s) := zone_of dX3_asksFor_47 rfl
theorem Z_X3_asksFor_48 {σ : Type} {ret : Option FieldType} {hp : Instr → List Value → σ → (List Value → σ → Prop) → Prop} {K : Option Value → σ → Prop} {S : Nat → zL → List Value → σ → Prop} {L : zL} {s : σ} {st : List Value} : zone ret hp K cX3_asksFor S 48 L st s = (zldi L 4 fun v => S 50 L (v :: st) s) := zone_of dX3_asksFor_48 rfl
theorem Z_X3_asksFor_50 {σ : Type} {ret : Option FieldType} {hp : Instr → List Value → σ → (List Value → σ → Prop) → Prop} {K : Option Value → σ → Prop} {S : Nat → zL → List Value → σ → Prop} {L : zL} {s : σ} {st : List Value} : zone ret hp K cX3_asksFor S 50 L st s = (hp (.invokevirtual 471) st s (fun st' s' => S 53 L st' s')) := zone_of dX3_asksFor_50 rfl
theorem Z_X3_asksFor_53 {σ : Type} {ret : Option FieldType} {hp : Instr → List Value → σ → (List Value → σ → Prop) → Prop} {K : Option Value → σ → Prop} {S : Nat → zL → List Value → σ → Prop} {L : zL} {s : σ} {st : List Value} : zone ret hp K cX3_asksFor S 53 L st s = (zb1 st fun x r => if x = 0 then S 66 L r s else S 56 L r s) := zone_if_eq dX3_asksFor_53 (by decide)
theorem Z_X3_asksFor_56 {σ : Type} {ret : Option FieldType} {hp : Instr → List Value → σ → (List Value → σ → Prop) → Prop} {K : Option Value → σ → Prop} {S : Nat → zL → List Value → σ → Prop} {L : zL} {s : σ} {st : List Value} : zone ret hp K cX3_asksFor S 56 L st s = (zlda L 0 fun v => S 57 L (v :: st) s) := zone_of dX3_asksFor_56 rfl
theorem Z_X3_asksFor_57 {σ : Type} {ret : Option FieldType} {hp : Instr → List Value → σ → (List Value → σ → Prop) → Prop} {K : Option Value → σ → Prop} {S : Nat → zL → List Value → σ → Prop} {L : zL} {s : σ} {st : List Value} : zone ret hp K cX3_asksFor S 57 L st s = (hp (.getfield 58) st s (fun st' s' => S 60 L st' s')) := zone_of dX3_asksFor_57 rfl
theorem Z_X3_asksFor_60 {σ : Type} {ret : Option FieldType} {hp : Instr → List Value → σ → (List Value → σ → Prop) → Prop} {K : Option Value → σ → Prop} {S : Nat → zL → List Value → σ → Prop} {L : zL} {s : σ} {st : List Value} : zone ret hp K cX3_asksFor S 60 L st s = (zldi L 3 fun v => S 61 L (v :: st) s) := zone_of dX3_asksFor_60 rfl
theorem Z_X3_asksFor_61 {σ : Type} {ret : Option FieldType} {hp : Instr → List Value → σ → (List Value → σ → Prop) → Prop} {K : Option Value → σ → Prop} {S : Nat → zL → List Value → σ → Prop} {L : zL} {s : σ} {st : List Value} : zone ret hp K cX3_asksFor S 61 L st s = (zldi L 2 fun v => S 62 L (v :: st) s) := zone_of dX3_asksFor_61 rfl
theorem Z_X3_asksFor_62 {σ : Type} {ret : Option FieldType} {hp : Instr → List Value → σ → (List Value → σ → Prop) → Prop} {K : Option Value → σ → Prop} {S : Nat → zL → List Value → σ → Prop} {L : zL} {s : σ} {st : List Value} : zone ret hp K cX3_asksFor S 62 L st s = (hp (.iastore) st s (fun st' s' => S 63 L st' s')) := zone_of dX3_asksFor_62 rfl
theorem Z_X3_asksFor_63 {σ : Type} {ret : Option FieldType} {hp : Instr → List Value → σ → (List Value → σ → Prop) → Prop} {K : Option Value → σ → Prop} {S : Nat → zL → List Value → σ → Prop} {L : zL} {s : σ} {st : List Value} : zone ret hp K cX3_asksFor S 63 L st s = (zldi L 4 fun v => S 65 L (v :: st) s) := zone_of dX3_asksFor_63 rfl
theorem Z_X3_asksFor_65 {σ : Type} {ret : Option FieldType} {hp : Instr → List Value → σ → (List Value → σ → Prop) → Prop} {K : Option Value → σ → Prop} {S : Nat → zL → List Value → σ → Prop} {L : zL} {s : σ} {st : List Value} : zone ret hp K cX3_asksFor S 65 L st s = (zsti L 2 st fun q r => S 66 q r s) := zone_of dX3_asksFor_65 rfl
theorem Z_X3_asksFor_66 {σ : Type} {ret : Option FieldType} {hp : Instr → List Value → σ → (List Value → σ → Prop) → Prop} {K : Option Value → σ → Prop} {S : Nat → zL → List Value → σ → Prop} {L : zL} {s : σ} {st : List Value} : zone ret hp K cX3_asksFor S 66 L st s = (S 2 L st s) := zone_goto dX3_asksFor_66 (by decide)
theorem Z_X3_asksFor_69 {σ : Type} {ret : Option FieldType} {hp : Instr → List Value → σ → (List Value → σ → Prop) → Prop} {K : Option Value → σ → Prop} {S : Nat → zL → List Value → σ → Prop} {L : zL} {s : σ} : zone ret hp K cX3_asksFor S 69 L [] s = (ret = none ∧ K none s) := zone_of dX3_asksFor_69 rfl
theorem CC_X3_asksFor_468 {b : Nat} {a0 : Value} {r : List Value} {s : zM} {k : List Value → zM → Prop} : zcallV b G_X3_asksFor 468 (a0 :: .ref b :: r) s k = (zfew r 8 = true ∧ T_X3_bestTool [a0] s (fun v s' => zpush v r (fun q => k q s'))) := zcV_n rfl rfl
theorem CC_X3_asksFor_471 {b : Nat} {a0 a1 a2 : Value} {r : List Value} {s : zM} {k : List Value → zM → Prop} : zcallV b G_X3_asksFor 471 (a2 :: a1 :: a0 :: .ref b :: r) s k = (zfew r 8 = true ∧ T_X3_isRather [a0, a1, a2] s (fun v s' => zpush v r (fun q => k q s'))) := zcV_n rfl rfl
theorem TE_X3_asksFor {m : Int32} {s : zM} {K : Option Value → zM → Prop} : T_X3_asksFor [.int m] s K = ((fun m s => ywf (s.2 1) ∧ vp_in m 4 ∧ yman (s.2 15)) m s ∧ ∀ u9 : zM, (fun m s u => zes s u ∧ (u.2 16, u.2 15) = yasks (s.2 1) 33 m (s.2 16) (s.2 15)) m s u9 → K ((fun _ _ => none) m s) u9) := rfl
set_option maxRecDepth 100000 in
set_option maxHeartbeats 4000000 in
theorem B_X3_asksFor {E : zEnv} (b : Nat) (m : Int32) (s : zM) (K : Option Value → zM → Prop) (hT : T_X3_asksFor [.int m] s K) (S : Nat → zL → List Value → zM → Prop) (hm : zMono (zMhp E b G_X3_asksFor)) (hc : zClosed none (zMhp E b G_X3_asksFor) K cX3_asksFor S) : S 0 (zent [.ref b, .int m] 5) [] s := by
  obtain ⟨⟨hwf, h4, hman⟩, hK⟩ := hT
  dsimp only at hwf h4 hman hK
  generalize hR : yasks (s.2 1) 33 m (s.2 16) (s.2 15) = R at hK
  have loop : ∀ (n : Nat) (mm : Int32) (u : zM), zes s u → (mm = -1 ∨ vp_in mm 4) → yman (u.2 15) → yleft (u.2 16) < n → yasks (s.2 1) n mm (u.2 16) (u.2 15) = R → ∀ x3 x4, S 2 [some (.ref b), some (.int m), some (.int mm), x3, x4] [] u := by
    intro n
    induction n with
    | zero => intro mm u _ _ _ h; omega
    | succ n ih =>
      intro mm u hz hmm hy hlt hE x3 x4
      rcases hmm with rfl | hmm
      · rw [yasks, if_pos rfl] at hE
        refine zgo hm hc (fun q => q == 2) 40 ?_
        simp (config := {decide := true, maxSteps := 1000000}) (disch := first | rfl | decide | omega) only [↓Z_X3_asksFor_0, ↓Z_X3_asksFor_1, ↓Z_X3_asksFor_2, ↓Z_X3_asksFor_3, ↓Z_X3_asksFor_4, ↓Z_X3_asksFor_7, ↓Z_X3_asksFor_8, ↓Z_X3_asksFor_9, ↓Z_X3_asksFor_12, ↓Z_X3_asksFor_13, ↓Z_X3_asksFor_14, ↓Z_X3_asksFor_15, ↓Z_X3_asksFor_18, ↓Z_X3_asksFor_19, ↓Z_X3_asksFor_20, ↓Z_X3_asksFor_23, ↓Z_X3_asksFor_24, ↓Z_X3_asksFor_25, ↓Z_X3_asksFor_26, ↓Z_X3_asksFor_27, ↓Z_X3_asksFor_28, ↓Z_X3_asksFor_29, ↓Z_X3_asksFor_30, ↓Z_X3_asksFor_31, ↓Z_X3_asksFor_32, ↓Z_X3_asksFor_35, ↓Z_X3_asksFor_36, ↓Z_X3_asksFor_37, ↓Z_X3_asksFor_39, ↓Z_X3_asksFor_41, ↓Z_X3_asksFor_42, ↓Z_X3_asksFor_45, ↓Z_X3_asksFor_46, ↓Z_X3_asksFor_47, ↓Z_X3_asksFor_48, ↓Z_X3_asksFor_50, ↓Z_X3_asksFor_53, ↓Z_X3_asksFor_56, ↓Z_X3_asksFor_57, ↓Z_X3_asksFor_60, ↓Z_X3_asksFor_61, ↓Z_X3_asksFor_62, ↓Z_X3_asksFor_63, ↓Z_X3_asksFor_65, ↓Z_X3_asksFor_66, ↓Z_X3_asksFor_69, ↓reduceIte, ↓zrun_stop, ↓zrun_step, ↓zb2_i, ↓zb1_i, ↓zldi_0, ↓zldi_s, ↓zlda_0, ↓zlda_n, ↓zlda_s, ↓zsc_0, ↓zsc_s, ↓zsti_c, ↓zsta_r, ↓zsta_n, ↓zic_0, ↓zic_s, ↓zpush_s, ↓zpush_n, ↓zfew_0, ↓zfew_i, ↓zfew_r, ↓zfew_n, ↓zMg'_58, ↓zMg'_61, ↓zMhp_iV, ↓zMl_1, ↓zMl_10, ↓zMl_11, ↓zMl_12, ↓zMl_13, ↓zMl_14, ↓zMl_15, ↓zMl_16, ↓zMl_17, ↓zMl_18, ↓zMl_2, ↓zMl_3, ↓zMl_4, ↓zMl_5, ↓zMl_6, ↓zMl_7, ↓zMl_8, ↓zMl_9, ↓zMs_1, ↓zMs_10, ↓zMs_11, ↓zMs_12, ↓zMs_13, ↓zMs_14, ↓zMs_15, ↓zMs_16, ↓zMs_17, ↓zMs_18, ↓zMs_2, ↓zMs_3, ↓zMs_4, ↓zMs_5, ↓zMs_6, ↓zMs_7, ↓zMs_8, ↓zMs_9, ↓CC_X3_asksFor_468, ↓CC_X3_asksFor_471, ↓TE_X3_bestTool, ↓TE_X3_isRather, zcat_int, zcat_ref, zcat_null, zret_int, zret_b0, zret_b1, zret_b, Nat.reduceAdd, Nat.reduceSub, Nat.reduceLT, Nat.reduceEqDiff, Nat.reduceBEq, Nat.reduceBNe, true_and, and_true, if_true, if_false, Bool.false_eq_true, Bool.true_eq_false, Bool.or_self, Bool.or_false, Bool.or_true, Bool.false_or, Bool.true_or, zbi_e0, zbi_e1, eq_self, reduceCtorEq, Fin.isValue, zent, List.map_cons, List.map_nil, List.length_cons, List.length_nil, List.replicate, List.cons_append, List.nil_append, List.append_nil, Nat.zero_add, Nat.add_zero, zF_1, zF_2, zA_1, zA_2s, zA_2n, zB_1, zB_2s, zB_2n, not_true_eq_false, not_false_eq_true, Int32.reduceLT, Int32.reduceAdd, Int32.reduceSub, Int32.reduceMul, ne_eq, Int32.reduceToNatClampNeg, zlit_vp, nI_al, nI_la, nI_lm, nI_ml, nI_ltl, nI_llt, nI_eql, nI_lt2, nI_eq2, nI_vp, nI_cl, nI_add, pk_mul, nI_divl, nI_sub2, nI_lsub, nI_ne0l, nI_1, nI_pred, pk_m1, upd_s, upd_n, Nat.lt_irrefl, decide_eq_false_iff_not, decide_eq_true_eq, ite_not, ite_self, Nat.reducePow, Nat.reduceMul]
        exact hK u ⟨hz, hE⟩
      · obtain ⟨M, hM, rfl⟩ := vp_in_of hmm (by decide)
        have c1 : ¬ nI M = -1 := nI_m1 (by omega)
        rw [yasks, if_neg c1, nI_clamp (by omega)] at hE
        have hu1 : u.2 1 = s.2 1 := hz.1
        have hwu : ywf (u.2 1) := by rw [hu1]; exact hwf
        rw [← hu1] at hE
        rcases ybest_p (asked := u.2 16 M) (M := M) hwu.2.2.2.2.1 with e | ⟨T, hT8, e, hbit⟩
        · rw [if_pos e] at hE
          refine zgo hm hc (fun q => q == 2) 40 ?_
          simp (config := {decide := true, maxSteps := 1000000}) (disch := first | rfl | decide | omega) only [↓Z_X3_asksFor_0, ↓Z_X3_asksFor_1, ↓Z_X3_asksFor_2, ↓Z_X3_asksFor_3, ↓Z_X3_asksFor_4, ↓Z_X3_asksFor_7, ↓Z_X3_asksFor_8, ↓Z_X3_asksFor_9, ↓Z_X3_asksFor_12, ↓Z_X3_asksFor_13, ↓Z_X3_asksFor_14, ↓Z_X3_asksFor_15, ↓Z_X3_asksFor_18, ↓Z_X3_asksFor_19, ↓Z_X3_asksFor_20, ↓Z_X3_asksFor_23, ↓Z_X3_asksFor_24, ↓Z_X3_asksFor_25, ↓Z_X3_asksFor_26, ↓Z_X3_asksFor_27, ↓Z_X3_asksFor_28, ↓Z_X3_asksFor_29, ↓Z_X3_asksFor_30, ↓Z_X3_asksFor_31, ↓Z_X3_asksFor_32, ↓Z_X3_asksFor_35, ↓Z_X3_asksFor_36, ↓Z_X3_asksFor_37, ↓Z_X3_asksFor_39, ↓Z_X3_asksFor_41, ↓Z_X3_asksFor_42, ↓Z_X3_asksFor_45, ↓Z_X3_asksFor_46, ↓Z_X3_asksFor_47, ↓Z_X3_asksFor_48, ↓Z_X3_asksFor_50, ↓Z_X3_asksFor_53, ↓Z_X3_asksFor_56, ↓Z_X3_asksFor_57, ↓Z_X3_asksFor_60, ↓Z_X3_asksFor_61, ↓Z_X3_asksFor_62, ↓Z_X3_asksFor_63, ↓Z_X3_asksFor_65, ↓Z_X3_asksFor_66, ↓Z_X3_asksFor_69, ↓reduceIte, ↓zrun_stop, ↓zrun_step, ↓zb2_i, ↓zb1_i, ↓zldi_0, ↓zldi_s, ↓zlda_0, ↓zlda_n, ↓zlda_s, ↓zsc_0, ↓zsc_s, ↓zsti_c, ↓zsta_r, ↓zsta_n, ↓zic_0, ↓zic_s, ↓zpush_s, ↓zpush_n, ↓zfew_0, ↓zfew_i, ↓zfew_r, ↓zfew_n, ↓zMg'_58, ↓zMg'_61, ↓zMhp_iV, ↓zMl_1, ↓zMl_10, ↓zMl_11, ↓zMl_12, ↓zMl_13, ↓zMl_14, ↓zMl_15, ↓zMl_16, ↓zMl_17, ↓zMl_18, ↓zMl_2, ↓zMl_3, ↓zMl_4, ↓zMl_5, ↓zMl_6, ↓zMl_7, ↓zMl_8, ↓zMl_9, ↓zMs_1, ↓zMs_10, ↓zMs_11, ↓zMs_12, ↓zMs_13, ↓zMs_14, ↓zMs_15, ↓zMs_16, ↓zMs_17, ↓zMs_18, ↓zMs_2, ↓zMs_3, ↓zMs_4, ↓zMs_5, ↓zMs_6, ↓zMs_7, ↓zMs_8, ↓zMs_9, ↓CC_X3_asksFor_468, ↓CC_X3_asksFor_471, ↓TE_X3_bestTool, ↓TE_X3_isRather, zcat_int, zcat_ref, zcat_null, zret_int, zret_b0, zret_b1, zret_b, Nat.reduceAdd, Nat.reduceSub, Nat.reduceLT, Nat.reduceEqDiff, Nat.reduceBEq, Nat.reduceBNe, true_and, and_true, if_true, if_false, Bool.false_eq_true, Bool.true_eq_false, Bool.or_self, Bool.or_false, Bool.or_true, Bool.false_or, Bool.true_or, zbi_e0, zbi_e1, eq_self, reduceCtorEq, Fin.isValue, zent, List.map_cons, List.map_nil, List.length_cons, List.length_nil, List.replicate, List.cons_append, List.nil_append, List.append_nil, Nat.zero_add, Nat.add_zero, zF_1, zF_2, zA_1, zA_2s, zA_2n, zB_1, zB_2s, zB_2n, not_true_eq_false, not_false_eq_true, Int32.reduceLT, Int32.reduceAdd, Int32.reduceSub, Int32.reduceMul, ne_eq, Int32.reduceToNatClampNeg, zlit_vp, nI_al, nI_la, nI_lm, nI_ml, nI_ltl, nI_llt, nI_eql, nI_lt2, nI_eq2, nI_vp, nI_cl, nI_add, pk_mul, nI_divl, nI_sub2, nI_lsub, nI_ne0l, nI_1, nI_pred, pk_m1, upd_s, upd_n, Nat.lt_irrefl, decide_eq_false_iff_not, decide_eq_true_eq, ite_not, ite_self, Nat.reducePow, Nat.reduceMul, c1, hwu, e]
          exact fun q => hK _ ⟨hz.C, hE⟩
        · have c2 : ¬ nI T = -1 := nI_m1 (by omega)
          rw [e, if_neg c2, nI_clamp (by omega)] at hE
          have hl2 := yleft_lt (ask := u.2 16) hM hT8 hbit
          rcases hy T hT8 with c3 | c3
          · rw [if_pos (Or.inl c3), c3] at hE
            refine zgo hm hc (fun q => q == 2) 60 ?_
            simp (config := {decide := true, maxSteps := 1000000}) (disch := first | rfl | decide | omega) only [↓Z_X3_asksFor_0, ↓Z_X3_asksFor_1, ↓Z_X3_asksFor_2, ↓Z_X3_asksFor_3, ↓Z_X3_asksFor_4, ↓Z_X3_asksFor_7, ↓Z_X3_asksFor_8, ↓Z_X3_asksFor_9, ↓Z_X3_asksFor_12, ↓Z_X3_asksFor_13, ↓Z_X3_asksFor_14, ↓Z_X3_asksFor_15, ↓Z_X3_asksFor_18, ↓Z_X3_asksFor_19, ↓Z_X3_asksFor_20, ↓Z_X3_asksFor_23, ↓Z_X3_asksFor_24, ↓Z_X3_asksFor_25, ↓Z_X3_asksFor_26, ↓Z_X3_asksFor_27, ↓Z_X3_asksFor_28, ↓Z_X3_asksFor_29, ↓Z_X3_asksFor_30, ↓Z_X3_asksFor_31, ↓Z_X3_asksFor_32, ↓Z_X3_asksFor_35, ↓Z_X3_asksFor_36, ↓Z_X3_asksFor_37, ↓Z_X3_asksFor_39, ↓Z_X3_asksFor_41, ↓Z_X3_asksFor_42, ↓Z_X3_asksFor_45, ↓Z_X3_asksFor_46, ↓Z_X3_asksFor_47, ↓Z_X3_asksFor_48, ↓Z_X3_asksFor_50, ↓Z_X3_asksFor_53, ↓Z_X3_asksFor_56, ↓Z_X3_asksFor_57, ↓Z_X3_asksFor_60, ↓Z_X3_asksFor_61, ↓Z_X3_asksFor_62, ↓Z_X3_asksFor_63, ↓Z_X3_asksFor_65, ↓Z_X3_asksFor_66, ↓Z_X3_asksFor_69, ↓reduceIte, ↓zrun_stop, ↓zrun_step, ↓zb2_i, ↓zb1_i, ↓zldi_0, ↓zldi_s, ↓zlda_0, ↓zlda_n, ↓zlda_s, ↓zsc_0, ↓zsc_s, ↓zsti_c, ↓zsta_r, ↓zsta_n, ↓zic_0, ↓zic_s, ↓zpush_s, ↓zpush_n, ↓zfew_0, ↓zfew_i, ↓zfew_r, ↓zfew_n, ↓zMg'_58, ↓zMg'_61, ↓zMhp_iV, ↓zMl_1, ↓zMl_10, ↓zMl_11, ↓zMl_12, ↓zMl_13, ↓zMl_14, ↓zMl_15, ↓zMl_16, ↓zMl_17, ↓zMl_18, ↓zMl_2, ↓zMl_3, ↓zMl_4, ↓zMl_5, ↓zMl_6, ↓zMl_7, ↓zMl_8, ↓zMl_9, ↓zMs_1, ↓zMs_10, ↓zMs_11, ↓zMs_12, ↓zMs_13, ↓zMs_14, ↓zMs_15, ↓zMs_16, ↓zMs_17, ↓zMs_18, ↓zMs_2, ↓zMs_3, ↓zMs_4, ↓zMs_5, ↓zMs_6, ↓zMs_7, ↓zMs_8, ↓zMs_9, ↓CC_X3_asksFor_468, ↓CC_X3_asksFor_471, ↓TE_X3_bestTool, ↓TE_X3_isRather, zcat_int, zcat_ref, zcat_null, zret_int, zret_b0, zret_b1, zret_b, Nat.reduceAdd, Nat.reduceSub, Nat.reduceLT, Nat.reduceEqDiff, Nat.reduceBEq, Nat.reduceBNe, true_and, and_true, if_true, if_false, Bool.false_eq_true, Bool.true_eq_false, Bool.or_self, Bool.or_false, Bool.or_true, Bool.false_or, Bool.true_or, zbi_e0, zbi_e1, eq_self, reduceCtorEq, Fin.isValue, zent, List.map_cons, List.map_nil, List.length_cons, List.length_nil, List.replicate, List.cons_append, List.nil_append, List.append_nil, Nat.zero_add, Nat.add_zero, zF_1, zF_2, zA_1, zA_2s, zA_2n, zB_1, zB_2s, zB_2n, not_true_eq_false, not_false_eq_true, Int32.reduceLT, Int32.reduceAdd, Int32.reduceSub, Int32.reduceMul, ne_eq, Int32.reduceToNatClampNeg, zlit_vp, nI_al, nI_la, nI_lm, nI_ml, nI_ltl, nI_llt, nI_eql, nI_lt2, nI_eq2, nI_vp, nI_cl, nI_add, pk_mul, nI_divl, nI_sub2, nI_lsub, nI_ne0l, nI_1, nI_pred, pk_m1, upd_s, upd_n, Nat.lt_irrefl, decide_eq_false_iff_not, decide_eq_true_eq, ite_not, ite_self, Nat.reducePow, Nat.reduceMul, c1, c2, c3, hwu, e, zC_2n, zC_A, zA_2n]
            intro q
            refine ih _ _ ?_ (Or.inl rfl) ?_ ?_ ?_ _ _
            · rw [zA_B, zA_B]; exact ((hz.B (by decide) (by decide) (by decide) (by decide)).B (by decide) (by decide) (by decide) (by decide)).C
            · exact yman_u hy hmm
            · exact Nat.lt_of_lt_of_le hl2 (by omega)
            · rw [hu1] at hE; exact hE
          · obtain ⟨O, hO, eO⟩ := vp_in_of c3 (by decide)
            have c4 : ¬ nI O = -1 := nI_m1 (by omega)
            rw [eO, nI_clamp (by omega)] at hE
            cases c5 : yrather (u.2 1) T M O
            · rw [if_neg (by rw [c5]; simp [c4])] at hE
              refine zgo hm hc (fun q => q == 2) 60 ?_
              simp (config := {decide := true, maxSteps := 1000000}) (disch := first | rfl | decide | omega) only [↓Z_X3_asksFor_0, ↓Z_X3_asksFor_1, ↓Z_X3_asksFor_2, ↓Z_X3_asksFor_3, ↓Z_X3_asksFor_4, ↓Z_X3_asksFor_7, ↓Z_X3_asksFor_8, ↓Z_X3_asksFor_9, ↓Z_X3_asksFor_12, ↓Z_X3_asksFor_13, ↓Z_X3_asksFor_14, ↓Z_X3_asksFor_15, ↓Z_X3_asksFor_18, ↓Z_X3_asksFor_19, ↓Z_X3_asksFor_20, ↓Z_X3_asksFor_23, ↓Z_X3_asksFor_24, ↓Z_X3_asksFor_25, ↓Z_X3_asksFor_26, ↓Z_X3_asksFor_27, ↓Z_X3_asksFor_28, ↓Z_X3_asksFor_29, ↓Z_X3_asksFor_30, ↓Z_X3_asksFor_31, ↓Z_X3_asksFor_32, ↓Z_X3_asksFor_35, ↓Z_X3_asksFor_36, ↓Z_X3_asksFor_37, ↓Z_X3_asksFor_39, ↓Z_X3_asksFor_41, ↓Z_X3_asksFor_42, ↓Z_X3_asksFor_45, ↓Z_X3_asksFor_46, ↓Z_X3_asksFor_47, ↓Z_X3_asksFor_48, ↓Z_X3_asksFor_50, ↓Z_X3_asksFor_53, ↓Z_X3_asksFor_56, ↓Z_X3_asksFor_57, ↓Z_X3_asksFor_60, ↓Z_X3_asksFor_61, ↓Z_X3_asksFor_62, ↓Z_X3_asksFor_63, ↓Z_X3_asksFor_65, ↓Z_X3_asksFor_66, ↓Z_X3_asksFor_69, ↓reduceIte, ↓zrun_stop, ↓zrun_step, ↓zb2_i, ↓zb1_i, ↓zldi_0, ↓zldi_s, ↓zlda_0, ↓zlda_n, ↓zlda_s, ↓zsc_0, ↓zsc_s, ↓zsti_c, ↓zsta_r, ↓zsta_n, ↓zic_0, ↓zic_s, ↓zpush_s, ↓zpush_n, ↓zfew_0, ↓zfew_i, ↓zfew_r, ↓zfew_n, ↓zMg'_58, ↓zMg'_61, ↓zMhp_iV, ↓zMl_1, ↓zMl_10, ↓zMl_11, ↓zMl_12, ↓zMl_13, ↓zMl_14, ↓zMl_15, ↓zMl_16, ↓zMl_17, ↓zMl_18, ↓zMl_2, ↓zMl_3, ↓zMl_4, ↓zMl_5, ↓zMl_6, ↓zMl_7, ↓zMl_8, ↓zMl_9, ↓zMs_1, ↓zMs_10, ↓zMs_11, ↓zMs_12, ↓zMs_13, ↓zMs_14, ↓zMs_15, ↓zMs_16, ↓zMs_17, ↓zMs_18, ↓zMs_2, ↓zMs_3, ↓zMs_4, ↓zMs_5, ↓zMs_6, ↓zMs_7, ↓zMs_8, ↓zMs_9, ↓CC_X3_asksFor_468, ↓CC_X3_asksFor_471, ↓TE_X3_bestTool, ↓TE_X3_isRather, zcat_int, zcat_ref, zcat_null, zret_int, zret_b0, zret_b1, zret_b, Nat.reduceAdd, Nat.reduceSub, Nat.reduceLT, Nat.reduceEqDiff, Nat.reduceBEq, Nat.reduceBNe, true_and, and_true, if_true, if_false, Bool.false_eq_true, Bool.true_eq_false, Bool.or_self, Bool.or_false, Bool.or_true, Bool.false_or, Bool.true_or, zbi_e0, zbi_e1, eq_self, reduceCtorEq, Fin.isValue, zent, List.map_cons, List.map_nil, List.length_cons, List.length_nil, List.replicate, List.cons_append, List.nil_append, List.append_nil, Nat.zero_add, Nat.add_zero, zF_1, zF_2, zA_1, zA_2s, zA_2n, zB_1, zB_2s, zB_2n, not_true_eq_false, not_false_eq_true, Int32.reduceLT, Int32.reduceAdd, Int32.reduceSub, Int32.reduceMul, ne_eq, Int32.reduceToNatClampNeg, zlit_vp, nI_al, nI_la, nI_lm, nI_ml, nI_ltl, nI_llt, nI_eql, nI_lt2, nI_eq2, nI_vp, nI_cl, nI_add, pk_mul, nI_divl, nI_sub2, nI_lsub, nI_ne0l, nI_1, nI_pred, pk_m1, upd_s, upd_n, Nat.lt_irrefl, decide_eq_false_iff_not, decide_eq_true_eq, ite_not, ite_self, Nat.reducePow, Nat.reduceMul, c1, c2, c4, c5, eO, hwu, e, zC_2n, zC_A, zA_2n, zC_C]
              intro q q2
              refine ih _ _ ?_ (Or.inr hmm) ?_ ?_ ?_ _ _
              · rw [zA_B]; exact (hz.B (by decide) (by decide) (by decide) (by decide)).C
              · exact hy
              · exact Nat.lt_of_lt_of_le hl2 (by omega)
              · rw [hu1] at hE; exact hE
            · rw [if_pos (Or.inr c5)] at hE
              refine zgo hm hc (fun q => q == 2) 60 ?_
              simp (config := {decide := true, maxSteps := 1000000}) (disch := first | rfl | decide | omega) only [↓Z_X3_asksFor_0, ↓Z_X3_asksFor_1, ↓Z_X3_asksFor_2, ↓Z_X3_asksFor_3, ↓Z_X3_asksFor_4, ↓Z_X3_asksFor_7, ↓Z_X3_asksFor_8, ↓Z_X3_asksFor_9, ↓Z_X3_asksFor_12, ↓Z_X3_asksFor_13, ↓Z_X3_asksFor_14, ↓Z_X3_asksFor_15, ↓Z_X3_asksFor_18, ↓Z_X3_asksFor_19, ↓Z_X3_asksFor_20, ↓Z_X3_asksFor_23, ↓Z_X3_asksFor_24, ↓Z_X3_asksFor_25, ↓Z_X3_asksFor_26, ↓Z_X3_asksFor_27, ↓Z_X3_asksFor_28, ↓Z_X3_asksFor_29, ↓Z_X3_asksFor_30, ↓Z_X3_asksFor_31, ↓Z_X3_asksFor_32, ↓Z_X3_asksFor_35, ↓Z_X3_asksFor_36, ↓Z_X3_asksFor_37, ↓Z_X3_asksFor_39, ↓Z_X3_asksFor_41, ↓Z_X3_asksFor_42, ↓Z_X3_asksFor_45, ↓Z_X3_asksFor_46, ↓Z_X3_asksFor_47, ↓Z_X3_asksFor_48, ↓Z_X3_asksFor_50, ↓Z_X3_asksFor_53, ↓Z_X3_asksFor_56, ↓Z_X3_asksFor_57, ↓Z_X3_asksFor_60, ↓Z_X3_asksFor_61, ↓Z_X3_asksFor_62, ↓Z_X3_asksFor_63, ↓Z_X3_asksFor_65, ↓Z_X3_asksFor_66, ↓Z_X3_asksFor_69, ↓reduceIte, ↓zrun_stop, ↓zrun_step, ↓zb2_i, ↓zb1_i, ↓zldi_0, ↓zldi_s, ↓zlda_0, ↓zlda_n, ↓zlda_s, ↓zsc_0, ↓zsc_s, ↓zsti_c, ↓zsta_r, ↓zsta_n, ↓zic_0, ↓zic_s, ↓zpush_s, ↓zpush_n, ↓zfew_0, ↓zfew_i, ↓zfew_r, ↓zfew_n, ↓zMg'_58, ↓zMg'_61, ↓zMhp_iV, ↓zMl_1, ↓zMl_10, ↓zMl_11, ↓zMl_12, ↓zMl_13, ↓zMl_14, ↓zMl_15, ↓zMl_16, ↓zMl_17, ↓zMl_18, ↓zMl_2, ↓zMl_3, ↓zMl_4, ↓zMl_5, ↓zMl_6, ↓zMl_7, ↓zMl_8, ↓zMl_9, ↓zMs_1, ↓zMs_10, ↓zMs_11, ↓zMs_12, ↓zMs_13, ↓zMs_14, ↓zMs_15, ↓zMs_16, ↓zMs_17, ↓zMs_18, ↓zMs_2, ↓zMs_3, ↓zMs_4, ↓zMs_5, ↓zMs_6, ↓zMs_7, ↓zMs_8, ↓zMs_9, ↓CC_X3_asksFor_468, ↓CC_X3_asksFor_471, ↓TE_X3_bestTool, ↓TE_X3_isRather, zcat_int, zcat_ref, zcat_null, zret_int, zret_b0, zret_b1, zret_b, Nat.reduceAdd, Nat.reduceSub, Nat.reduceLT, Nat.reduceEqDiff, Nat.reduceBEq, Nat.reduceBNe, true_and, and_true, if_true, if_false, Bool.false_eq_true, Bool.true_eq_false, Bool.or_self, Bool.or_false, Bool.or_true, Bool.false_or, Bool.true_or, zbi_e0, zbi_e1, eq_self, reduceCtorEq, Fin.isValue, zent, List.map_cons, List.map_nil, List.length_cons, List.length_nil, List.replicate, List.cons_append, List.nil_append, List.append_nil, Nat.zero_add, Nat.add_zero, zF_1, zF_2, zA_1, zA_2s, zA_2n, zB_1, zB_2s, zB_2n, not_true_eq_false, not_false_eq_true, Int32.reduceLT, Int32.reduceAdd, Int32.reduceSub, Int32.reduceMul, ne_eq, Int32.reduceToNatClampNeg, zlit_vp, nI_al, nI_la, nI_lm, nI_ml, nI_ltl, nI_llt, nI_eql, nI_lt2, nI_eq2, nI_vp, nI_cl, nI_add, pk_mul, nI_divl, nI_sub2, nI_lsub, nI_ne0l, nI_1, nI_pred, pk_m1, upd_s, upd_n, Nat.lt_irrefl, decide_eq_false_iff_not, decide_eq_true_eq, ite_not, ite_self, Nat.reducePow, Nat.reduceMul, c1, c2, c4, c5, eO, hwu, e, zC_2n, zC_A, zA_2n, zC_C]
              intro q q2
              refine ih _ _ ?_ (Or.inr (vp_in_nI hO (by decide))) ?_ ?_ ?_ _ _
              · rw [zA_B, zA_B]; exact ((hz.B (by decide) (by decide) (by decide) (by decide)).B (by decide) (by decide) (by decide) (by decide)).C
              · exact yman_u hy hmm
              · exact Nat.lt_of_lt_of_le hl2 (by omega)
              · rw [hu1] at hE; exact hE
  refine zgo hm hc (fun q => q == 2) 40 ?_
  simp (config := {decide := true, maxSteps := 1000000}) (disch := first | rfl | decide | omega) only [↓Z_X3_asksFor_0, ↓Z_X3_asksFor_1, ↓Z_X3_asksFor_2, ↓Z_X3_asksFor_3, ↓Z_X3_asksFor_4, ↓Z_X3_asksFor_7, ↓Z_X3_asksFor_8, ↓Z_X3_asksFor_9, ↓Z_X3_asksFor_12, ↓Z_X3_asksFor_13, ↓Z_X3_asksFor_14, ↓Z_X3_asksFor_15, ↓Z_X3_asksFor_18, ↓Z_X3_asksFor_19, ↓Z_X3_asksFor_20, ↓Z_X3_asksFor_23, ↓Z_X3_asksFor_24, ↓Z_X3_asksFor_25, ↓Z_X3_asksFor_26, ↓Z_X3_asksFor_27, ↓Z_X3_asksFor_28, ↓Z_X3_asksFor_29, ↓Z_X3_asksFor_30, ↓Z_X3_asksFor_31, ↓Z_X3_asksFor_32, ↓Z_X3_asksFor_35, ↓Z_X3_asksFor_36, ↓Z_X3_asksFor_37, ↓Z_X3_asksFor_39, ↓Z_X3_asksFor_41, ↓Z_X3_asksFor_42, ↓Z_X3_asksFor_45, ↓Z_X3_asksFor_46, ↓Z_X3_asksFor_47, ↓Z_X3_asksFor_48, ↓Z_X3_asksFor_50, ↓Z_X3_asksFor_53, ↓Z_X3_asksFor_56, ↓Z_X3_asksFor_57, ↓Z_X3_asksFor_60, ↓Z_X3_asksFor_61, ↓Z_X3_asksFor_62, ↓Z_X3_asksFor_63, ↓Z_X3_asksFor_65, ↓Z_X3_asksFor_66, ↓Z_X3_asksFor_69, ↓reduceIte, ↓zrun_stop, ↓zrun_step, ↓zb2_i, ↓zb1_i, ↓zldi_0, ↓zldi_s, ↓zlda_0, ↓zlda_n, ↓zlda_s, ↓zsc_0, ↓zsc_s, ↓zsti_c, ↓zsta_r, ↓zsta_n, ↓zic_0, ↓zic_s, ↓zpush_s, ↓zpush_n, ↓zfew_0, ↓zfew_i, ↓zfew_r, ↓zfew_n, ↓zMg'_58, ↓zMg'_61, ↓zMhp_iV, ↓zMl_1, ↓zMl_10, ↓zMl_11, ↓zMl_12, ↓zMl_13, ↓zMl_14, ↓zMl_15, ↓zMl_16, ↓zMl_17, ↓zMl_18, ↓zMl_2, ↓zMl_3, ↓zMl_4, ↓zMl_5, ↓zMl_6, ↓zMl_7, ↓zMl_8, ↓zMl_9, ↓zMs_1, ↓zMs_10, ↓zMs_11, ↓zMs_12, ↓zMs_13, ↓zMs_14, ↓zMs_15, ↓zMs_16, ↓zMs_17, ↓zMs_18, ↓zMs_2, ↓zMs_3, ↓zMs_4, ↓zMs_5, ↓zMs_6, ↓zMs_7, ↓zMs_8, ↓zMs_9, ↓CC_X3_asksFor_468, ↓CC_X3_asksFor_471, ↓TE_X3_bestTool, ↓TE_X3_isRather, zcat_int, zcat_ref, zcat_null, zret_int, zret_b0, zret_b1, zret_b, Nat.reduceAdd, Nat.reduceSub, Nat.reduceLT, Nat.reduceEqDiff, Nat.reduceBEq, Nat.reduceBNe, true_and, and_true, if_true, if_false, Bool.false_eq_true, Bool.true_eq_false, Bool.or_self, Bool.or_false, Bool.or_true, Bool.false_or, Bool.true_or, zbi_e0, zbi_e1, eq_self, reduceCtorEq, Fin.isValue, zent, List.map_cons, List.map_nil, List.length_cons, List.length_nil, List.replicate, List.cons_append, List.nil_append, List.append_nil, Nat.zero_add, Nat.add_zero, zF_1, zF_2, zA_1, zA_2s, zA_2n, zB_1, zB_2s, zB_2n, not_true_eq_false, not_false_eq_true, Int32.reduceLT, Int32.reduceAdd, Int32.reduceSub, Int32.reduceMul, ne_eq, Int32.reduceToNatClampNeg, zlit_vp, nI_al, nI_la, nI_lm, nI_ml, nI_ltl, nI_llt, nI_eql, nI_lt2, nI_eq2, nI_vp, nI_cl, nI_add, pk_mul, nI_divl, nI_sub2, nI_lsub, nI_ne0l, nI_1, nI_pred, pk_m1, upd_s, upd_n, Nat.lt_irrefl, decide_eq_false_iff_not, decide_eq_true_eq, ite_not, ite_self, Nat.reducePow, Nat.reduceMul]
  have hle := yleft_le (ask := s.2 16)
  exact loop 33 m s zes.rf (Or.inr h4) hman (by omega) hR _ _
theorem MS_X3_asksFor {l : Launch} {E : zEnv} {b0 : Nat} : zMS l E b0 7 yX3_asksFor (ws_ yX3_asksFor cX3_asksFor 5 none) 0 0 (zlV E T_X3_asksFor) := by
  refine zM_MS (Γ := G_X3_asksFor) rfl (zΓok_cons (IM_X3_bestTool (by decide)) (zΓok_cons (IM_X3_isRather (by decide)) zΓok_nil)) (fun as s K h => ?_) ?_
  · have h1 := zx1_a as s K h
    exact ⟨by rw [h1.1]; decide, h1.2⟩
  · intro b as s K hT S hm hc
    have h0 := hT
    unfold T_X3_asksFor zx1 at h0
    split at h0
    · exact B_X3_asksFor b _ s K hT S hm hc
    · exact h0.elim
theorem IM_X3_asksFor {l : Launch} {E : zEnv} {b0 d0 : Nat} (hd : 7 + 1 ≤ d0) : zΓokq l E b0 d0 (474, true, 1, T_X3_asksFor) := ⟨zx1_m, (fun _ => zInv.V MS_X3_asksFor hd (by decide) (lw_V q1980 q1982 qs148 q158 q1983) (by decide +kernel) rfl rfl), fun h => nomatch h⟩
