/-! ToolUnionModel: a law is read -/
theorem yLine_lt {tp : Nat → Int32} {n : Nat} {rd : Int32} {l p : Nat} {ln : yLn} {q : Nat} (h : yLine tp n rd l p = .inr (ln, q)) : p + 1 ≤ q ∧ q ≤ n ∧ l ≠ 16 := by
  unfold yLine at h
  split at h
  · cases h
  · rename_i c
    have hlt := ykind_lt (tp := tp) (n := n) (rd := rd) (p := p) (by intro e; rw [e] at c; exact c (by decide))
    have hx := yX_le (tp := tp) hlt
    split at h
    · cases h
    · rename_i cl
      split at h
      · cases h
      · rename_i c1 q1 e1
        have s1 : yX tp n p + c1.length ≤ q1 ∧ q1 ≤ n := by
          split at e1
          · exact ySum_sh hx.2 _ _ e1
          · cases e1; exact ⟨Nat.le_refl _, hx.2⟩
        split at h
        · cases h
        · rename_i c2 q2 e2
          have s2 : q1 ≤ q2 ∧ q2 ≤ n := by
            split at e2
            · rename_i k3
              have hx2 := yX_le (tp := tp) (ykind_lt (tp := tp) (n := n) (rd := rd) (p := q1) (by rw [k3]; decide))
              have := yAny_sh (yTest_sh 8) hx2.2 _ _ e2
              omega
            · cases e2; exact ⟨Nat.le_refl _, s1.2⟩
          split at h
          · rename_i k4
            have hx3 := yX_le (tp := tp) (ykind_lt (tp := tp) (n := n) (rd := rd) (p := q2) (by rw [k4]; decide))
            cases h
            exact ⟨by omega, by omega, cl⟩
          · cases h
def yLaw (tp : Nat → Int32) (n : Nat) (rd : Int32) : Nat → Nat → Nat → (Int32 × Nat) ⊕ List yLn
  | 0, _, _ => .inr []
  | f + 1, l, p => if ykind tp n rd p = 0 then .inr [] else match yLine tp n rd l p with
    | .inl e => .inl e
    | .inr (ln, q) => match yLaw tp n rd f (l + 1) q with
      | .inl e => .inl e
      | .inr L => .inr (ln :: L)
def ytot : List yLn → Nat
  | [] => 0
  | ln :: t => ln.2.1.length + ln.2.2.length + ytot t
theorem ytot_app : ∀ (L M : List yLn), ytot (L ++ M) = ytot L + ytot M
  | [], M => by show ytot M = 0 + ytot M; omega
  | ln :: t, M => by
    have := ytot_app t M
    show ln.2.1.length + ln.2.2.length + ytot (t ++ M) = ln.2.1.length + ln.2.2.length + ytot t + ytot M
    omega
/-- where line i's steps begin -/
def yfrom (L : List yLn) (i : Nat) : Nat := ytot (L.take i)
theorem yfrom_le {L : List yLn} {i : Nat} {ln : yLn} (h : L[i]? = some ln) : yfrom L i + ln.2.1.length + ln.2.2.length ≤ ytot L := by
  have hi := (List.getElem?_eq_some_iff.mp h).1
  have e : L = L.take i ++ (ln :: L.drop (i + 1)) := by
    have h2 := (List.getElem?_eq_some_iff.mp h).2
    rw [← h2]
    simp
  have := congrArg ytot e
  rw [ytot_app] at this
  have h3 : ytot (ln :: L.drop (i + 1)) = ln.2.1.length + ln.2.2.length + ytot (L.drop (i + 1)) := rfl
  unfold yfrom
  omega
theorem yfrom_app {L M : List yLn} {i : Nat} (h : i ≤ L.length) : yfrom (L ++ M) i = yfrom L i := by
  unfold yfrom
  rw [List.take_append_of_le_length h]
theorem yfrom_all {L : List yLn} : yfrom L L.length = ytot L := by
  unfold yfrom
  rw [List.take_length]
/-- the lines of L are laid -/
def ylined (u : zM) (L : List yLn) : Prop := u.1 13 = nI L.length ∧ L.length ≤ 16 ∧ u.1 14 = nI (ytot L) ∧ ytot L ≤ 400 ∧ (∀ i ln, L[i]? = some ln → u.2 5 (4 * i) = nI (yfrom L i) ∧ u.2 5 (4 * i + 1) = nI (yfrom L i + ln.2.1.length) ∧ u.2 5 (4 * i + 2) = nI (yfrom L i + ln.2.1.length + ln.2.2.length) ∧ u.2 5 (4 * i + 3) = ln.1) ∧ ∀ i ln, L[i]? = some ln → ∀ j a, (ln.2.1 ++ ln.2.2)[j]? = some a → ysim1 a (u.2 6 (2 * (yfrom L i + j)), u.2 6 (2 * (yfrom L i + j) + 1))
theorem ylined.add {u v : zM} {L : List yLn} {ln : yLn} {q : Nat} (h : ylined u L) (hl : L.length ≠ 16) (hq : q ≤ 400) (g : yLQ L.length (.inr (ln, q)) u v) : ylined (zF v 13 (nI (L.length + 1))) (L ++ [ln]) := by
  obtain ⟨a1, a2, a3, a0, a4, a5⟩ := h
  obtain ⟨b1, b2, b3, b4, ⟨k, c1, c2, c3, c4, c5⟩, k', d1, d2, d3⟩ := g
  have hk : k = ytot L := by
    rw [a3] at c1
    exact ((nI_eq (by omega) (by omega)).mp c1).symm
  have hk' : k' = ytot L := by
    rw [a3] at d1
    have hd2 : k' ≤ 400 := by omega
    exact ((nI_eq (by omega) (by omega)).mp d1).symm
  subst hk
  subst hk'
  have et : ytot (L ++ [ln]) = ytot L + (ln.2.1.length + ln.2.2.length) := by
    rw [ytot_app]
    rfl
  have d2 : ytot L + ln.2.1.length + ln.2.2.length ≤ q := d2
  refine ⟨by rw [List.length_append]; rfl, by rw [List.length_append]; show L.length + 1 ≤ 16; omega, ?_, by omega, ?_, ?_⟩
  · show v.1 14 = _
    rw [c3, et, List.length_append]
  · intro i x hx
    show v.2 5 (4 * i) = _ ∧ v.2 5 (4 * i + 1) = _ ∧ v.2 5 (4 * i + 2) = _ ∧ v.2 5 (4 * i + 3) = _
    rw [d3]
    by_cases l : i < L.length
    · rw [List.getElem?_append_left l] at hx
      rw [yfrom_app (by omega)]
      obtain ⟨e1, e2, e3, e4⟩ := a4 i x hx
      refine ⟨?_, ?_, ?_, ?_⟩
      · rw [upd_n (by omega), upd_n (by omega), upd_n (by omega), upd_n (by omega)]; exact e1
      · rw [upd_n (by omega), upd_n (by omega), upd_n (by omega), upd_n (by omega)]; exact e2
      · rw [upd_n (by omega), upd_n (by omega), upd_n (by omega), upd_n (by omega)]; exact e3
      · rw [upd_n (by omega), upd_n (by omega), upd_n (by omega), upd_n (by omega)]; exact e4
    · rw [List.getElem?_append_right (by omega)] at hx
      have hi : i = L.length := by
        have := (List.getElem?_eq_some_iff.mp hx).1
        simp at this
        omega
      subst hi
      rw [Nat.sub_self] at hx
      cases hx
      rw [yfrom_app (Nat.le_refl _), yfrom_all]
      refine ⟨?_, ?_, ?_, ?_⟩
      · rw [upd_n (by omega), upd_n (by omega), upd_s]
      · rw [upd_n (by omega), upd_s]
      · rw [upd_s]
      · rw [upd_n (by omega), upd_n (by omega), upd_n (by omega), upd_s]
  · intro i x hx j a hj
    show ysim1 a (v.2 6 _, v.2 6 _)
    by_cases l : i < L.length
    · rw [List.getElem?_append_left l] at hx
      rw [yfrom_app (by omega)]
      have h1 := yfrom_le hx
      have h2 := (List.getElem?_eq_some_iff.mp hj).1
      rw [List.length_append] at h2
      rw [c4 _ (by omega), c4 _ (by omega)]
      exact a5 i x hx j a hj
    · rw [List.getElem?_append_right (by omega)] at hx
      have hi : i = L.length := by
        have := (List.getElem?_eq_some_iff.mp hx).1
        simp at this
        omega
      subst hi
      rw [Nat.sub_self] at hx
      cases hx
      rw [yfrom_app (Nat.le_refl _), yfrom_all]
      exact c5 j a hj
/-- what a law's reading leaves -/
def yLawQ (r : (Int32 × Nat) ⊕ List yLn) (s u : zM) : Prop := match r with
  | .inl (k, q) => yfl s u ∧ u.1 21 = k ∧ u.1 22 = nI q
  | .inr L => yfl s u ∧ ylined u L
def T_X3_readsLaw : zT zM := zx0 (fun s => ypar s ∧ (s.1 12 = 0 ∨ s.1 12 = 1)) (fun s => some (.int (zbi (yLb (yLaw (s.2 8) (yN s) (s.1 12) 402 0 (yp s)))))) (fun s u => yLawQ (yLaw (s.2 8) (yN s) (s.1 12) 402 0 (yp s)) s u)
abbrev G_X3_readsLaw : zΓ zM := [(262, true, 0, T_X3_aLine)]
theorem Z_X3_readsLaw_0 {σ : Type} {ret : Option FieldType} {hp : Instr → List Value → σ → (List Value → σ → Prop) → Prop} {K : Option Value → σ → Prop} {S : Nat → zL → List Value → σ → Prop} {L : zL} {s : σ} {st : List Value} : zone ret hp K cX3_readsLaw S 0 L st s = (zlda L 0 fun v => S 1 L (v :: st) s) := zone_of dX3_readsLaw_0 rfl
theorem Z_X3_readsLaw_1 {σ : Type} {ret : Option FieldType} {hp : Instr → List Value → σ → (List Value → σ → Prop) → Prop} {K : Option Value → σ → Prop} {S : Nat → zL → List Value → σ → Prop} {L : zL} {s : σ} {st : List Value} : zone ret hp K cX3_readsLaw S 1 L st s = (S 2 L (.int 0 :: st) s) := zone_iconst dX3_readsLaw_1 (by decide)
theorem Z_X3_readsLaw_2 {σ : Type} {ret : Option FieldType} {hp : Instr → List Value → σ → (List Value → σ → Prop) → Prop} {K : Option Value → σ → Prop} {S : Nat → zL → List Value → σ → Prop} {L : zL} {s : σ} {st : List Value} : zone ret hp K cX3_readsLaw S 2 L st s = (hp (.putfield 259) st s (fun st' s' => S 5 L st' s')) := zone_of dX3_readsLaw_2 rfl
theorem Z_X3_readsLaw_5 {σ : Type} {ret : Option FieldType} {hp : Instr → List Value → σ → (List Value → σ → Prop) → Prop} {K : Option Value → σ → Prop} {S : Nat → zL → List Value → σ → Prop} {L : zL} {s : σ} {st : List Value} : zone ret hp K cX3_readsLaw S 5 L st s = (zlda L 0 fun v => S 6 L (v :: st) s) := zone_of dX3_readsLaw_5 rfl
theorem Z_X3_readsLaw_6 {σ : Type} {ret : Option FieldType} {hp : Instr → List Value → σ → (List Value → σ → Prop) → Prop} {K : Option Value → σ → Prop} {S : Nat → zL → List Value → σ → Prop} {L : zL} {s : σ} {st : List Value} : zone ret hp K cX3_readsLaw S 6 L st s = (S 7 L (.int 0 :: st) s) := zone_iconst dX3_readsLaw_6 (by decide)
theorem Z_X3_readsLaw_7 {σ : Type} {ret : Option FieldType} {hp : Instr → List Value → σ → (List Value → σ → Prop) → Prop} {K : Option Value → σ → Prop} {S : Nat → zL → List Value → σ → Prop} {L : zL} {s : σ} {st : List Value} : zone ret hp K cX3_readsLaw S 7 L st s = (hp (.putfield 224) st s (fun st' s' => S 10 L st' s')) := zone_of dX3_readsLaw_7 rfl
theorem Z_X3_readsLaw_10 {σ : Type} {ret : Option FieldType} {hp : Instr → List Value → σ → (List Value → σ → Prop) → Prop} {K : Option Value → σ → Prop} {S : Nat → zL → List Value → σ → Prop} {L : zL} {s : σ} {st : List Value} : zone ret hp K cX3_readsLaw S 10 L st s = (S 11 L (.int 1 :: st) s) := zone_iconst dX3_readsLaw_10 (by decide)
theorem Z_X3_readsLaw_11 {σ : Type} {ret : Option FieldType} {hp : Instr → List Value → σ → (List Value → σ → Prop) → Prop} {K : Option Value → σ → Prop} {S : Nat → zL → List Value → σ → Prop} {L : zL} {s : σ} {st : List Value} : zone ret hp K cX3_readsLaw S 11 L st s = (zsti L 1 st fun q r => S 12 q r s) := zone_of dX3_readsLaw_11 rfl
theorem Z_X3_readsLaw_12 {σ : Type} {ret : Option FieldType} {hp : Instr → List Value → σ → (List Value → σ → Prop) → Prop} {K : Option Value → σ → Prop} {S : Nat → zL → List Value → σ → Prop} {L : zL} {s : σ} {st : List Value} : zone ret hp K cX3_readsLaw S 12 L st s = (zldi L 1 fun v => S 13 L (v :: st) s) := zone_of dX3_readsLaw_12 rfl
theorem Z_X3_readsLaw_13 {σ : Type} {ret : Option FieldType} {hp : Instr → List Value → σ → (List Value → σ → Prop) → Prop} {K : Option Value → σ → Prop} {S : Nat → zL → List Value → σ → Prop} {L : zL} {s : σ} {st : List Value} : zone ret hp K cX3_readsLaw S 13 L st s = (zb1 st fun x r => if x = 0 then S 49 L r s else S 16 L r s) := zone_if_eq dX3_readsLaw_13 (by decide)
theorem Z_X3_readsLaw_16 {σ : Type} {ret : Option FieldType} {hp : Instr → List Value → σ → (List Value → σ → Prop) → Prop} {K : Option Value → σ → Prop} {S : Nat → zL → List Value → σ → Prop} {L : zL} {s : σ} {st : List Value} : zone ret hp K cX3_readsLaw S 16 L st s = (zlda L 0 fun v => S 17 L (v :: st) s) := zone_of dX3_readsLaw_16 rfl
theorem Z_X3_readsLaw_17 {σ : Type} {ret : Option FieldType} {hp : Instr → List Value → σ → (List Value → σ → Prop) → Prop} {K : Option Value → σ → Prop} {S : Nat → zL → List Value → σ → Prop} {L : zL} {s : σ} {st : List Value} : zone ret hp K cX3_readsLaw S 17 L st s = (hp (.getfield 197) st s (fun st' s' => S 20 L st' s')) := zone_of dX3_readsLaw_17 rfl
theorem Z_X3_readsLaw_20 {σ : Type} {ret : Option FieldType} {hp : Instr → List Value → σ → (List Value → σ → Prop) → Prop} {K : Option Value → σ → Prop} {S : Nat → zL → List Value → σ → Prop} {L : zL} {s : σ} {st : List Value} : zone ret hp K cX3_readsLaw S 20 L st s = (zb1 st fun x r => if x = 0 then S 49 L r s else S 23 L r s) := zone_if_eq dX3_readsLaw_20 (by decide)
theorem Z_X3_readsLaw_23 {σ : Type} {ret : Option FieldType} {hp : Instr → List Value → σ → (List Value → σ → Prop) → Prop} {K : Option Value → σ → Prop} {S : Nat → zL → List Value → σ → Prop} {L : zL} {s : σ} {st : List Value} : zone ret hp K cX3_readsLaw S 23 L st s = (zlda L 0 fun v => S 24 L (v :: st) s) := zone_of dX3_readsLaw_23 rfl
theorem Z_X3_readsLaw_24 {σ : Type} {ret : Option FieldType} {hp : Instr → List Value → σ → (List Value → σ → Prop) → Prop} {K : Option Value → σ → Prop} {S : Nat → zL → List Value → σ → Prop} {L : zL} {s : σ} {st : List Value} : zone ret hp K cX3_readsLaw S 24 L st s = (hp (.invokevirtual 262) st s (fun st' s' => S 27 L st' s')) := zone_of dX3_readsLaw_24 rfl
theorem Z_X3_readsLaw_27 {σ : Type} {ret : Option FieldType} {hp : Instr → List Value → σ → (List Value → σ → Prop) → Prop} {K : Option Value → σ → Prop} {S : Nat → zL → List Value → σ → Prop} {L : zL} {s : σ} {st : List Value} : zone ret hp K cX3_readsLaw S 27 L st s = (zsti L 1 st fun q r => S 28 q r s) := zone_of dX3_readsLaw_27 rfl
theorem Z_X3_readsLaw_28 {σ : Type} {ret : Option FieldType} {hp : Instr → List Value → σ → (List Value → σ → Prop) → Prop} {K : Option Value → σ → Prop} {S : Nat → zL → List Value → σ → Prop} {L : zL} {s : σ} {st : List Value} : zone ret hp K cX3_readsLaw S 28 L st s = (zlda L 0 fun v => S 29 L (v :: st) s) := zone_of dX3_readsLaw_28 rfl
theorem Z_X3_readsLaw_29 {σ : Type} {ret : Option FieldType} {hp : Instr → List Value → σ → (List Value → σ → Prop) → Prop} {K : Option Value → σ → Prop} {S : Nat → zL → List Value → σ → Prop} {L : zL} {s : σ} {r : List Value} {x : Value} : zone ret hp K cX3_readsLaw S 29 L (x :: r) s = (x.category = 1 ∧ S 30 L (x :: x :: r) s) := zone_of dX3_readsLaw_29 rfl
theorem Z_X3_readsLaw_30 {σ : Type} {ret : Option FieldType} {hp : Instr → List Value → σ → (List Value → σ → Prop) → Prop} {K : Option Value → σ → Prop} {S : Nat → zL → List Value → σ → Prop} {L : zL} {s : σ} {st : List Value} : zone ret hp K cX3_readsLaw S 30 L st s = (hp (.getfield 259) st s (fun st' s' => S 33 L st' s')) := zone_of dX3_readsLaw_30 rfl
theorem Z_X3_readsLaw_33 {σ : Type} {ret : Option FieldType} {hp : Instr → List Value → σ → (List Value → σ → Prop) → Prop} {K : Option Value → σ → Prop} {S : Nat → zL → List Value → σ → Prop} {L : zL} {s : σ} {st : List Value} : zone ret hp K cX3_readsLaw S 33 L st s = (zldi L 1 fun v => S 34 L (v :: st) s) := zone_of dX3_readsLaw_33 rfl
theorem Z_X3_readsLaw_34 {σ : Type} {ret : Option FieldType} {hp : Instr → List Value → σ → (List Value → σ → Prop) → Prop} {K : Option Value → σ → Prop} {S : Nat → zL → List Value → σ → Prop} {L : zL} {s : σ} {st : List Value} : zone ret hp K cX3_readsLaw S 34 L st s = (zb1 st fun x r => if x = 0 then S 41 L r s else S 37 L r s) := zone_if_eq dX3_readsLaw_34 (by decide)
theorem Z_X3_readsLaw_37 {σ : Type} {ret : Option FieldType} {hp : Instr → List Value → σ → (List Value → σ → Prop) → Prop} {K : Option Value → σ → Prop} {S : Nat → zL → List Value → σ → Prop} {L : zL} {s : σ} {st : List Value} : zone ret hp K cX3_readsLaw S 37 L st s = (S 38 L (.int 1 :: st) s) := zone_iconst dX3_readsLaw_37 (by decide)
theorem Z_X3_readsLaw_38 {σ : Type} {ret : Option FieldType} {hp : Instr → List Value → σ → (List Value → σ → Prop) → Prop} {K : Option Value → σ → Prop} {S : Nat → zL → List Value → σ → Prop} {L : zL} {s : σ} {st : List Value} : zone ret hp K cX3_readsLaw S 38 L st s = (S 42 L st s) := zone_goto dX3_readsLaw_38 (by decide)
theorem Z_X3_readsLaw_41 {σ : Type} {ret : Option FieldType} {hp : Instr → List Value → σ → (List Value → σ → Prop) → Prop} {K : Option Value → σ → Prop} {S : Nat → zL → List Value → σ → Prop} {L : zL} {s : σ} {st : List Value} : zone ret hp K cX3_readsLaw S 41 L st s = (S 42 L (.int 0 :: st) s) := zone_iconst dX3_readsLaw_41 (by decide)
theorem Z_X3_readsLaw_42 {σ : Type} {ret : Option FieldType} {hp : Instr → List Value → σ → (List Value → σ → Prop) → Prop} {K : Option Value → σ → Prop} {S : Nat → zL → List Value → σ → Prop} {L : zL} {s : σ} {st : List Value} : zone ret hp K cX3_readsLaw S 42 L st s = (zb2 st fun x y r => S 43 L (.int (x + y) :: r) s) := zone_of dX3_readsLaw_42 rfl
theorem Z_X3_readsLaw_43 {σ : Type} {ret : Option FieldType} {hp : Instr → List Value → σ → (List Value → σ → Prop) → Prop} {K : Option Value → σ → Prop} {S : Nat → zL → List Value → σ → Prop} {L : zL} {s : σ} {st : List Value} : zone ret hp K cX3_readsLaw S 43 L st s = (hp (.putfield 259) st s (fun st' s' => S 46 L st' s')) := zone_of dX3_readsLaw_43 rfl
theorem Z_X3_readsLaw_46 {σ : Type} {ret : Option FieldType} {hp : Instr → List Value → σ → (List Value → σ → Prop) → Prop} {K : Option Value → σ → Prop} {S : Nat → zL → List Value → σ → Prop} {L : zL} {s : σ} {st : List Value} : zone ret hp K cX3_readsLaw S 46 L st s = (S 12 L st s) := zone_goto dX3_readsLaw_46 (by decide)
theorem Z_X3_readsLaw_49 {σ : Type} {ret : Option FieldType} {hp : Instr → List Value → σ → (List Value → σ → Prop) → Prop} {K : Option Value → σ → Prop} {S : Nat → zL → List Value → σ → Prop} {L : zL} {s : σ} {st : List Value} : zone ret hp K cX3_readsLaw S 49 L st s = (zldi L 1 fun v => S 50 L (v :: st) s) := zone_of dX3_readsLaw_49 rfl
theorem Z_X3_readsLaw_50 {σ : Type} {ret : Option FieldType} {hp : Instr → List Value → σ → (List Value → σ → Prop) → Prop} {K : Option Value → σ → Prop} {S : Nat → zL → List Value → σ → Prop} {L : zL} {s : σ} {v : Int32} : zone ret hp K cX3_readsLaw S 50 L [.int v] s = (zretI ret v ∧ K (some (.int v)) s) := zone_of dX3_readsLaw_50 rfl
theorem CC_X3_readsLaw_262 {b : Nat} {r : List Value} {s : zM} {k : List Value → zM → Prop} : zcallV b G_X3_readsLaw 262 (.ref b :: r) s k = (zfew r 8 = true ∧ T_X3_aLine [] s (fun v s' => zpush v r (fun q => k q s'))) := zcV_n rfl rfl
theorem TE_X3_readsLaw {s : zM} {K : Option Value → zM → Prop} : T_X3_readsLaw [] s K = ((fun s => ypar s ∧ (s.1 12 = 0 ∨ s.1 12 = 1))  s ∧ ∀ u9 : zM, (fun s u => yLawQ (yLaw (s.2 8) (yN s) (s.1 12) 402 0 (yp s)) s u)  s u9 → K ((fun s => some (.int (zbi (yLb (yLaw (s.2 8) (yN s) (s.1 12) 402 0 (yp s))))))  s) u9) := rfl
set_option maxRecDepth 100000 in
set_option maxHeartbeats 4000000 in
theorem B_X3_readsLaw {E : zEnv} (b : Nat) (s : zM) (K : Option Value → zM → Prop) (hT : T_X3_readsLaw [] s K) (S : Nat → zL → List Value → zM → Prop) (hm : zMono (zMhp E b G_X3_readsLaw)) (hc : zClosed (some .boolean) (zMhp E b G_X3_readsLaw) K cX3_readsLaw S) : S 0 [some (.ref b), none] [] s := by
  obtain ⟨⟨hP, hrd⟩, hK⟩ := hT
  dsimp only at hK
  have hn4 := hP.1.2.1
  have loop : ∀ f : Nat, ∀ u : zM, ∀ L : List yLn, yfl s u → ypre u → ylined u L → yN s < yp u + f →
      (∀ v, yLawQ (match yLaw (s.2 8) (yN s) (s.1 12) f L.length (yp u) with | .inl e => .inl e | .inr M => .inr (L ++ M)) s v → K (some (.int (zbi (yLb (match yLaw (s.2 8) (yN s) (s.1 12) f L.length (yp u) with | .inl e => (.inl e : (Int32 × Nat) ⊕ List yLn) | .inr M => .inr (L ++ M)))))) v) →
      S 12 [some (.ref b), some (.int 1)] [] u := by
    intro f
    induction f with
    | zero =>
      intro u L h1 h2 h3 h4
      have hN : yN u = yN s := by unfold yN; rw [h1.2 16 (by omega) (by omega) (by omega) (by omega) (by omega) (by omega) (by omega) (by omega) (by omega)]
      have := h2.1.2.2
      omega
    | succ f ih =>
      intro u L h1 h2 h3 h4 hK
      have hN : yN u = yN s := by unfold yN; rw [h1.2 16 (by omega) (by omega) (by omega) (by omega) (by omega) (by omega) (by omega) (by omega) (by omega)]
      have u8 : u.2 8 = s.2 8 := h1.1 8 (by omega) (by omega)
      have u12 : u.1 12 = s.1 12 := h1.2 12 (by omega) (by omega) (by omega) (by omega) (by omega) (by omega) (by omega) (by omega) (by omega)
      have u18 : u.1 18 = ykind (s.2 8) (yN s) (s.1 12) (yp u) := by rw [h2.1.2.1.2.2.1, u8, hN, u12]
      have u13 := h3.1
      have hL16 := h3.2.1
      have hcl : (nI L.length).toNatClampNeg = L.length := nI_clamp (by omega)
      unfold yLaw at hK
      rw [← u18] at hK
      by_cases c0 : u.1 18 = 0
      · rw [if_pos c0] at hK
        dsimp only at hK
        rw [List.append_nil] at hK
        refine zgo hm hc (fun q => q == 12) 60 ?_
        simp (config := {decide := true, maxSteps := 1000000}) (disch := first | rfl | decide | omega) only [↓Z_X3_readsLaw_0, ↓Z_X3_readsLaw_1, ↓Z_X3_readsLaw_2, ↓Z_X3_readsLaw_5, ↓Z_X3_readsLaw_6, ↓Z_X3_readsLaw_7, ↓Z_X3_readsLaw_10, ↓Z_X3_readsLaw_11, ↓Z_X3_readsLaw_12, ↓Z_X3_readsLaw_13, ↓Z_X3_readsLaw_16, ↓Z_X3_readsLaw_17, ↓Z_X3_readsLaw_20, ↓Z_X3_readsLaw_23, ↓Z_X3_readsLaw_24, ↓Z_X3_readsLaw_27, ↓Z_X3_readsLaw_28, ↓Z_X3_readsLaw_29, ↓Z_X3_readsLaw_30, ↓Z_X3_readsLaw_33, ↓Z_X3_readsLaw_34, ↓Z_X3_readsLaw_37, ↓Z_X3_readsLaw_38, ↓Z_X3_readsLaw_41, ↓Z_X3_readsLaw_42, ↓Z_X3_readsLaw_43, ↓Z_X3_readsLaw_46, ↓Z_X3_readsLaw_49, ↓Z_X3_readsLaw_50, ↓reduceIte, ↓zrun_stop, ↓zrun_step, ↓zb2_i, ↓zb1_i, ↓zldi_0, ↓zldi_s, ↓zlda_0, ↓zlda_n, ↓zlda_s, ↓zsc_0, ↓zsc_s, ↓zsti_c, ↓zsta_r, ↓zsta_n, ↓zic_0, ↓zic_s, ↓zpush_s, ↓zpush_n, ↓zfew_0, ↓zfew_i, ↓zfew_r, ↓zfew_n, ↓zMg'_197, ↓zMg'_259, ↓zMhp_iV, ↓zMp'_224, ↓zMp'_259, ↓CC_X3_readsLaw_262, ↓TE_X3_aLine, zcat_int, zcat_ref, zcat_null, zret_int, zret_b0, zret_b1, zret_b, Nat.reduceAdd, Nat.reduceSub, Nat.reduceLT, Nat.reduceEqDiff, Nat.reduceBEq, Nat.reduceBNe, true_and, and_true, if_true, if_false, Bool.false_eq_true, Bool.true_eq_false, Bool.or_self, Bool.or_false, Bool.or_true, Bool.false_or, Bool.true_or, zbi_e0, zbi_e1, eq_self, reduceCtorEq, Fin.isValue, zent, List.map_cons, List.map_nil, List.length_cons, List.length_nil, List.replicate, List.cons_append, List.nil_append, List.append_nil, Nat.zero_add, Nat.add_zero, zF_1, zF_2, zA_1, zA_2s, zA_2n, zB_1, zB_2s, zB_2n, not_true_eq_false, not_false_eq_true, Int32.reduceLT, Int32.reduceAdd, Int32.reduceSub, Int32.reduceMul, ne_eq, Int32.reduceToNatClampNeg, zlit_vp, nI_al, nI_la, nI_lm, nI_ml, nI_ltl, nI_llt, nI_eql, nI_lt2, nI_eq2, nI_vp, nI_cl, nI_add, pk_mul, nI_divl, nI_sub2, nI_lsub, nI_ne0l, nI_1, nI_pred, pk_m1, upd_s, upd_n, Nat.lt_irrefl, decide_eq_false_iff_not, decide_eq_true_eq, ite_not, ite_self, Nat.reducePow, Nat.reduceMul, c0]
        exact hK u ⟨h1, h3⟩
      · rw [if_neg c0] at hK
        have hpa : ypre u ∧ (u.1 12 = 0 ∨ u.1 12 = 1) ∧ ∃ l : Nat, u.1 13 = nI l ∧ l ≤ 16 := ⟨h2, by rw [u12]; exact hrd, _, u13, hL16⟩
        have hpa2 := hpa.2.1
        have hpa3 := hpa.2.2
        cases e : yLine (s.2 8) (yN s) (s.1 12) L.length (yp u) with
        | inl er =>
          rw [e] at hK
          dsimp only at hK
          refine zgo hm hc (fun q => q == 12) 60 ?_
          simp (config := {decide := true, maxSteps := 1000000}) (disch := first | rfl | decide | omega) only [↓Z_X3_readsLaw_0, ↓Z_X3_readsLaw_1, ↓Z_X3_readsLaw_2, ↓Z_X3_readsLaw_5, ↓Z_X3_readsLaw_6, ↓Z_X3_readsLaw_7, ↓Z_X3_readsLaw_10, ↓Z_X3_readsLaw_11, ↓Z_X3_readsLaw_12, ↓Z_X3_readsLaw_13, ↓Z_X3_readsLaw_16, ↓Z_X3_readsLaw_17, ↓Z_X3_readsLaw_20, ↓Z_X3_readsLaw_23, ↓Z_X3_readsLaw_24, ↓Z_X3_readsLaw_27, ↓Z_X3_readsLaw_28, ↓Z_X3_readsLaw_29, ↓Z_X3_readsLaw_30, ↓Z_X3_readsLaw_33, ↓Z_X3_readsLaw_34, ↓Z_X3_readsLaw_37, ↓Z_X3_readsLaw_38, ↓Z_X3_readsLaw_41, ↓Z_X3_readsLaw_42, ↓Z_X3_readsLaw_43, ↓Z_X3_readsLaw_46, ↓Z_X3_readsLaw_49, ↓Z_X3_readsLaw_50, ↓reduceIte, ↓zrun_stop, ↓zrun_step, ↓zb2_i, ↓zb1_i, ↓zldi_0, ↓zldi_s, ↓zlda_0, ↓zlda_n, ↓zlda_s, ↓zsc_0, ↓zsc_s, ↓zsti_c, ↓zsta_r, ↓zsta_n, ↓zic_0, ↓zic_s, ↓zpush_s, ↓zpush_n, ↓zfew_0, ↓zfew_i, ↓zfew_r, ↓zfew_n, ↓zMg'_197, ↓zMg'_259, ↓zMhp_iV, ↓zMp'_224, ↓zMp'_259, ↓CC_X3_readsLaw_262, ↓TE_X3_aLine, zcat_int, zcat_ref, zcat_null, zret_int, zret_b0, zret_b1, zret_b, Nat.reduceAdd, Nat.reduceSub, Nat.reduceLT, Nat.reduceEqDiff, Nat.reduceBEq, Nat.reduceBNe, true_and, and_true, if_true, if_false, Bool.false_eq_true, Bool.true_eq_false, Bool.or_self, Bool.or_false, Bool.or_true, Bool.false_or, Bool.true_or, zbi_e0, zbi_e1, eq_self, reduceCtorEq, Fin.isValue, zent, List.map_cons, List.map_nil, List.length_cons, List.length_nil, List.replicate, List.cons_append, List.nil_append, List.append_nil, Nat.zero_add, Nat.add_zero, zF_1, zF_2, zA_1, zA_2s, zA_2n, zB_1, zB_2s, zB_2n, not_true_eq_false, not_false_eq_true, Int32.reduceLT, Int32.reduceAdd, Int32.reduceSub, Int32.reduceMul, ne_eq, Int32.reduceToNatClampNeg, zlit_vp, nI_al, nI_la, nI_lm, nI_ml, nI_ltl, nI_llt, nI_eql, nI_lt2, nI_eq2, nI_vp, nI_cl, nI_add, pk_mul, nI_divl, nI_sub2, nI_lsub, nI_ne0l, nI_1, nI_pred, pk_m1, upd_s, upd_n, Nat.lt_irrefl, decide_eq_false_iff_not, decide_eq_true_eq, ite_not, ite_self, Nat.reducePow, Nat.reduceMul, c0, hpa.1, hpa2, hpa3, u13, hcl, u8, hN, u12, e, show yLb (.inl er : (Int32 × Nat) ⊕ (yLn × Nat)) = false from rfl]
          refine ⟨⟨hrd, _, rfl, hL16⟩, ?_⟩
          intro v hv
          refine zgo hm hc (fun _ => false) 60 ?_
          simp (config := {decide := true, maxSteps := 1000000}) (disch := first | rfl | decide | omega) only [↓Z_X3_readsLaw_0, ↓Z_X3_readsLaw_1, ↓Z_X3_readsLaw_2, ↓Z_X3_readsLaw_5, ↓Z_X3_readsLaw_6, ↓Z_X3_readsLaw_7, ↓Z_X3_readsLaw_10, ↓Z_X3_readsLaw_11, ↓Z_X3_readsLaw_12, ↓Z_X3_readsLaw_13, ↓Z_X3_readsLaw_16, ↓Z_X3_readsLaw_17, ↓Z_X3_readsLaw_20, ↓Z_X3_readsLaw_23, ↓Z_X3_readsLaw_24, ↓Z_X3_readsLaw_27, ↓Z_X3_readsLaw_28, ↓Z_X3_readsLaw_29, ↓Z_X3_readsLaw_30, ↓Z_X3_readsLaw_33, ↓Z_X3_readsLaw_34, ↓Z_X3_readsLaw_37, ↓Z_X3_readsLaw_38, ↓Z_X3_readsLaw_41, ↓Z_X3_readsLaw_42, ↓Z_X3_readsLaw_43, ↓Z_X3_readsLaw_46, ↓Z_X3_readsLaw_49, ↓Z_X3_readsLaw_50, ↓reduceIte, ↓zrun_stop, ↓zrun_step, ↓zb2_i, ↓zb1_i, ↓zldi_0, ↓zldi_s, ↓zlda_0, ↓zlda_n, ↓zlda_s, ↓zsc_0, ↓zsc_s, ↓zsti_c, ↓zsta_r, ↓zsta_n, ↓zic_0, ↓zic_s, ↓zpush_s, ↓zpush_n, ↓zfew_0, ↓zfew_i, ↓zfew_r, ↓zfew_n, ↓zMg'_197, ↓zMg'_259, ↓zMhp_iV, ↓zMp'_224, ↓zMp'_259, ↓CC_X3_readsLaw_262, ↓TE_X3_aLine, zcat_int, zcat_ref, zcat_null, zret_int, zret_b0, zret_b1, zret_b, Nat.reduceAdd, Nat.reduceSub, Nat.reduceLT, Nat.reduceEqDiff, Nat.reduceBEq, Nat.reduceBNe, true_and, and_true, if_true, if_false, Bool.false_eq_true, Bool.true_eq_false, Bool.or_self, Bool.or_false, Bool.or_true, Bool.false_or, Bool.true_or, zbi_e0, zbi_e1, eq_self, reduceCtorEq, Fin.isValue, zent, List.map_cons, List.map_nil, List.length_cons, List.length_nil, List.replicate, List.cons_append, List.nil_append, List.append_nil, Nat.zero_add, Nat.add_zero, zF_1, zF_2, zA_1, zA_2s, zA_2n, zB_1, zB_2s, zB_2n, not_true_eq_false, not_false_eq_true, Int32.reduceLT, Int32.reduceAdd, Int32.reduceSub, Int32.reduceMul, ne_eq, Int32.reduceToNatClampNeg, zlit_vp, nI_al, nI_la, nI_lm, nI_ml, nI_ltl, nI_llt, nI_eql, nI_lt2, nI_eq2, nI_vp, nI_cl, nI_add, pk_mul, nI_divl, nI_sub2, nI_lsub, nI_ne0l, nI_1, nI_pred, pk_m1, upd_s, upd_n, Nat.lt_irrefl, decide_eq_false_iff_not, decide_eq_true_eq, ite_not, ite_self, Nat.reducePow, Nat.reduceMul]
          refine hK _ ⟨?_, hv.2.1, hv.2.2⟩
          exact (h1.tr hv.1).F (by omega)
        | inr r =>
          obtain ⟨ln, q⟩ := r
          obtain ⟨l1, l2, l3⟩ := yLine_lt e
          rw [e] at hK
          dsimp only at hK
          refine zgo hm hc (fun q => q == 12) 60 ?_
          simp (config := {decide := true, maxSteps := 1000000}) (disch := first | rfl | decide | omega) only [↓Z_X3_readsLaw_0, ↓Z_X3_readsLaw_1, ↓Z_X3_readsLaw_2, ↓Z_X3_readsLaw_5, ↓Z_X3_readsLaw_6, ↓Z_X3_readsLaw_7, ↓Z_X3_readsLaw_10, ↓Z_X3_readsLaw_11, ↓Z_X3_readsLaw_12, ↓Z_X3_readsLaw_13, ↓Z_X3_readsLaw_16, ↓Z_X3_readsLaw_17, ↓Z_X3_readsLaw_20, ↓Z_X3_readsLaw_23, ↓Z_X3_readsLaw_24, ↓Z_X3_readsLaw_27, ↓Z_X3_readsLaw_28, ↓Z_X3_readsLaw_29, ↓Z_X3_readsLaw_30, ↓Z_X3_readsLaw_33, ↓Z_X3_readsLaw_34, ↓Z_X3_readsLaw_37, ↓Z_X3_readsLaw_38, ↓Z_X3_readsLaw_41, ↓Z_X3_readsLaw_42, ↓Z_X3_readsLaw_43, ↓Z_X3_readsLaw_46, ↓Z_X3_readsLaw_49, ↓Z_X3_readsLaw_50, ↓reduceIte, ↓zrun_stop, ↓zrun_step, ↓zb2_i, ↓zb1_i, ↓zldi_0, ↓zldi_s, ↓zlda_0, ↓zlda_n, ↓zlda_s, ↓zsc_0, ↓zsc_s, ↓zsti_c, ↓zsta_r, ↓zsta_n, ↓zic_0, ↓zic_s, ↓zpush_s, ↓zpush_n, ↓zfew_0, ↓zfew_i, ↓zfew_r, ↓zfew_n, ↓zMg'_197, ↓zMg'_259, ↓zMhp_iV, ↓zMp'_224, ↓zMp'_259, ↓CC_X3_readsLaw_262, ↓TE_X3_aLine, zcat_int, zcat_ref, zcat_null, zret_int, zret_b0, zret_b1, zret_b, Nat.reduceAdd, Nat.reduceSub, Nat.reduceLT, Nat.reduceEqDiff, Nat.reduceBEq, Nat.reduceBNe, true_and, and_true, if_true, if_false, Bool.false_eq_true, Bool.true_eq_false, Bool.or_self, Bool.or_false, Bool.or_true, Bool.false_or, Bool.true_or, zbi_e0, zbi_e1, eq_self, reduceCtorEq, Fin.isValue, zent, List.map_cons, List.map_nil, List.length_cons, List.length_nil, List.replicate, List.cons_append, List.nil_append, List.append_nil, Nat.zero_add, Nat.add_zero, zF_1, zF_2, zA_1, zA_2s, zA_2n, zB_1, zB_2s, zB_2n, not_true_eq_false, not_false_eq_true, Int32.reduceLT, Int32.reduceAdd, Int32.reduceSub, Int32.reduceMul, ne_eq, Int32.reduceToNatClampNeg, zlit_vp, nI_al, nI_la, nI_lm, nI_ml, nI_ltl, nI_llt, nI_eql, nI_lt2, nI_eq2, nI_vp, nI_cl, nI_add, pk_mul, nI_divl, nI_sub2, nI_lsub, nI_ne0l, nI_1, nI_pred, pk_m1, upd_s, upd_n, Nat.lt_irrefl, decide_eq_false_iff_not, decide_eq_true_eq, ite_not, ite_self, Nat.reducePow, Nat.reduceMul, c0, hpa.1, hpa2, hpa3, u13, hcl, u8, hN, u12, e, show yLb (.inr (ln, q) : (Int32 × Nat) ⊕ (yLn × Nat)) = true from rfl]
          refine ⟨⟨hrd, _, rfl, hL16⟩, ?_⟩
          intro v hv
          have hv2 : v.1 13 = nI L.length := hv.2.1.trans u13
          have hadd := h3.add l3 (by omega) hv
          obtain ⟨x1, x2, x3, x4, x5, k, x6, x7, x8⟩ := hv
          have x4 : yp v = q := x4
          have hpv : ypre (zF v 13 (nI (L.length + 1))) := by
            refine ⟨x3, _, hadd.2.2.1, ?_⟩
            show ytot (L ++ [ln]) ≤ yp v
            have e14 : k = ytot L := by
              have := h3.2.2.1
              rw [x6] at this
              have hb := h3.2.2.2.1
              have x7 : k + ln.2.1.length + ln.2.2.length ≤ q := x7
              exact (nI_eq (by omega) (by omega)).mp this
            have x7 : k + ln.2.1.length + ln.2.2.length ≤ q := x7
            rw [ytot_app, x4]
            show ytot L + (ln.2.1.length + ln.2.2.length + 0) ≤ q
            omega
          have ih := ih _ (L ++ [ln]) ((h1.tr x1).F (by omega)) hpv hadd (by show yN s < yp v + f; omega)
          rw [hv2, nI_al]
          refine ih ?_
          show ∀ w, yLawQ (match yLaw (s.2 8) (yN s) (s.1 12) f (L ++ [ln]).length (yp v) with | .inl e => .inl e | .inr M => .inr (L ++ [ln] ++ M)) s w → K (some (.int (zbi (yLb (match yLaw (s.2 8) (yN s) (s.1 12) f (L ++ [ln]).length (yp v) with | .inl e => (.inl e : (Int32 × Nat) ⊕ List yLn) | .inr M => .inr (L ++ [ln] ++ M)))))) w
          rw [x4, show (L ++ [ln]).length = L.length + 1 by simp]
          cases e2 : yLaw (s.2 8) (yN s) (s.1 12) f (L.length + 1) q with
          | inl er =>
            rw [e2] at hK
            exact hK
          | inr M =>
            rw [e2] at hK
            dsimp only at hK ⊢
            rw [show L ++ [ln] ++ M = L ++ (ln :: M) by simp]
            exact hK
  have h0 : ylined (zF (zF s 13 0) 14 0) [] := ⟨rfl, by decide, rfl, by decide, (fun i ln h => by cases h), (fun i ln h => by cases h)⟩
  have := loop 402 (zF (zF s 13 0) 14 0) [] ((yfl.rf.F (by omega)).F (by omega)) ⟨hP, 0, rfl, Nat.zero_le _⟩ h0 (by omega) ?_
  · refine zgo hm hc (fun q => q == 12) 60 ?_
    simp (config := {decide := true, maxSteps := 1000000}) (disch := first | rfl | decide | omega) only [↓Z_X3_readsLaw_0, ↓Z_X3_readsLaw_1, ↓Z_X3_readsLaw_2, ↓Z_X3_readsLaw_5, ↓Z_X3_readsLaw_6, ↓Z_X3_readsLaw_7, ↓Z_X3_readsLaw_10, ↓Z_X3_readsLaw_11, ↓Z_X3_readsLaw_12, ↓Z_X3_readsLaw_13, ↓Z_X3_readsLaw_16, ↓Z_X3_readsLaw_17, ↓Z_X3_readsLaw_20, ↓Z_X3_readsLaw_23, ↓Z_X3_readsLaw_24, ↓Z_X3_readsLaw_27, ↓Z_X3_readsLaw_28, ↓Z_X3_readsLaw_29, ↓Z_X3_readsLaw_30, ↓Z_X3_readsLaw_33, ↓Z_X3_readsLaw_34, ↓Z_X3_readsLaw_37, ↓Z_X3_readsLaw_38, ↓Z_X3_readsLaw_41, ↓Z_X3_readsLaw_42, ↓Z_X3_readsLaw_43, ↓Z_X3_readsLaw_46, ↓Z_X3_readsLaw_49, ↓Z_X3_readsLaw_50, ↓reduceIte, ↓zrun_stop, ↓zrun_step, ↓zb2_i, ↓zb1_i, ↓zldi_0, ↓zldi_s, ↓zlda_0, ↓zlda_n, ↓zlda_s, ↓zsc_0, ↓zsc_s, ↓zsti_c, ↓zsta_r, ↓zsta_n, ↓zic_0, ↓zic_s, ↓zpush_s, ↓zpush_n, ↓zfew_0, ↓zfew_i, ↓zfew_r, ↓zfew_n, ↓zMg'_197, ↓zMg'_259, ↓zMhp_iV, ↓zMp'_224, ↓zMp'_259, ↓CC_X3_readsLaw_262, ↓TE_X3_aLine, zcat_int, zcat_ref, zcat_null, zret_int, zret_b0, zret_b1, zret_b, Nat.reduceAdd, Nat.reduceSub, Nat.reduceLT, Nat.reduceEqDiff, Nat.reduceBEq, Nat.reduceBNe, true_and, and_true, if_true, if_false, Bool.false_eq_true, Bool.true_eq_false, Bool.or_self, Bool.or_false, Bool.or_true, Bool.false_or, Bool.true_or, zbi_e0, zbi_e1, eq_self, reduceCtorEq, Fin.isValue, zent, List.map_cons, List.map_nil, List.length_cons, List.length_nil, List.replicate, List.cons_append, List.nil_append, List.append_nil, Nat.zero_add, Nat.add_zero, zF_1, zF_2, zA_1, zA_2s, zA_2n, zB_1, zB_2s, zB_2n, not_true_eq_false, not_false_eq_true, Int32.reduceLT, Int32.reduceAdd, Int32.reduceSub, Int32.reduceMul, ne_eq, Int32.reduceToNatClampNeg, zlit_vp, nI_al, nI_la, nI_lm, nI_ml, nI_ltl, nI_llt, nI_eql, nI_lt2, nI_eq2, nI_vp, nI_cl, nI_add, pk_mul, nI_divl, nI_sub2, nI_lsub, nI_ne0l, nI_1, nI_pred, pk_m1, upd_s, upd_n, Nat.lt_irrefl, decide_eq_false_iff_not, decide_eq_true_eq, ite_not, ite_self, Nat.reducePow, Nat.reduceMul]
    exact this
  · show ∀ v, yLawQ (match yLaw (s.2 8) (yN s) (s.1 12) 402 0 (yp s) with | .inl e => .inl e | .inr M => .inr ([] ++ M)) s v → K (some (.int (zbi (yLb (match yLaw (s.2 8) (yN s) (s.1 12) 402 0 (yp s) with | .inl e => (.inl e : (Int32 × Nat) ⊕ List yLn) | .inr M => .inr ([] ++ M)))))) v
    cases e2 : yLaw (s.2 8) (yN s) (s.1 12) 402 0 (yp s) with
    | inl er => rw [e2] at hK; exact hK
    | inr M => rw [e2] at hK; exact hK
theorem MS_X3_readsLaw {l : Launch} {E : zEnv} {b0 : Nat} : zMS l E b0 43 yX3_readsLaw (ws_ yX3_readsLaw cX3_readsLaw 2 (some .boolean)) 0 0 (zlV E T_X3_readsLaw) := by
  refine zM_MS (Γ := G_X3_readsLaw) rfl (zΓok_cons (IM_X3_aLine (by decide)) zΓok_nil) (fun as s K h => ?_) ?_
  · have h1 := zx0_a as s K h
    exact ⟨by rw [h1.1]; decide, h1.2⟩
  · intro b as s K hT S hm hc
    have h0 := hT
    unfold T_X3_readsLaw zx0 at h0
    split at h0
    · exact B_X3_readsLaw b  s K hT S hm hc
    · exact h0.elim
theorem IM_X3_readsLaw {l : Launch} {E : zEnv} {b0 d0 : Nat} (hd : 43 + 1 ≤ d0) : zΓokq l E b0 d0 (288, true, 0, T_X3_readsLaw) := ⟨zx0_m, (fun _ => zInv.V MS_X3_readsLaw hd (by decide) (lw_V q1584 q1586 qs73 q158 q1587) (by decide +kernel) rfl rfl), fun h => nomatch h⟩
