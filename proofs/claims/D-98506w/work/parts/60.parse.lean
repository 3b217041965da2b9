/-! ToolUnionModel: the grammar as a function; faults, steps -/
/-- the token behind the one at p -/
def yX (tp : Nat → Int32) (n p : Nat) : Nat := yskip tp n (ytend tp n p)
abbrev yRes : Type := (Int32 × Nat) ⊕ (List (Int32 × Int32) × Nat)
def ybind (r : yRes) (f : List (Int32 × Int32) → Nat → yRes) : yRes := match r with
  | .inl e => .inl e
  | .inr (c, q) => f c q
def yUnit (tp : Nat → Int32) (n : Nat) (rd : Int32) (p : Nat) : yRes :=
  if ykind tp n rd p = 2 then .inr ([(0, ytval tp n p)], yX tp n p) else if yin (ykind tp n rd p) 41 50 = true then .inr ([(ykind tp n rd p - 40, 0)], yX tp n p) else .inl (1, p)
def yProdL (tp : Nat → Int32) (n : Nat) (rd : Int32) : Nat → Nat → yRes
  | 0, p => .inr ([], p)
  | f + 1, p => if ykind tp n rd p = 142 then ybind (yUnit tp n rd (yX tp n p)) (fun c1 q1 => ybind (yProdL tp n rd f q1) (fun c q => .inr (c1 ++ (25, 0) :: c, q)))
    else if ykind tp n rd p = 147 then (if ykind tp n rd (yX tp n p) = 2 then (if ytval tp n (yX tp n p) = 0 then .inl (2, yX tp n p) else ybind (yProdL tp n rd f (yX tp n (yX tp n p))) (fun c q => .inr ((26, ytval tp n (yX tp n p)) :: c, q))) else .inl (1, yX tp n p))
    else .inr ([], p)
def yProd (tp : Nat → Int32) (n : Nat) (rd : Int32) (p : Nat) : yRes := ybind (yUnit tp n rd p) (fun c q => ybind (yProdL tp n rd 401 q) (fun c2 q2 => .inr (c ++ c2, q2)))
def yLoop (tp : Nat → Int32) (n : Nat) (rd : Int32) (o : Int32 → Option Int32) (sub : Nat → yRes) : Nat → Nat → yRes
  | 0, p => .inr ([], p)
  | f + 1, p => match o (ykind tp n rd p) with
    | none => .inr ([], p)
    | some h => ybind (sub (yX tp n p)) (fun c1 q1 => ybind (yLoop tp n rd o sub f q1) (fun c q => .inr (c1 ++ (h, 0) :: c, q)))
def yChain (tp : Nat → Int32) (n : Nat) (rd : Int32) (o : Int32 → Option Int32) (sub : Nat → yRes) (p : Nat) : yRes := ybind (sub p) (fun c q => ybind (yLoop tp n rd o sub 401 q) (fun c2 q2 => .inr (c ++ c2, q2)))
def yoS (k : Int32) : Option Int32 := if k = 143 then some 23 else if k = 145 then some 24 else none
def yoA (k : Int32) : Option Int32 := if k = 5 then some 31 else none
def yoO (k : Int32) : Option Int32 := if k = 4 then some 32 else none
def ySum (tp : Nat → Int32) (n : Nat) (rd : Int32) (p : Nat) : yRes := yChain tp n rd yoS (yProd tp n rd) p
def yhow (k : Int32) : Int32 := if k = 160 then 27 else if k = 161 then 28 else if k = 162 then 29 else -1
def yCmp (tp : Nat → Int32) (n : Nat) (rd : Int32) (p : Nat) : yRes := ybind (ySum tp n rd p) (fun c1 q1 => if yhow (ykind tp n rd q1) = -1 then .inl (1, q1) else ybind (ySum tp n rd (yX tp n q1)) (fun c2 q2 => .inr (c1 ++ (c2 ++ [(yhow (ykind tp n rd q1), 0)]), q2)))
def yEvery (tp : Nat → Int32) (n : Nat) (rd : Int32) (sub : Nat → yRes) (p : Nat) : yRes := yChain tp n rd yoA sub p
def yAny (tp : Nat → Int32) (n : Nat) (rd : Int32) (sub : Nat → yRes) (p : Nat) : yRes := yChain tp n rd yoO (yEvery tp n rd sub) p
def yTest (tp : Nat → Int32) (n : Nat) (rd : Int32) : Nat → Nat → yRes
  | 0, p => if ykind tp n rd p = 6 ∨ ykind tp n rd p = 140 then .inl (3, p) else yCmp tp n rd p
  | r + 1, p => if ykind tp n rd p = 6 then ybind (yTest tp n rd r (yX tp n p)) (fun c q => .inr (c ++ [(30, 0)], q))
    else if ykind tp n rd p = 140 then ybind (yAny tp n rd (yTest tp n rd r) (yX tp n p)) (fun c q => if ykind tp n rd q = 141 then .inr (c, yX tp n q) else .inl (1, q))
    else yCmp tp n rd p
/-- no code is longer than what was read for it -/
def yshort (n p : Nat) (r : yRes) : Prop := ∀ c q, r = .inr (c, q) → p + c.length ≤ q ∧ q ≤ n
theorem ykind_lt {tp : Nat → Int32} {n : Nat} {rd : Int32} {p : Nat} (h : ¬ ykind tp n rd p = 0) : p < n := by
  by_cases c : n ≤ p
  · exact absurd (if_pos c) h
  · omega
theorem yX_le {tp : Nat → Int32} {n p : Nat} (h : p < n) : p + 1 ≤ yX tp n p ∧ yX tp n p ≤ n := by
  have h1 : p + 1 ≤ ytend tp n p ∧ ytend tp n p ≤ n := by
    unfold ytend
    rw [if_neg (by omega)]
    split
    · rename_i c
      rw [yrun_t h c]
      exact yrun_le (by omega)
    · split
      · rename_i c
        rw [yrun_t h c]
        exact yrun_le (by omega)
      · omega
  have h2 := yrun_le (B := yblank) (tp := tp) (n := n) (p := ytend tp n p) h1.2
  unfold yX yskip
  omega
theorem ybind_inr {r : yRes} {f : List (Int32 × Int32) → Nat → yRes} {c : List (Int32 × Int32)} {q : Nat} (h : ybind r f = .inr (c, q)) : ∃ c1 q1, r = .inr (c1, q1) ∧ f c1 q1 = .inr (c, q) := by
  cases r with
  | inl e => cases h
  | inr v => exact ⟨v.1, v.2, rfl, h⟩
theorem yUnit_sh {tp : Nat → Int32} {n : Nat} {rd : Int32} {p : Nat} : yshort n p (yUnit tp n rd p) := by
  intro c q h
  unfold yUnit at h
  split at h
  · rename_i k
    have := yX_le (tp := tp) (ykind_lt (tp := tp) (n := n) (rd := rd) (p := p) (by rw [k]; decide))
    cases h
    exact ⟨this.1, this.2⟩
  · split at h
    · rename_i k
      have := yX_le (tp := tp) (ykind_lt (tp := tp) (n := n) (rd := rd) (p := p) (by intro e; rw [e] at k; revert k; decide))
      cases h
      exact ⟨this.1, this.2⟩
    · cases h
theorem yProdL_sh {tp : Nat → Int32} {n : Nat} {rd : Int32} : ∀ f p, p ≤ n → yshort n p (yProdL tp n rd f p)
  | 0, p, hp => fun c q h => by cases h; exact ⟨Nat.le_refl _, hp⟩
  | f + 1, p, hp => fun c q h => by
    unfold yProdL at h
    split at h
    · rename_i k
      have hx := yX_le (tp := tp) (ykind_lt (tp := tp) (n := n) (rd := rd) (p := p) (by rw [k]; decide))
      obtain ⟨c1, q1, e1, h⟩ := ybind_inr h
      have s1 := yUnit_sh c1 q1 e1
      obtain ⟨c2, q2, e2, h⟩ := ybind_inr h
      have s2 := yProdL_sh f q1 s1.2 c2 q2 e2
      cases h
      simp only [List.length_append, List.length_cons]
      omega
    · split at h
      · rename_i k
        have hx := yX_le (tp := tp) (ykind_lt (tp := tp) (n := n) (rd := rd) (p := p) (by rw [k]; decide))
        split at h
        · rename_i k2
          have hx2 := yX_le (tp := tp) (ykind_lt (tp := tp) (n := n) (rd := rd) (p := yX tp n p) (by rw [k2]; decide))
          split at h
          · cases h
          · obtain ⟨c2, q2, e2, h⟩ := ybind_inr h
            have s2 := yProdL_sh f _ hx2.2 c2 q2 e2
            cases h
            simp only [List.length_cons]
            omega
        · cases h
      · cases h
        exact ⟨Nat.le_refl _, hp⟩
theorem yProd_sh {tp : Nat → Int32} {n : Nat} {rd : Int32} {p : Nat} : yshort n p (yProd tp n rd p) := fun c q h => by
  obtain ⟨c1, q1, e1, h⟩ := ybind_inr h
  have s1 := yUnit_sh c1 q1 e1
  obtain ⟨c2, q2, e2, h⟩ := ybind_inr h
  have s2 := yProdL_sh 401 q1 s1.2 c2 q2 e2
  cases h
  simp only [List.length_append]
  omega
theorem yLoop_sh {tp : Nat → Int32} {n : Nat} {rd : Int32} {o : Int32 → Option Int32} {sub : Nat → yRes} (ho : o 0 = none) (hs : ∀ p, p ≤ n → yshort n p (sub p)) : ∀ f p, p ≤ n → yshort n p (yLoop tp n rd o sub f p)
  | 0, p, hp => fun c q h => by cases h; exact ⟨Nat.le_refl _, hp⟩
  | f + 1, p, hp => fun c q h => by
    unfold yLoop at h
    split at h
    · cases h
      exact ⟨Nat.le_refl _, hp⟩
    · rename_i k
      have hx := yX_le (tp := tp) (ykind_lt (tp := tp) (n := n) (rd := rd) (p := p) (by intro e; rw [e, ho] at k; cases k))
      obtain ⟨c1, q1, e1, h⟩ := ybind_inr h
      have s1 := hs _ hx.2 c1 q1 e1
      obtain ⟨c2, q2, e2, h⟩ := ybind_inr h
      have s2 := yLoop_sh ho hs f q1 s1.2 c2 q2 e2
      cases h
      simp only [List.length_append, List.length_cons]
      omega
theorem yChain_sh {tp : Nat → Int32} {n : Nat} {rd : Int32} {o : Int32 → Option Int32} {sub : Nat → yRes} (ho : o 0 = none) (hs : ∀ p, p ≤ n → yshort n p (sub p)) {p : Nat} (hp : p ≤ n) : yshort n p (yChain tp n rd o sub p) := fun c q h => by
  obtain ⟨c1, q1, e1, h⟩ := ybind_inr h
  have s1 := hs p hp c1 q1 e1
  obtain ⟨c2, q2, e2, h⟩ := ybind_inr h
  have s2 := yLoop_sh ho hs 401 q1 s1.2 c2 q2 e2
  cases h
  simp only [List.length_append]
  omega
theorem ySum_sh {tp : Nat → Int32} {n : Nat} {rd : Int32} {p : Nat} (hp : p ≤ n) : yshort n p (ySum tp n rd p) := yChain_sh rfl (fun _ _ => yProd_sh) hp
theorem yCmp_sh {tp : Nat → Int32} {n : Nat} {rd : Int32} {p : Nat} (hp : p ≤ n) : yshort n p (yCmp tp n rd p) := fun c q h => by
  obtain ⟨c1, q1, e1, h⟩ := ybind_inr h
  have s1 := ySum_sh hp c1 q1 e1
  split at h
  · cases h
  · rename_i k
    have hx := yX_le (tp := tp) (ykind_lt (tp := tp) (n := n) (rd := rd) (p := q1) (by intro e; rw [e] at k; exact k rfl))
    obtain ⟨c2, q2, e2, h⟩ := ybind_inr h
    have s2 := ySum_sh hx.2 c2 q2 e2
    cases h
    simp only [List.length_append, List.length_cons, List.length_nil]
    omega
theorem yEvery_sh {tp : Nat → Int32} {n : Nat} {rd : Int32} {sub : Nat → yRes} (hs : ∀ p, p ≤ n → yshort n p (sub p)) {p : Nat} (hp : p ≤ n) : yshort n p (yEvery tp n rd sub p) := yChain_sh rfl hs hp
theorem yAny_sh {tp : Nat → Int32} {n : Nat} {rd : Int32} {sub : Nat → yRes} (hs : ∀ p, p ≤ n → yshort n p (sub p)) {p : Nat} (hp : p ≤ n) : yshort n p (yAny tp n rd sub p) := yChain_sh rfl (fun _ h => yEvery_sh hs h) hp
theorem yTest_sh {tp : Nat → Int32} {n : Nat} {rd : Int32} : ∀ r p, p ≤ n → yshort n p (yTest tp n rd r p)
  | 0, p, hp => fun c q h => by
    unfold yTest at h
    split at h
    · cases h
    · exact yCmp_sh hp c q h
  | r + 1, p, hp => fun c q h => by
    unfold yTest at h
    split at h
    · rename_i k
      have hx := yX_le (tp := tp) (ykind_lt (tp := tp) (n := n) (rd := rd) (p := p) (by rw [k]; decide))
      obtain ⟨c1, q1, e1, h⟩ := ybind_inr h
      have s1 := yTest_sh r _ hx.2 c1 q1 e1
      cases h
      simp only [List.length_append, List.length_cons, List.length_nil]
      omega
    · split at h
      · rename_i k
        have hx := yX_le (tp := tp) (ykind_lt (tp := tp) (n := n) (rd := rd) (p := p) (by rw [k]; decide))
        obtain ⟨c1, q1, e1, h⟩ := ybind_inr h
        have s1 := yAny_sh (yTest_sh r) hx.2 c1 q1 e1
        split at h
        · rename_i k2
          have hx2 := yX_le (tp := tp) (ykind_lt (tp := tp) (n := n) (rd := rd) (p := q1) (by rw [k2]; decide))
          cases h
          omega
        · cases h
      · exact yCmp_sh hp c q h
