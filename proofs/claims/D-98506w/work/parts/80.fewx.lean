/-! plain laws: tools that serve a kind, as sets -/
theorem ybits_s {Q : Nat → Bool} {n : Nat} : ybits Q (n + 1) = if Q n = true then ybits Q n ||| 2 ^ n else ybits Q n := rfl
def yany (Q : Nat → Bool) (n : Nat) : Bool := !yall (fun i => !Q i) n
theorem yany_iff {Q : Nat → Bool} {n : Nat} : yany Q n = true ↔ ∃ i, i < n ∧ Q i = true := by
  unfold yany
  constructor
  · intro h
    rw [Bool.not_eq_true'] at h
    by_cases c : ∃ i, i < n ∧ Q i = true
    · exact c
    · rw [yall_t (fun i hi => by
        cases k : Q i
        · rfl
        · exact absurd ⟨i, hi, k⟩ c)] at h
      cases h
  · rintro ⟨i, hi, h⟩
    rw [yall_f hi (by rw [h]; rfl)]
    rfl
theorem yany_0 {Q : Nat → Bool} : yany Q 0 = false := rfl
theorem yany_s {Q : Nat → Bool} {n : Nat} : yany Q (n + 1) = (yany Q n || Q n) := by
  unfold yany
  show (!(yall (fun i => !Q i) n && !Q n)) = _
  cases yall (fun i => !Q i) n <;> cases Q n <;> rfl
theorem yor_self {a z : Nat} : a ||| z ||| z = a ||| z := by
  rw [Nat.or_assoc, Nat.or_self]
theorem yfold_any {Q : Nat → Bool} {t a : Nat} (ht : t < 9) : ∀ n, yfold (fun m b => if Q m = true then b ||| yshl t else b) (nI a) n = nI (if yany Q n = true then a ||| 2 ^ t else a)
  | 0 => rfl
  | n + 1 => by
    have hp : yshl t = nI (2 ^ t) := ypow ht
    rw [yfold_s, yfold_any ht n, yany_s]
    cases c1 : yany Q n <;> cases c2 : Q n
    · rfl
    · simp [hp, nI_or]
    · rfl
    · simp [hp, nI_or, yor_self]
/-- tools of a kind that serve with somebody -/
def yTF (w : Nat → Int32) (kd : Int32) : Nat := ybits (fun t => yany (fun m => decide (w (16 + 10 * t) = kd) && yserves w t m) (w 97).toNatClampNeg) (w 96).toNatClampNeg
theorem ytoolsFor_eq {w : Nat → Int32} {kd : Int32} (hN : (w 96).toNatClampNeg ≤ 8) : ytoolsFor w kd = nI (yTF w kd) := by
  unfold ytoolsFor yTF
  have : ∀ n, n ≤ 8 → yfold (fun t a => yfold (fun m a => (if (decide (w (16 + 10 * t) = kd) && yserves w t m) = true then a ||| yshl t else a)) a (w 97).toNatClampNeg) 0 n = nI (ybits (fun t => yany (fun m => decide (w (16 + 10 * t) = kd) && yserves w t m) (w 97).toNatClampNeg) n) := by
    intro n
    induction n with
    | zero => intro _; rfl
    | succ n ih =>
      intro hn
      rw [yfold_s, ih (by omega), yfold_any (Q := fun m => decide (w (16 + 10 * n) = kd) && yserves w n m) (by omega)]
      rw [ybits_s]
  exact this _ hN
/-- tools that serve with somebody -/
def yserT (w : Nat → Int32) : Nat := ybits (fun t => yany (fun m => yserves w t m) (w 97).toNatClampNeg) (w 96).toNatClampNeg
theorem yTF_b {w : Nat → Int32} {kd : Int32} {t : Nat} : (yTF w kd).testBit t = ((yserT w).testBit t && decide (w (16 + 10 * t) = kd)) := by
  unfold yTF yserT
  rw [ybits_b, ybits_b]
  by_cases h : t < (w 96).toNatClampNeg
  · simp only [h, decide_true, Bool.true_and]
    by_cases k : w (16 + 10 * t) = kd
    · simp only [k, decide_true, Bool.true_and, Bool.and_true]
    · simp only [k, decide_false, Bool.false_and, Bool.and_false]
      cases e : yany (fun _ => false) (w 97).toNatClampNeg
      · rfl
      · obtain ⟨i, -, q⟩ := yany_iff.mp e
        cases q
  · simp [h]
/-- a set of values below 32 -/
def yvals (Q : Nat → Bool) (v : Nat → Nat) : Nat → Nat
  | 0 => 0
  | n + 1 => if Q n = true then yvals Q v n ||| 2 ^ v n else yvals Q v n
theorem yvals_s {Q : Nat → Bool} {v : Nat → Nat} {n : Nat} : yvals Q v (n + 1) = if Q n = true then yvals Q v n ||| 2 ^ v n else yvals Q v n := rfl
theorem yvals_b {Q : Nat → Bool} {v : Nat → Nat} {k : Nat} : ∀ n, (yvals Q v n).testBit k = yany (fun i => Q i && decide (v i = k)) n
  | 0 => by rw [yany_0]; exact Nat.zero_testBit k
  | n + 1 => by
    have ih := yvals_b (Q := Q) (v := v) (k := k) n
    rw [yany_s, ← ih, yvals_s]
    cases c : Q n
    · simp
    · simp only [if_true, Bool.true_and]
      rw [Nat.testBit_or, Nat.testBit_two_pow]
/-- kinds of works that are not done -/
def yleftK (w : Nat → Int32) : Nat := yvals (fun i => !ydoneB w i) (fun i => (w (142 + 3 * i)).toNatClampNeg) (w 98).toNatClampNeg
def ykindsBy (w : Nat → Int32) (set : Nat) : Nat := yvals (fun t => set.testBit t) (fun t => (w (16 + 10 * t)).toNatClampNeg) (w 96).toNatClampNeg
/-- kinds are 0..3 -/
def ykinds (w : Nat → Int32) : Prop := (∀ t, t < (w 96).toNatClampNeg → vp_in (w (16 + 10 * t)) 4) ∧ ∀ i, i < (w 98).toNatClampNeg → vp_in (w (142 + 3 * i)) 4
/-- whether all that is left has hands among some tools -/
def ygoesK (w : Nat → Int32) (set : Nat) : Bool := yall (fun k => !(yleftK w).testBit k || (ykindsBy w set).testBit k) 4
theorem ygoesK_iff {w : Nat → Int32} (hk : ykinds w) {set : Nat} : ygoesK w (yserT w &&& set) = true ↔ ∀ i, i < (w 98).toNatClampNeg → ydoneB w i = false → ∃ t, set.testBit t = true ∧ (yTF w (w (142 + 3 * i))).testBit t = true := by
  unfold ygoesK
  rw [yall_iff]
  constructor
  · intro h i hi hd
    obtain ⟨k, hk4, ek⟩ := vp_in_of (hk.2 i hi) (by decide)
    have := h k hk4
    have hl : (yleftK w).testBit k = true := by
      unfold yleftK
      rw [yvals_b, yany_iff]
      exact ⟨i, hi, by rw [hd, ek, nI_clamp (by omega)]; simp⟩
    rw [hl] at this
    simp only [Bool.not_true, Bool.false_or] at this
    unfold ykindsBy at this
    rw [yvals_b, yany_iff] at this
    obtain ⟨t, ht, q⟩ := this
    simp only [Nat.testBit_and, Bool.and_eq_true, decide_eq_true_eq] at q
    obtain ⟨⟨q1, q2⟩, q3⟩ := q
    refine ⟨t, q2, ?_⟩
    rw [yTF_b, q1, Bool.true_and, decide_eq_true_eq, ek]
    obtain ⟨k2, hk2, ek2⟩ := vp_in_of (hk.1 t ht) (by decide)
    rw [ek2, nI_clamp (by omega)] at q3
    rw [ek2, q3]
  · intro h k hk4
    cases hl : (yleftK w).testBit k
    · rfl
    · simp only [Bool.not_true, Bool.false_or]
      unfold yleftK at hl
      rw [yvals_b, yany_iff] at hl
      obtain ⟨i, hi, q⟩ := hl
      simp only [Bool.and_eq_true, decide_eq_true_eq, Bool.not_eq_true'] at q
      obtain ⟨q1, q2⟩ := q
      obtain ⟨t, ht, q3⟩ := h i hi q1
      rw [yTF_b, Bool.and_eq_true, decide_eq_true_eq] at q3
      unfold ykindsBy
      rw [yvals_b, yany_iff]
      refine ⟨t, ?_, ?_⟩
      · have := q3.1
        unfold yserT at this
        rw [ybits_b, Bool.and_eq_true, decide_eq_true_eq] at this
        exact this.1
      · rw [Nat.testBit_and, q3.1, ht, q3.2, q2]
        simp
theorem yhaveAll_eq {w : Nat → Int32} (hk : ykinds w) (hN : (w 96).toNatClampNeg ≤ 8) {set : Nat} : yhaveAll w (nI set) = ygoesK w (yserT w &&& set) := by
  rw [Bool.eq_iff_iff, ygoesK_iff hk]
  unfold yhaveAll
  rw [yall_iff]
  have key : ∀ i, (ytoolsFor w (w (142 + 3 * i)) &&& nI set = 0) ↔ ¬ ∃ t, set.testBit t = true ∧ (yTF w (w (142 + 3 * i))).testBit t = true := by
    intro i
    rw [ytoolsFor_eq hN, nI_and]
    have hl : yTF w (w (142 + 3 * i)) < 2 ^ (w 96).toNatClampNeg := by unfold yTF; exact ybits_lt _
    have h8 : 2 ^ (w 96).toNatClampNeg ≤ 256 := (ypow_le (show (w 96).toNatClampNeg < 9 by omega)).2
    have hle : yTF w (w (142 + 3 * i)) &&& set ≤ yTF w (w (142 + 3 * i)) := Nat.and_le_left
    constructor
    · intro h
      rintro ⟨t, h1, h2⟩
      have : yTF w (w (142 + 3 * i)) &&& set = 0 := (nI_eq (b := 0) (by omega) (by omega)).mp h
      have h3 : (yTF w (w (142 + 3 * i)) &&& set).testBit t = true := by rw [Nat.testBit_and, h1, h2]; rfl
      rw [this, Nat.zero_testBit] at h3
      cases h3
    · intro h
      by_cases c : yTF w (w (142 + 3 * i)) &&& set = 0
      · rw [c]; rfl
      · obtain ⟨t, ht⟩ := Nat.exists_testBit_of_ne_zero c
        rw [Nat.testBit_and, Bool.and_eq_true] at ht
        exact absurd ⟨t, ht.2, ht.1⟩ h
  constructor
  · intro h i hi hd
    have := h i hi
    rw [hd, Bool.false_or, Bool.not_eq_true', decide_eq_false_iff_not, key i] at this
    exact Classical.not_not.mp this
  · intro h i hi
    cases hd : ydoneB w i
    · rw [Bool.false_or, Bool.not_eq_true', decide_eq_false_iff_not, key i]
      exact Classical.not_not.mpr (h i hi hd)
    · rfl
/-- the fewest tools with a property: the least set of them -/
def yfewest (P : Nat → Bool) (n : Nat) : Int32 := yfold (fun set b => if P set = true ∧ (b = -1 ∨ ycount (nI set) < ycount b) then nI set else b) (-1) n
theorem ykeep_eq {w : Nat → Int32} (hk : ykinds w) (hN : (w 96).toNatClampNeg ≤ 8) : ykeep w = yfewest (fun set => ygoesK w (yserT w &&& set)) (2 ^ (w 96).toNatClampNeg) := by
  unfold ykeep yfewest
  refine yfold_c _ (fun set b _ => ?_)
  rw [yhaveAll_eq hk hN]
  by_cases c : ygoesK w (yserT w &&& set) = true
  · simp only [c, and_true, true_and]
  · simp only [c, and_false, false_and, Bool.false_eq_true]
