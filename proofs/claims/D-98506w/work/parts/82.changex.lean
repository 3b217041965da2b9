/-! plain laws: branches to change -/
theorem ynf_pos {f : Nat → Nat} : ∀ n, 0 < ynf f n ↔ ∃ i, i < n ∧ 0 < f i
  | 0 => ⟨fun h => absurd h (Nat.lt_irrefl _), fun ⟨i, h, _⟩ => absurd h (Nat.not_lt_zero _)⟩
  | n + 1 => by
    have ih := ynf_pos (f := f) n
    have e : ynf f (n + 1) = ynf f n + f n := rfl
    rw [e]
    constructor
    · intro h
      by_cases c : 0 < f n
      · exact ⟨n, by omega, c⟩
      · obtain ⟨i, h1, h2⟩ := ih.mp (by omega)
        exact ⟨i, by omega, h2⟩
    · rintro ⟨i, h1, h2⟩
      by_cases c : i = n
      · subst c; omega
      · have := ih.mpr ⟨i, by omega, h2⟩
        omega
theorem yfold_add {Q : Nat → Bool} {a : Nat} : ∀ n, yfold (fun m b => b + zbi (Q m)) (nI a) n = nI (a + ynf (fun m => if Q m = true then 1 else 0) n)
  | 0 => rfl
  | n + 1 => by
    rw [yfold_s, yfold_add n]
    have e : ynf (fun m => if Q m = true then 1 else 0) (n + 1) = ynf (fun m => if Q m = true then 1 else 0) n + (if Q n = true then 1 else 0) := rfl
    rw [e]
    cases c : Q n
    · rw [zbi_f, if_neg (by decide), show (0 : Int32) = nI 0 from rfl, nI_add]
      rfl
    · rw [zbi_t, if_pos rfl, show (1 : Int32) = nI 1 from rfl, nI_add, Nat.add_assoc]
def yhandsN (w : Nat → Int32) (kd : Int32) : Nat := ynf (fun t => ynf (fun m => if (decide (w (16 + 10 * t) = kd) && yserves w t m) = true then 1 else 0) (w 97).toNatClampNeg) (w 96).toNatClampNeg
theorem yhandsOf_eq {w : Nat → Int32} {kd : Int32} : yhandsOf w kd = nI (yhandsN w kd) := by
  unfold yhandsOf yhandsN
  have : ∀ n, yfold (fun t a => yfold (fun m a => a + zbi (decide (w (16 + 10 * t) = kd) && yserves w t m)) a (w 97).toNatClampNeg) 0 n = nI (ynf (fun t => ynf (fun m => if (decide (w (16 + 10 * t) = kd) && yserves w t m) = true then 1 else 0) (w 97).toNatClampNeg) n) := by
    intro n
    induction n with
    | zero => rfl
    | succ n ih =>
      rw [yfold_s, ih, yfold_add (Q := fun m => decide (w (16 + 10 * n) = kd) && yserves w n m)]
      rfl
  exact this _
theorem ynf_bound {f : Nat → Nat} {b : Nat} : ∀ n, (∀ i, i < n → f i ≤ b) → ynf f n ≤ b * n
  | 0, _ => Nat.zero_le _
  | n + 1, h => by
    have := ynf_bound n (fun i hi => h i (by omega))
    have := h n (by omega)
    show ynf f n + f n ≤ b * (n + 1)
    rw [Nat.mul_add, Nat.mul_one]
    omega
theorem yhandsN_le {w : Nat → Int32} {kd : Int32} (hN : (w 96).toNatClampNeg ≤ 8) (hM : (w 97).toNatClampNeg ≤ 4) : yhandsN w kd ≤ 32 := by
  unfold yhandsN
  have h1 : ∀ t, ynf (fun m => if (decide (w (16 + 10 * t) = kd) && yserves w t m) = true then 1 else 0) (w 97).toNatClampNeg ≤ 4 := fun t => by
    have := ynf_bound (f := fun m => if (decide (w (16 + 10 * t) = kd) && yserves w t m) = true then 1 else 0) (b := 1) (w 97).toNatClampNeg (fun i hi => by split <;> omega)
    omega
  have := ynf_bound (f := fun t => ynf (fun m => if (decide (w (16 + 10 * t) = kd) && yserves w t m) = true then 1 else 0) (w 97).toNatClampNeg) (b := 4) (w 96).toNatClampNeg (fun t _ => h1 t)
  omega
theorem yhandsOf_pos {w : Nat → Int32} {kd : Int32} (hN : (w 96).toNatClampNeg ≤ 8) (hM : (w 97).toNatClampNeg ≤ 4) : 0 < yhandsOf w kd ↔ ∃ t, (yTF w kd).testBit t = true := by
  have hb := yhandsN_le (kd := kd) hN hM
  rw [yhandsOf_eq, show (0 : Int32) = nI 0 from rfl, nI_lt2 (by omega) (by omega)]
  unfold yhandsN
  rw [ynf_pos]
  constructor
  · rintro ⟨t, ht, h⟩
    rw [ynf_pos] at h
    obtain ⟨m, hm2, h⟩ := h
    refine ⟨t, ?_⟩
    unfold yTF
    rw [ybits_b, decide_eq_true ht, Bool.true_and, yany_iff]
    refine ⟨m, hm2, ?_⟩
    by_cases c : (decide (w (16 + 10 * t) = kd) && yserves w t m) = true
    · exact c
    · rw [if_neg c] at h; omega
  · rintro ⟨t, h⟩
    unfold yTF at h
    rw [ybits_b, Bool.and_eq_true, decide_eq_true_eq] at h
    obtain ⟨ht, h⟩ := h
    rw [yany_iff] at h
    obtain ⟨m, hm2, h⟩ := h
    exact ⟨t, ht, (ynf_pos _).mpr ⟨m, hm2, by rw [if_pos h]; omega⟩⟩
/-- kinds that are left and have no hands -/
def ylack (w : Nat → Int32) : Nat := ydiff (yleftK w) (ykindsBy w (yserT w))
theorem ylack_b {w : Nat → Int32} (hk : ykinds w) (hN : (w 96).toNatClampNeg ≤ 8) (hM : (w 97).toNatClampNeg ≤ 4) {k : Nat} (hk4 : k < 4) : (ylack w).testBit k = yfree w k := by
  unfold ylack
  rw [ydiff_b]
  unfold yfree
  have e1 : (yleftK w).testBit k = ywanted w (nI k) := by
    unfold yleftK
    rw [yvals_b, Bool.eq_iff_iff, yany_iff]
    unfold ywanted
    rw [Bool.not_eq_true', ← Bool.not_eq_true, yall_iff]
    constructor
    · rintro ⟨i, hi, h⟩ q
      have := q i hi
      simp only [Bool.and_eq_true, Bool.not_eq_true', decide_eq_true_eq] at h
      obtain ⟨k2, hk2, ek⟩ := vp_in_of (hk.2 i hi) (by decide)
      rw [h.1, ek, Bool.false_or, Bool.not_eq_true', decide_eq_false_iff_not] at this
      rw [ek, nI_clamp (by omega)] at h
      exact this (by rw [h.2])
    · intro q
      refine Classical.byContradiction (fun z => q (fun i hi => ?_))
      cases d : ydoneB w i
      · rw [Bool.false_or, Bool.not_eq_true', decide_eq_false_iff_not]
        intro e
        exact z ⟨i, hi, by rw [d, e, nI_clamp (by omega)]; simp⟩
      · rfl
  have e2 : (ykindsBy w (yserT w)).testBit k = decide (0 < yhandsOf w (nI k)) := by
    rw [Bool.eq_iff_iff, decide_eq_true_eq, yhandsOf_pos hN hM]
    unfold ykindsBy
    rw [yvals_b, yany_iff]
    constructor
    · rintro ⟨t, ht, h⟩
      simp only [Bool.and_eq_true, decide_eq_true_eq] at h
      obtain ⟨k2, hk2, ek⟩ := vp_in_of (hk.1 t ht) (by decide)
      refine ⟨t, ?_⟩
      rw [yTF_b, h.1, Bool.true_and, decide_eq_true_eq, ek]
      rw [ek, nI_clamp (by omega)] at h
      rw [h.2]
    · rintro ⟨t, h⟩
      rw [yTF_b, Bool.and_eq_true, decide_eq_true_eq] at h
      refine ⟨t, ?_, ?_⟩
      · have := h.1
        unfold yserT at this
        rw [ybits_b, Bool.and_eq_true, decide_eq_true_eq] at this
        exact this.1
      · rw [h.1, h.2, nI_clamp (by omega)]
        simp
  rw [e1, e2]
/-- a tool of a kind that would serve with somebody -/
def ywouldT (w : Nat → Int32) (kd : Int32) (t : Nat) : Bool := decide (w (16 + 10 * t) = kd) && yany (fun m => ywould w t m) (w 97).toNatClampNeg
theorem yfold_last {Q : Nat → Bool} {a v : Int32} : ∀ n, yfold (fun m b => if Q m = true then v else b) a n = if yany Q n = true then v else a
  | 0 => rfl
  | n + 1 => by
    rw [yfold_s, yfold_last n, yany_s]
    cases c1 : yany Q n <;> cases c2 : Q n <;> simp
theorem ybr_sp {w : Nat → Int32} {kd : Int32} (hb : ybranches w) : ∀ n, n ≤ 8 → (yfold (fun t a => if w (16 + 10 * t) = kd ∧ (a = -1 ∨ w (16 + 10 * t + 1) < a) then yfold (fun m a => if ywould w t m = true then w (16 + 10 * t + 1) else a) a (w 97).toNatClampNeg else a) (-1) n = -1 ∧ ∀ t, t < n → ywouldT w kd t = false) ∨ ∃ t0 b0, t0 < n ∧ ywouldT w kd t0 = true ∧ b0 < 4 ∧ w (16 + 10 * t0 + 1) = nI b0 ∧ yfold (fun t a => if w (16 + 10 * t) = kd ∧ (a = -1 ∨ w (16 + 10 * t + 1) < a) then yfold (fun m a => if ywould w t m = true then w (16 + 10 * t + 1) else a) a (w 97).toNatClampNeg else a) (-1) n = nI b0 ∧ ∀ t, t < n → ywouldT w kd t = true → b0 ≤ (w (16 + 10 * t + 1)).toNatClampNeg
  | 0, _ => Or.inl ⟨rfl, fun t h => absurd h (Nat.not_lt_zero _)⟩
  | n + 1, hn => by
    have ih := ybr_sp (kd := kd) hb n (by omega)
    rw [yfold_s]
    generalize yfold (fun t a => if w (16 + 10 * t) = kd ∧ (a = -1 ∨ w (16 + 10 * t + 1) < a) then yfold (fun m a => if ywould w t m = true then w (16 + 10 * t + 1) else a) a (w 97).toNatClampNeg else a) (-1) n = b at ih ⊢
    obtain ⟨bn, hbn, ebn⟩ := vp_in_of (hb n (by omega)) (by decide)
    rw [yfold_last (Q := fun m => ywould w n m)]
    have hT : ywouldT w kd n = (decide (w (16 + 10 * n) = kd) && yany (fun m => ywould w n m) (w 97).toNatClampNeg) := rfl
    rcases ih with ⟨h1, h2⟩ | ⟨t0, b0, h1, h2, h3, h4, h5, h6⟩
    · subst h1
      by_cases c1 : w (16 + 10 * n) = kd
      · rw [if_pos ⟨c1, Or.inl rfl⟩]
        cases c2 : yany (fun m => ywould w n m) (w 97).toNatClampNeg
        · rw [if_neg (by decide)]
          refine Or.inl ⟨rfl, fun t ht => ?_⟩
          by_cases d : t = n
          · rw [d, hT, c2, Bool.and_false]
          · exact h2 t (by omega)
        · rw [if_pos rfl]
          refine Or.inr ⟨n, bn, by omega, by rw [hT, c2, decide_eq_true c1]; rfl, hbn, ebn, ebn, fun t ht hq => ?_⟩
          by_cases d : t = n
          · rw [d, ebn, nI_clamp (by omega)]
            exact Nat.le_refl _
          · rw [h2 t (by omega)] at hq; cases hq
      · rw [if_neg (fun q => c1 q.1)]
        refine Or.inl ⟨rfl, fun t ht => ?_⟩
        by_cases d : t = n
        · rw [d, hT, decide_eq_false c1, Bool.false_and]
        · exact h2 t (by omega)
    · subst h5
      have hne : ¬ nI b0 = -1 := nI_m1 (by omega)
      have hlt : (w (16 + 10 * n + 1) < nI b0) = (bn < b0) := by rw [ebn, nI_lt2 (by omega) (by omega)]
      by_cases c1 : w (16 + 10 * n) = kd ∧ bn < b0
      · rw [if_pos ⟨c1.1, Or.inr (by rw [hlt]; exact c1.2)⟩]
        cases c2 : yany (fun m => ywould w n m) (w 97).toNatClampNeg
        · rw [if_neg (by decide)]
          refine Or.inr ⟨t0, b0, by omega, h2, h3, h4, rfl, fun t ht hq => ?_⟩
          by_cases d : t = n
          · rw [d, hT, c2, Bool.and_false] at hq; cases hq
          · exact h6 t (by omega) hq
        · rw [if_pos rfl]
          refine Or.inr ⟨n, bn, by omega, by rw [hT, c2, decide_eq_true c1.1]; rfl, hbn, ebn, ebn, fun t ht hq => ?_⟩
          by_cases d : t = n
          · rw [d, ebn, nI_clamp (by omega)]
            exact Nat.le_refl _
          · have := h6 t (by omega) hq
            omega
      · rw [if_neg (by
          rintro ⟨q1, q2 | q2⟩
          · exact hne q2
          · rw [hlt] at q2; exact c1 ⟨q1, q2⟩)]
        refine Or.inr ⟨t0, b0, by omega, h2, h3, h4, rfl, fun t ht hq => ?_⟩
        by_cases d : t = n
        · subst d
          rw [ebn, nI_clamp (by omega)]
          rw [hT, Bool.and_eq_true, decide_eq_true_eq] at hq
          have : ¬ bn < b0 := fun z => c1 ⟨hq.1, z⟩
          omega
        · exact h6 t (by omega) hq
/-- the least branch with a tool of the kind that would serve -/
def ybrX (w : Nat → Int32) (kd : Int32) : Int32 := match yfind (fun b => yany (fun t => ywouldT w kd t && decide (w (16 + 10 * t + 1) = nI b)) (w 96).toNatClampNeg) 4 with
  | some b => nI b
  | none => -1
theorem ybranchFor_eq {w : Nat → Int32} {kd : Int32} (hb : ybranches w) (hN : (w 96).toNatClampNeg ≤ 8) : ybranchFor w kd = ybrX w kd := by
  have h := ybr_sp (kd := kd) hb _ hN
  rw [show yfold (fun t a => if w (16 + 10 * t) = kd ∧ (a = -1 ∨ w (16 + 10 * t + 1) < a) then yfold (fun m a => if ywould w t m = true then w (16 + 10 * t + 1) else a) a (w 97).toNatClampNeg else a) (-1) (w 96).toNatClampNeg = ybranchFor w kd from rfl] at h
  unfold ybrX
  rcases h with ⟨h1, h2⟩ | ⟨t0, b0, h1, h2, h3, h4, h5, h6⟩
  · rw [h1, yfind_n (fun b hb4 => by
      cases c : yany (fun t => ywouldT w kd t && decide (w (16 + 10 * t + 1) = nI b)) (w 96).toNatClampNeg
      · rfl
      · obtain ⟨t, ht, q⟩ := yany_iff.mp c
        rw [h2 t ht] at q
        cases q)]
  · rw [h5, yfind_s (Q := fun b => yany (fun t => ywouldT w kd t && decide (w (16 + 10 * t + 1) = nI b)) (w 96).toNatClampNeg) (k := b0) h3 (yany_iff.mpr ⟨t0, h1, by rw [h2, decide_eq_true h4]; rfl⟩) (fun b hbl => by
      cases c : yany (fun t => ywouldT w kd t && decide (w (16 + 10 * t + 1) = nI b)) (w 96).toNatClampNeg
      · rfl
      · obtain ⟨t, ht, q⟩ := yany_iff.mp c
        rw [Bool.and_eq_true, decide_eq_true_eq] at q
        have := h6 t ht q.1
        rw [q.2, nI_clamp (by omega)] at this
        omega)]
