/-! plain laws: which few tools stop it -/
def ydiff (a b : Nat) : Nat := a ^^^ (a &&& b)
theorem ydiff_b {a b t : Nat} : (ydiff a b).testBit t = (a.testBit t && !b.testBit t) := by
  unfold ydiff
  rw [Nat.testBit_xor, Nat.testBit_and]
  cases a.testBit t <;> cases b.testBit t <;> rfl
def yones (S : Nat) : Nat := ynf (fun i => if S.testBit i = true then 1 else 0) 8
theorem ycount_ones : ∀ S, S < 256 → ycount (nI S) = nI (yones S) := by decide +kernel
theorem yones_le {S : Nat} : yones S ≤ 8 := by
  unfold yones
  have := ynf_le (f := fun i => if S.testBit i = true then 1 else 0) (g := fun _ => 1) 8 (fun i hi => by split <;> omega)
  exact this
theorem yones_sub {S T : Nat} (hT : T < 256) (h : ∀ t, S.testBit t = true → T.testBit t = true) : yones S < yones T ∨ S = T := by
  by_cases e : S = T
  · exact Or.inr e
  · left
    obtain ⟨t, ht⟩ : ∃ t, S.testBit t ≠ T.testBit t := by
      by_cases c : ∃ t, S.testBit t ≠ T.testBit t
      · exact c
      · exact absurd (Nat.eq_of_testBit_eq (fun i => Classical.byContradiction (fun q => c ⟨i, q⟩))) e
    have hTt : T.testBit t = true := by
      cases c : T.testBit t
      · cases d : S.testBit t
        · rw [c, d] at ht; exact absurd rfl ht
        · have := h t d; rw [c] at this; cases this
      · rfl
    have hSt : S.testBit t = false := by
      cases d : S.testBit t
      · rfl
      · rw [hTt, d] at ht; exact absurd rfl ht
    have ht8 : t < 8 := by
      by_cases c : t < 8
      · exact c
      · rw [Nat.testBit_lt_two_pow (Nat.lt_of_lt_of_le hT (Nat.pow_le_pow_right (show 0 < 2 by omega) (show 8 ≤ t by omega)))] at hTt
        cases hTt
    unfold yones
    refine ynf_lt (k := t) 8 ht8 (fun i hi => ?_) (by rw [hSt, hTt]; decide)
    cases d : S.testBit i
    · simp
    · rw [h i d]; simp
/-- first by how many, then by the number -/
def ybef (S T : Nat) : Prop := yones S < yones T ∨ (yones S = yones T ∧ S ≤ T)
theorem yfewest_sp {P : Nat → Bool} : ∀ n, n ≤ 256 → (yfewest P n = -1 ∧ ∀ S, S < n → P S = false) ∨ ∃ S0, S0 < n ∧ P S0 = true ∧ yfewest P n = nI S0 ∧ ∀ S, S < n → P S = true → ybef S0 S
  | 0, _ => Or.inl ⟨rfl, fun S h => absurd h (Nat.not_lt_zero _)⟩
  | n + 1, hn => by
    have ih := yfewest_sp (P := P) n (by omega)
    have e : yfewest P (n + 1) = if P n = true ∧ (yfewest P n = -1 ∨ ycount (nI n) < ycount (yfewest P n)) then nI n else yfewest P n := rfl
    rw [e]
    rcases ih with ⟨h1, h2⟩ | ⟨S0, h1, h2, h3, h4⟩
    · rw [h1]
      cases c : P n
      · rw [if_neg (fun q => by cases q.1)]
        refine Or.inl ⟨rfl, fun S hS => ?_⟩
        by_cases d : S = n
        · rw [d]; exact c
        · exact h2 S (by omega)
      · rw [if_pos ⟨rfl, Or.inl rfl⟩]
        refine Or.inr ⟨n, by omega, c, rfl, fun S hS hP => ?_⟩
        by_cases d : S = n
        · rw [d]; exact Or.inr ⟨rfl, Nat.le_refl _⟩
        · have := h2 S (by omega)
          rw [hP] at this; cases this
    · rw [h3]
      have hne : ¬ nI S0 = -1 := nI_m1 (by omega)
      have l1 := yones_le (S := n)
      have l2 := yones_le (S := S0)
      have hlt : (ycount (nI n) < ycount (nI S0)) = (yones n < yones S0) := by
        rw [ycount_ones n (by omega), ycount_ones S0 (by omega), nI_lt2 (by omega) (by omega)]
      by_cases c : P n = true ∧ yones n < yones S0
      · rw [if_pos ⟨c.1, Or.inr (by rw [hlt]; exact c.2)⟩]
        refine Or.inr ⟨n, by omega, c.1, rfl, fun S hS hP => ?_⟩
        by_cases d : S = n
        · rw [d]; exact Or.inr ⟨rfl, Nat.le_refl _⟩
        · have := h4 S (by omega) hP
          unfold ybef at this ⊢
          omega
      · rw [if_neg (by
          rintro ⟨q1, q2⟩
          rcases q2 with q2 | q2
          · exact hne q2
          · rw [hlt] at q2; exact c ⟨q1, q2⟩)]
        refine Or.inr ⟨S0, by omega, h2, rfl, fun S hS hP => ?_⟩
        by_cases d : S = n
        · subst d
          have : ¬ yones S < yones S0 := fun q => c ⟨hP, q⟩
          unfold ybef
          omega
        · exact h4 S (by omega) hP
theorem ystop_sp {w : Nat → Int32} (hN : (w 96).toNatClampNeg ≤ 8) : ∀ n, (yfold (fun i b => if ydoneB w i = true then b else if b = -1 ∨ ycount (ytoolsFor w (w (142 + 3 * i))) < ycount b ∨ (ycount (ytoolsFor w (w (142 + 3 * i))) = ycount b ∧ ytoolsFor w (w (142 + 3 * i)) < b) then ytoolsFor w (w (142 + 3 * i)) else b) (-1) n = -1 ∧ ∀ i, i < n → ydoneB w i = true) ∨ ∃ i0, i0 < n ∧ ydoneB w i0 = false ∧ yfold (fun i b => if ydoneB w i = true then b else if b = -1 ∨ ycount (ytoolsFor w (w (142 + 3 * i))) < ycount b ∨ (ycount (ytoolsFor w (w (142 + 3 * i))) = ycount b ∧ ytoolsFor w (w (142 + 3 * i)) < b) then ytoolsFor w (w (142 + 3 * i)) else b) (-1) n = nI (yTF w (w (142 + 3 * i0))) ∧ ∀ i, i < n → ydoneB w i = false → ybef (yTF w (w (142 + 3 * i0))) (yTF w (w (142 + 3 * i))) := by
  have hTl : ∀ kd, yTF w kd < 256 := fun kd => by
    have h1 : yTF w kd < 2 ^ (w 96).toNatClampNeg := by unfold yTF; exact ybits_lt _
    have := (ypow_le (show (w 96).toNatClampNeg < 9 by omega)).2
    omega
  simp only [ytoolsFor_eq hN]
  intro n
  induction n with
  | zero => exact Or.inl ⟨rfl, fun i h => absurd h (Nat.not_lt_zero _)⟩
  | succ n ih =>
    rw [yfold_s]
    generalize yfold (fun i b => if ydoneB w i = true then b else if b = -1 ∨ ycount (nI (yTF w (w (142 + 3 * i)))) < ycount b ∨ (ycount (nI (yTF w (w (142 + 3 * i)))) = ycount b ∧ nI (yTF w (w (142 + 3 * i))) < b) then nI (yTF w (w (142 + 3 * i))) else b) (-1) n = b at ih ⊢
    have hT := hTl (w (142 + 3 * n))
    rcases ih with ⟨h1, h2⟩ | ⟨i0, h1, h2, h3, h4⟩
    · subst h1
      cases c : ydoneB w n
      · rw [if_neg (by decide), if_pos (Or.inl rfl)]
        refine Or.inr ⟨n, by omega, c, rfl, fun i hi hd => ?_⟩
        by_cases d : i = n
        · rw [d]; exact Or.inr ⟨rfl, Nat.le_refl _⟩
        · have := h2 i (by omega)
          rw [hd] at this; cases this
      · rw [if_pos rfl]
        refine Or.inl ⟨rfl, fun i hi => ?_⟩
        by_cases d : i = n
        · rw [d]; exact c
        · exact h2 i (by omega)
    · subst h3
      have hT0 := hTl (w (142 + 3 * i0))
      cases c : ydoneB w n
      · rw [if_neg (by decide)]
        have hne : ¬ nI (yTF w (w (142 + 3 * i0))) = -1 := nI_m1 (by omega)
        have l1 := yones_le (S := yTF w (w (142 + 3 * n)))
        have l2 := yones_le (S := yTF w (w (142 + 3 * i0)))
        have g1 := nI_lt2 (a := yones (yTF w (w (142 + 3 * n)))) (b := yones (yTF w (w (142 + 3 * i0)))) (by omega) (by omega)
        have g2 := nI_eq2 (a := yones (yTF w (w (142 + 3 * n)))) (b := yones (yTF w (w (142 + 3 * i0)))) (by omega) (by omega)
        have g3 := nI_lt2 (a := yTF w (w (142 + 3 * n))) (b := yTF w (w (142 + 3 * i0))) (by omega) (by omega)
        simp only [ycount_ones _ hT, ycount_ones _ hT0, g1, g2, g3]
        by_cases q : yones (yTF w (w (142 + 3 * n))) < yones (yTF w (w (142 + 3 * i0))) ∨ (yones (yTF w (w (142 + 3 * n))) = yones (yTF w (w (142 + 3 * i0))) ∧ yTF w (w (142 + 3 * n)) < yTF w (w (142 + 3 * i0)))
        · rw [if_pos (Or.inr q)]
          refine Or.inr ⟨n, by omega, c, rfl, fun i hi hd => ?_⟩
          by_cases d : i = n
          · rw [d]; exact Or.inr ⟨rfl, Nat.le_refl _⟩
          · have := h4 i (by omega) hd
            unfold ybef at this ⊢
            omega
        · rw [if_neg (fun z => z.elim hne q)]
          refine Or.inr ⟨i0, by omega, h2, rfl, fun i hi hd => ?_⟩
          by_cases d : i = n
          · subst d
            unfold ybef
            omega
          · exact h4 i (by omega) hd
      · rw [if_pos rfl]
        refine Or.inr ⟨i0, by omega, h2, rfl, fun i hi hd => ?_⟩
        by_cases d : i = n
        · rw [d, c] at hd; cases hd
        · exact h4 i (by omega) hd
theorem ystopB_iff {w : Nat → Int32} (hk : ykinds w) (hN : (w 96).toNatClampNeg ≤ 8) {S : Nat} : (!ygoesK w (ydiff (yserT w) S)) = true ↔ ∃ i, i < (w 98).toNatClampNeg ∧ ydoneB w i = false ∧ ∀ t, (yTF w (w (142 + 3 * i))).testBit t = true → S.testBit t = true := by
  have e : ydiff (yserT w) S = yserT w &&& ydiff (2 ^ (w 96).toNatClampNeg - 1) S := by
    refine Nat.eq_of_testBit_eq (fun t => ?_)
    rw [ydiff_b, Nat.testBit_and, ydiff_b, Nat.testBit_two_pow_sub_one]
    unfold yserT
    rw [ybits_b]
    by_cases h : t < (w 96).toNatClampNeg <;> simp [h]
  rw [e, Bool.not_eq_true', ← Bool.not_eq_true, ygoesK_iff hk]
  constructor
  · intro h
    refine Classical.byContradiction (fun q => h (fun i hi hd => ?_))
    refine Classical.byContradiction (fun z => q ⟨i, hi, hd, fun t ht => ?_⟩)
    cases c : S.testBit t
    · refine absurd ⟨t, ?_, ht⟩ z
      rw [ydiff_b, Nat.testBit_two_pow_sub_one, c]
      have := ht
      rw [yTF_b, Bool.and_eq_true] at this
      have h2 := this.1
      unfold yserT at h2
      rw [ybits_b, Bool.and_eq_true] at h2
      rw [h2.1]
      rfl
    · rfl
  · rintro ⟨i, hi, hd, h⟩ q
    obtain ⟨t, h1, h2⟩ := q i hi hd
    have := h t h2
    rw [ydiff_b, this] at h1
    simp at h1
theorem ystop_eq {w : Nat → Int32} (hk : ykinds w) (hN : (w 96).toNatClampNeg ≤ 8) : ystop w = yfewest (fun S => !ygoesK w (ydiff (yserT w) S)) (2 ^ (w 96).toNatClampNeg) := by
  have hp := (ypow_le (show (w 96).toNatClampNeg < 9 by omega)).2
  have hTn : ∀ kd, yTF w kd < 2 ^ (w 96).toNatClampNeg := fun kd => by unfold yTF; exact ybits_lt _
  have h1 := yfewest_sp (P := fun S => !ygoesK w (ydiff (yserT w) S)) (2 ^ (w 96).toNatClampNeg) hp
  have h2 := ystop_sp hN (w 98).toNatClampNeg
  rw [show yfold (fun i b => if ydoneB w i = true then b else if b = -1 ∨ ycount (ytoolsFor w (w (142 + 3 * i))) < ycount b ∨ (ycount (ytoolsFor w (w (142 + 3 * i))) = ycount b ∧ ytoolsFor w (w (142 + 3 * i)) < b) then ytoolsFor w (w (142 + 3 * i)) else b) (-1) (w 98).toNatClampNeg = ystop w from rfl] at h2
  rcases h2 with ⟨a1, a2⟩ | ⟨i0, a1, a2, a3, a4⟩
  · rcases h1 with ⟨b1, b2⟩ | ⟨S0, b1, b2, b3, b4⟩
    · rw [a1, b1]
    · obtain ⟨i, hi, hd, -⟩ := (ystopB_iff hk hN).mp b2
      rw [a2 i hi] at hd
      cases hd
  · have hst : (!ygoesK w (ydiff (yserT w) (yTF w (w (142 + 3 * i0))))) = true := (ystopB_iff hk hN).mpr ⟨i0, a1, a2, fun t ht => ht⟩
    rcases h1 with ⟨b1, b2⟩ | ⟨S0, b1, b2, b3, b4⟩
    · have := b2 _ (hTn (w (142 + 3 * i0)))
      rw [hst] at this
      cases this
    · rw [a3, b3]
      obtain ⟨i, hi, hd, hs⟩ := (ystopB_iff hk hN).mp b2
      have c1 := b4 _ (hTn (w (142 + 3 * i0))) hst
      have c2 := a4 i hi hd
      have c3 := yones_sub (S := yTF w (w (142 + 3 * i))) (T := S0) (by omega) hs
      congr 1
      unfold ybef at c1 c2
      rcases c3 with c3 | c3
      · omega
      · rw [c3] at c2
        omega
