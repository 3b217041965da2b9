/-! works that go together: one more work -/
theorem yb1 {a i : Nat} (hi : i < 32) : ((nI a >>> (nI i &&& 31)) &&& 1 = 1) = (a.testBit i = true) := by
  rw [← ybit_nI hi]
  unfold ybit
  rw [decide_eq_true_eq]
def yfoldp {α : Type} (f : Nat → α → α) (a : α) : Nat → α
  | 0 => a
  | n + 1 => f n (yfoldp f a n)
theorem yfoldp_s {α : Type} {f : Nat → α → α} {a : α} {n : Nat} : yfoldp f a (n + 1) = f n (yfoldp f a n) := rfl
abbrev yRB : Type := (Nat → Int32) × Int32
def yTm1 (srv : Nat → Int32) (s t m : Nat) (p : yRB) : yRB := if s.testBit (8 + m) = true ∨ srv (4 * t + m) = 0 then p else (upd p.1 (s ||| 2 ^ t ||| 2 ^ (8 + m)) 1, 1)
def yTt1 (w srv : Nat → Int32) (kd : Int32) (M s t : Nat) (p : yRB) : yRB := if s.testBit t = true ∨ ¬ w (16 + 10 * t) = kd then p else yfoldp (yTm1 srv s t) p M
def yTs1 (w srv : Nat → Int32) (kd : Int32) (N M j : Nat) (p : yRB) : yRB := if p.1 (4095 - j) = 0 then p else yfoldp (yTt1 w srv kd M (4095 - j)) (upd p.1 (4095 - j) 0, p.2) N
def yTakes (w srv : Nat → Int32) (kd : Int32) (N M : Nat) (R : Nat → Int32) : yRB := yfoldp (yTs1 w srv kd N M) (R, 0) 4096
/-- a state is gone on from by one more work of a kind -/
def ygoes (w srv : Nat → Int32) (kd : Int32) (N M s x : Nat) : Prop := ∃ t m, t < N ∧ m < M ∧ s.testBit t = false ∧ w (16 + 10 * t) = kd ∧ s.testBit (8 + m) = false ∧ ¬ srv (4 * t + m) = 0 ∧ x = s ||| 2 ^ t ||| 2 ^ (8 + m)
theorem yTm_sp {srv : Nat → Int32} {s t : Nat} {p : yRB} : ∀ M, (∀ x, ¬ (yfoldp (yTm1 srv s t) p M).1 x = 0 ↔ (¬ p.1 x = 0 ∨ ∃ m, m < M ∧ s.testBit (8 + m) = false ∧ ¬ srv (4 * t + m) = 0 ∧ x = s ||| 2 ^ t ||| 2 ^ (8 + m))) ∧ (¬ (yfoldp (yTm1 srv s t) p M).2 = 0 ↔ (¬ p.2 = 0 ∨ ∃ m, m < M ∧ s.testBit (8 + m) = false ∧ ¬ srv (4 * t + m) = 0))
  | 0 => ⟨fun x => ⟨Or.inl, fun h => h.elim id (fun ⟨_, h, _⟩ => absurd h (Nat.not_lt_zero _))⟩, ⟨Or.inl, fun h => h.elim id (fun ⟨_, h, _⟩ => absurd h (Nat.not_lt_zero _))⟩⟩
  | M + 1 => by
    obtain ⟨h1, h2⟩ := yTm_sp (srv := srv) (s := s) (t := t) (p := p) M
    rw [yfoldp_s]
    generalize yfoldp (yTm1 srv s t) p M = q at h1 h2 ⊢
    unfold yTm1
    by_cases c : s.testBit (8 + M) = true ∨ srv (4 * t + M) = 0
    · rw [if_pos c]
      have hno : ¬ (s.testBit (8 + M) = false ∧ ¬ srv (4 * t + M) = 0) := by
        rintro ⟨a, b⟩
        rcases c with c | c
        · rw [a] at c; cases c
        · exact b c
      constructor
      · intro x
        rw [h1]
        constructor
        · rintro (h | ⟨m, a, b⟩)
          · exact Or.inl h
          · exact Or.inr ⟨m, by omega, b⟩
        · rintro (h | ⟨m, a, b, d, e⟩)
          · exact Or.inl h
          · by_cases k : m = M
            · subst k; exact absurd ⟨b, d⟩ hno
            · exact Or.inr ⟨m, by omega, b, d, e⟩
      · rw [h2]
        constructor
        · rintro (h | ⟨m, a, b⟩)
          · exact Or.inl h
          · exact Or.inr ⟨m, by omega, b⟩
        · rintro (h | ⟨m, a, b, d⟩)
          · exact Or.inl h
          · by_cases k : m = M
            · subst k; exact absurd ⟨b, d⟩ hno
            · exact Or.inr ⟨m, by omega, b, d⟩
    · rw [if_neg c]
      have hyes : s.testBit (8 + M) = false ∧ ¬ srv (4 * t + M) = 0 := ⟨by
        cases k : s.testBit (8 + M)
        · rfl
        · exact absurd (Or.inl k) c, fun k => c (Or.inr k)⟩
      dsimp only
      constructor
      · intro x
        by_cases e : x = s ||| 2 ^ t ||| 2 ^ (8 + M)
        · subst e
          rw [upd_s]
          exact ⟨fun _ => Or.inr ⟨M, by omega, hyes.1, hyes.2, rfl⟩, fun _ => by decide⟩
        · rw [upd_n e, h1]
          constructor
          · rintro (h | ⟨m, a, b⟩)
            · exact Or.inl h
            · exact Or.inr ⟨m, by omega, b⟩
          · rintro (h | ⟨m, a, b, d, f⟩)
            · exact Or.inl h
            · by_cases k : m = M
              · subst k; exact absurd f e
              · exact Or.inr ⟨m, by omega, b, d, f⟩
      · exact ⟨fun _ => Or.inr ⟨M, by omega, hyes⟩, fun _ => by decide⟩
theorem yTt_sp {w srv : Nat → Int32} {kd : Int32} {M s : Nat} {p : yRB} : ∀ N, (∀ x, ¬ (yfoldp (yTt1 w srv kd M s) p N).1 x = 0 ↔ (¬ p.1 x = 0 ∨ ygoes w srv kd N M s x)) ∧ (¬ (yfoldp (yTt1 w srv kd M s) p N).2 = 0 ↔ (¬ p.2 = 0 ∨ ∃ x, ygoes w srv kd N M s x))
  | 0 => ⟨fun x => ⟨Or.inl, fun h => h.elim id (fun ⟨_, _, h, _⟩ => absurd h (Nat.not_lt_zero _))⟩, ⟨Or.inl, fun h => h.elim id (fun ⟨_, _, _, h, _⟩ => absurd h (Nat.not_lt_zero _))⟩⟩
  | N + 1 => by
    obtain ⟨h1, h2⟩ := yTt_sp (w := w) (srv := srv) (kd := kd) (M := M) (s := s) (p := p) N
    rw [yfoldp_s]
    generalize yfoldp (yTt1 w srv kd M s) p N = q at h1 h2 ⊢
    unfold yTt1
    have up : ∀ x, ygoes w srv kd N M s x → ygoes w srv kd (N + 1) M s x := fun x ⟨t, m, a, b⟩ => ⟨t, m, by omega, b⟩
    by_cases c : s.testBit N = true ∨ ¬ w (16 + 10 * N) = kd
    · rw [if_pos c]
      have dn : ∀ x, ygoes w srv kd (N + 1) M s x → ygoes w srv kd N M s x := by
        rintro x ⟨t, m, a, b, d, e, f⟩
        by_cases k : t = N
        · subst k
          rcases c with c | c
          · rw [d] at c; cases c
          · exact absurd e c
        · exact ⟨t, m, by omega, b, d, e, f⟩
      exact ⟨fun x => (h1 x).trans ⟨fun h => h.imp id (up x), fun h => h.imp id (dn x)⟩, h2.trans ⟨fun h => h.imp id (fun ⟨x, h⟩ => ⟨x, up x h⟩), fun h => h.imp id (fun ⟨x, h⟩ => ⟨x, dn x h⟩)⟩⟩
    · rw [if_neg c]
      have hyes : s.testBit N = false ∧ w (16 + 10 * N) = kd := ⟨by
        cases k : s.testBit N
        · rfl
        · exact absurd (Or.inl k) c, Decidable.byContradiction (fun k => c (Or.inr k))⟩
      obtain ⟨g1, g2⟩ := yTm_sp (srv := srv) (s := s) (t := N) (p := q) M
      have dn : ∀ x, ygoes w srv kd (N + 1) M s x → ygoes w srv kd N M s x ∨ ∃ m, m < M ∧ s.testBit (8 + m) = false ∧ ¬ srv (4 * N + m) = 0 ∧ x = s ||| 2 ^ N ||| 2 ^ (8 + m) := by
        rintro x ⟨t, m, a, b, d, e, f, g, h⟩
        by_cases k : t = N
        · subst k; exact Or.inr ⟨m, b, f, g, h⟩
        · exact Or.inl ⟨t, m, by omega, b, d, e, f, g, h⟩
      constructor
      · intro x
        rw [g1, h1]
        constructor
        · rintro ((h | h) | ⟨m, a, b, d, e⟩)
          · exact Or.inl h
          · exact Or.inr (up x h)
          · exact Or.inr ⟨N, m, by omega, a, hyes.1, hyes.2, b, d, e⟩
        · rintro (h | h)
          · exact Or.inl (Or.inl h)
          · exact (dn x h).elim (fun h => Or.inl (Or.inr h)) Or.inr
      · rw [g2, h2]
        constructor
        · rintro ((h | ⟨x, h⟩) | ⟨m, a, b, d⟩)
          · exact Or.inl h
          · exact Or.inr ⟨x, up x h⟩
          · exact Or.inr ⟨_, N, m, by omega, a, hyes.1, hyes.2, b, d, rfl⟩
        · rintro (h | ⟨x, h⟩)
          · exact Or.inl (Or.inl h)
          · rcases dn x h with h | ⟨m, a, b, d, e⟩
            · exact Or.inl (Or.inr ⟨x, h⟩)
            · exact Or.inr ⟨m, a, b, d⟩
theorem ygoes_lt {w srv : Nat → Int32} {kd : Int32} {N M s x : Nat} (hN : N ≤ 8) (hM : M ≤ 4) (hs : s < 4096) (h : ygoes w srv kd N M s x) : s < x ∧ x < 4096 := by
  obtain ⟨t, m, a, b, d, e, f, g, rfl⟩ := h
  have h1 : s ||| 2 ^ t < 2 ^ 12 := yor_lt (N := 12) hs (by omega)
  have h2 : s ||| 2 ^ t ||| 2 ^ (8 + m) < 2 ^ 12 := yor_lt (N := 12) h1 (by omega)
  refine ⟨?_, h2⟩
  have l1 : s ≤ s ||| 2 ^ t := Nat.left_le_or
  have l2 : s ||| 2 ^ t ≤ s ||| 2 ^ t ||| 2 ^ (8 + m) := Nat.left_le_or
  have ne : s ||| 2 ^ t ≠ s := by
    intro e
    have h2 : (s ||| 2 ^ t).testBit t = true := by
      rw [Nat.testBit_or, Nat.testBit_two_pow_self]; simp
    rw [e, d] at h2
    cases h2
  omega
theorem yTakes_sp {w srv : Nat → Int32} {kd : Int32} {N M : Nat} {R : Nat → Int32} (hN : N ≤ 8) (hM : M ≤ 4) : ∀ j, j ≤ 4096 → (∀ x, x < 4096 → (¬ (yfoldp (yTs1 w srv kd N M) (R, 0) j).1 x = 0 ↔ ((x + j < 4096 ∧ ¬ R x = 0) ∨ ∃ s, 4096 ≤ s + j ∧ s < 4096 ∧ ¬ R s = 0 ∧ ygoes w srv kd N M s x))) ∧ (¬ (yfoldp (yTs1 w srv kd N M) (R, 0) j).2 = 0 ↔ ∃ s x, 4096 ≤ s + j ∧ s < 4096 ∧ ¬ R s = 0 ∧ ygoes w srv kd N M s x)
  | 0, _ => by
    refine ⟨fun x hx => ⟨fun h => Or.inl ⟨hx, h⟩, ?_⟩, ?_⟩
    · rintro (h | ⟨s, a, b, _⟩)
      · exact h.2
      · omega
    · constructor
      · intro h; exact absurd rfl h
      · rintro ⟨s, x, a, b, _⟩; omega
  | j + 1, hj => by
    obtain ⟨h1, h2⟩ := yTakes_sp (w := w) (srv := srv) (kd := kd) (R := R) hN hM j (by omega)
    rw [yfoldp_s]
    generalize yfoldp (yTs1 w srv kd N M) (R, 0) j = q at h1 h2 ⊢
    unfold yTs1
    have hz : 4095 - j < 4096 := by omega
    have hzj : 4095 - j + (j + 1) = 4096 := by omega
    generalize 4095 - j = z at hz hzj ⊢
    have hqz : (¬ q.1 z = 0) ↔ ¬ R z = 0 := by
      rw [h1 z hz]
      constructor
      · rintro (h | ⟨s, a, b, d, e⟩)
        · exact h.2
        · have := (ygoes_lt hN hM b e).1; omega
      · intro h; exact Or.inl ⟨by omega, h⟩
    by_cases c : q.1 z = 0
    · rw [if_pos c]
      have hRz : R z = 0 := by
        by_cases k : R z = 0
        · exact k
        · exact absurd c (hqz.mpr k)
      constructor
      · intro x hx
        rw [h1 x hx]
        constructor
        · rintro (⟨a, b⟩ | ⟨s, a, b⟩)
          · by_cases k : x = z
            · subst k; exact absurd hRz b
            · exact Or.inl ⟨by omega, b⟩
          · exact Or.inr ⟨s, by omega, b⟩
        · rintro (⟨a, b⟩ | ⟨s, a, b, d, e⟩)
          · exact Or.inl ⟨by omega, b⟩
          · by_cases k : s = z
            · subst k; exact absurd hRz d
            · exact Or.inr ⟨s, by omega, b, d, e⟩
      · rw [h2]
        constructor
        · rintro ⟨s, x, a, b⟩; exact ⟨s, x, by omega, b⟩
        · rintro ⟨s, x, a, b, d, e⟩
          by_cases k : s = z
          · subst k; exact absurd hRz d
          · exact ⟨s, x, by omega, b, d, e⟩
    · rw [if_neg c]
      have hRz := hqz.mp c
      obtain ⟨g1, g2⟩ := yTt_sp (w := w) (srv := srv) (kd := kd) (M := M) (s := z) (p := (upd q.1 z 0, q.2)) N
      constructor
      · intro x hx
        rw [g1]
        dsimp only
        by_cases k : x = z
        · subst k
          rw [upd_s]
          constructor
          · rintro (h | h)
            · exact absurd rfl h
            · exact absurd (ygoes_lt hN hM hz h).1 (Nat.lt_irrefl _)
          · rintro (⟨a, b⟩ | ⟨s, a, b, d, e⟩)
            · omega
            · have := (ygoes_lt hN hM b e).1; omega
        · rw [upd_n k, h1 x hx]
          constructor
          · rintro ((⟨a, b⟩ | ⟨s, a, b⟩) | h)
            · exact Or.inl ⟨by omega, b⟩
            · exact Or.inr ⟨s, by omega, b⟩
            · exact Or.inr ⟨z, by omega, hz, hRz, h⟩
          · rintro (⟨a, b⟩ | ⟨s, a, b, d, e⟩)
            · exact Or.inl (Or.inl ⟨by omega, b⟩)
            · by_cases k : s = z
              · subst k; exact Or.inr e
              · exact Or.inl (Or.inr ⟨s, by omega, b, d, e⟩)
      · rw [g2]
        dsimp only
        rw [h2]
        constructor
        · rintro (⟨s, x, a, b⟩ | ⟨x, h⟩)
          · exact ⟨s, x, by omega, b⟩
          · exact ⟨z, x, by omega, hz, hRz, h⟩
        · rintro ⟨s, x, a, b, d, e⟩
          by_cases k : s = z
          · subst k; exact Or.inr ⟨x, e⟩
          · exact Or.inl ⟨s, x, by omega, b, d, e⟩
theorem yTakes_01 {w srv : Nat → Int32} {kd : Int32} {N M : Nat} {R : Nat → Int32} : (yTakes w srv kd N M R).2 = 0 ∨ (yTakes w srv kd N M R).2 = 1 := by
  have i1 : ∀ s t M p, (p.2 = 0 ∨ p.2 = 1) → ((yfoldp (yTm1 srv s t) p M).2 = 0 ∨ (yfoldp (yTm1 srv s t) p M).2 = 1) := by
    intro s t M p hp
    induction M with
    | zero => exact hp
    | succ M ih =>
      rw [yfoldp_s]
      unfold yTm1 at *
      split
      · exact ih
      · exact Or.inr rfl
  have i2 : ∀ s N p, (p.2 = 0 ∨ p.2 = 1) → ((yfoldp (yTt1 w srv kd M s) p N).2 = 0 ∨ (yfoldp (yTt1 w srv kd M s) p N).2 = 1) := by
    intro s N p hp
    induction N with
    | zero => exact hp
    | succ N ih =>
      rw [yfoldp_s]
      generalize yfoldp (yTt1 w srv kd M s) p N = q at ih ⊢
      unfold yTt1
      split
      · exact ih
      · exact i1 _ _ _ _ ih
  have i3 : ∀ j, (yfoldp (yTs1 w srv kd N M) (R, 0) j).2 = 0 ∨ (yfoldp (yTs1 w srv kd N M) (R, 0) j).2 = 1 := by
    intro j
    induction j with
    | zero => exact Or.inl rfl
    | succ j ih =>
      rw [yfoldp_s]
      generalize yfoldp (yTs1 w srv kd N M) (R, 0) j = q at ih ⊢
      unfold yTs1
      split
      · exact ih
      · exact i2 _ _ _ ih
  exact i3 4096
