/-! plain laws: works in one hour, by trying -/
/-- going on from s by the works of set from i on, f of them looked at -/
def ygoP (w srv : Nat → Int32) (N M set : Nat) : Nat → Nat → Nat → Prop
  | 0, _, _ => True
  | f + 1, i, s => if set.testBit i = true then ∃ x, ygoes w srv (w (142 + 3 * i)) N M s x ∧ ygoP w srv N M set f (i + 1) x else ygoP w srv N M set f (i + 1) s
theorem ytogF_go {w srv : Nat → Int32} {N M set : Nat} (hN : N ≤ 8) (hM : M ≤ 4) : ∀ f i, (∃ x, ytogF w srv N M set (i + f) x) ↔ ∃ x, ytogF w srv N M set i x ∧ ygoP w srv N M set f i x
  | 0, i => ⟨fun ⟨x, h⟩ => ⟨x, h, trivial⟩, fun ⟨x, h, _⟩ => ⟨x, h⟩⟩
  | f + 1, i => by
    rw [show i + (f + 1) = i + 1 + f by omega, ytogF_go hN hM f (i + 1)]
    constructor
    · rintro ⟨x, h, g⟩
      unfold ytogF at h
      by_cases c : set.testBit i = true
      · rw [if_pos c] at h
        obtain ⟨s, h1, h2, h3⟩ := h
        refine ⟨s, h2, ?_⟩
        unfold ygoP
        rw [if_pos c]
        exact ⟨x, h3, g⟩
      · rw [if_neg c] at h
        refine ⟨x, h, ?_⟩
        unfold ygoP
        rw [if_neg c]
        exact g
    · rintro ⟨s, h, g⟩
      unfold ygoP at g
      by_cases c : set.testBit i = true
      · rw [if_pos c] at g
        obtain ⟨x, h3, g⟩ := g
        refine ⟨x, ?_, g⟩
        unfold ytogF
        rw [if_pos c]
        exact ⟨s, ytogF_lt hN hM i s h, h, h3⟩
      · rw [if_neg c] at g
        refine ⟨s, ?_, g⟩
        unfold ytogF
        rw [if_neg c]
        exact h
theorem ytog_go {w srv : Nat → Int32} {N M W set : Nat} (hN : N ≤ 8) (hM : M ≤ 4) : ytog w srv N M W set = true ↔ ygoP w srv N M set W 0 0 := by
  unfold ytog
  rw [ydc_iff]
  have := ytogF_go (w := w) (srv := srv) (set := set) hN hM W 0
  rw [Nat.zero_add] at this
  rw [this]
  exact ⟨fun ⟨x, h, g⟩ => by rw [show x = 0 from h] at g; exact g, fun g => ⟨0, rfl, g⟩⟩
/-- the lowest place of a set -/
def ylow (set : Nat) : Nat := yfst (fun i => set.testBit i) 8
theorem ylow_sp {set : Nat} (h : set ≠ 0) (hl : set < 256) : ylow set < 8 ∧ set.testBit (ylow set) = true ∧ ∀ i, i < ylow set → set.testBit i = false := by
  obtain ⟨i, hi⟩ := Nat.exists_testBit_of_ne_zero h
  have hi8 : i < 8 := by
    by_cases c : i < 8
    · exact c
    · rw [Nat.testBit_lt_two_pow (Nat.lt_of_lt_of_le hl (Nat.pow_le_pow_right (show 0 < 2 by omega) (show 8 ≤ i by omega)))] at hi
      cases hi
  have hle : ylow set ≤ i := yfst_of (Q := fun i => set.testBit i) hi8 hi
  have hlt : ylow set < 8 := by omega
  exact ⟨hlt, yfst_at (Q := fun i => set.testBit i) hlt, fun j hj => yfst_lt (Q := fun i => set.testBit i) (n := 8) hj⟩
/-- without the lowest -/
def yrest (set : Nat) : Nat := set &&& (set - 1)
theorem yrest_b : ∀ set, set < 256 → set ≠ 0 → ∀ i, i < 8 → (yrest set).testBit i = (set.testBit i && !decide (i = ylow set)) := by decide +kernel
theorem yrest_lt {set : Nat} (h : set < 256) : yrest set < 256 := Nat.lt_of_le_of_lt Nat.and_le_left h
def ygX (w srv : Nat → Int32) (N M : Nat) : Nat → Nat → Nat → Bool
  | 0, _, _ => true
  | f + 1, set, s => if set = 0 then true else yany (fun t => (!s.testBit t && decide (w (16 + 10 * t) = w (142 + 3 * ylow set))) && yany (fun m => (!s.testBit (8 + m) && !decide (srv (4 * t + m) = 0)) && ygX w srv N M f (yrest set) (s ||| 2 ^ t ||| 2 ^ (8 + m))) M) N
theorem ygoP_skip {w srv : Nat → Int32} {N M set s : Nat} : ∀ d i f, (∀ j, i ≤ j → j < i + d → set.testBit j = false) → (ygoP w srv N M set (d + f) i s ↔ ygoP w srv N M set f (i + d) s)
  | 0, i, f, _ => by rw [Nat.zero_add]; exact Iff.rfl
  | d + 1, i, f, h => by
    rw [show d + 1 + f = (d + f) + 1 by omega]
    unfold ygoP
    rw [if_neg (by rw [h i (Nat.le_refl _) (by omega)]; decide), ygoP_skip d (i + 1) f (fun j h1 h2 => h j (by omega) (by omega)), show i + 1 + d = i + (d + 1) by omega]
    cases f <;> exact Iff.rfl
theorem ygoP_c {w srv : Nat → Int32} {N M set set' : Nat} : ∀ f i s, (∀ j, i ≤ j → j < i + f → set.testBit j = set'.testBit j) → (ygoP w srv N M set f i s ↔ ygoP w srv N M set' f i s)
  | 0, _, _, _ => Iff.rfl
  | f + 1, i, s, h => by
    unfold ygoP
    rw [h i (Nat.le_refl _) (by omega)]
    have ih := fun x => ygoP_c (w := w) (srv := srv) (N := N) (M := M) f (i + 1) x (fun j h1 h2 => h j (by omega) (by omega))
    by_cases c : set'.testBit i = true
    · rw [if_pos c, if_pos c]
      exact ⟨fun ⟨x, a, b⟩ => ⟨x, a, (ih x).mp b⟩, fun ⟨x, a, b⟩ => ⟨x, a, (ih x).mpr b⟩⟩
    · rw [if_neg c, if_neg c]
      exact ih s
theorem ygX_iff {w srv : Nat → Int32} {N M W : Nat} (hW : W ≤ 8) : ∀ f set s, set < 2 ^ W → yones set < f → (ygX w srv N M f set s = true ↔ ygoP w srv N M set W 0 s)
  | 0, _, _, _, h => by omega
  | f + 1, set, s, hs, hf => by
    have h256 : set < 256 := Nat.lt_of_lt_of_le hs (Nat.pow_le_pow_right (show 0 < 2 by omega) hW)
    unfold ygX
    by_cases c : set = 0
    · rw [if_pos c]
      subst c
      have := ygoP_skip (w := w) (srv := srv) (N := N) (M := M) (set := 0) (s := s) W 0 0 (fun j _ _ => Nat.zero_testBit j)
      rw [Nat.add_zero] at this
      rw [this]
      exact ⟨fun _ => trivial, fun _ => rfl⟩
    · rw [if_neg c]
      obtain ⟨l1, l2, l3⟩ := ylow_sp c h256
      have lW : ylow set < W := by
        by_cases d : ylow set < W
        · exact d
        · rw [Nat.testBit_lt_two_pow (Nat.lt_of_lt_of_le hs (Nat.pow_le_pow_right (show 0 < 2 by omega) (show W ≤ ylow set by omega)))] at l2
          cases l2
      have hr256 := yrest_lt h256
      have hrW : yrest set < 2 ^ W := Nat.lt_of_le_of_lt Nat.and_le_left hs
      have hb := yrest_b set h256 c
      have hones : yones (yrest set) < yones set := by
        rcases yones_sub (S := yrest set) (T := set) h256 (fun t ht => by
          have ht2 := ht
          unfold yrest at ht2
          rw [Nat.testBit_and, Bool.and_eq_true] at ht2
          exact ht2.1) with h | h
        · exact h
        · have := hb (ylow set) l1
          rw [h, l2] at this
          simp at this
      have ih := fun x => ygX_iff (w := w) (srv := srv) (N := N) (M := M) hW f (yrest set) x hrW (by omega)
      have e1 : ygoP w srv N M set W 0 s ↔ ∃ x, ygoes w srv (w (142 + 3 * ylow set)) N M s x ∧ ygoP w srv N M set (W - ylow set - 1) (ylow set + 1) x := by
        have := ygoP_skip (w := w) (srv := srv) (N := N) (M := M) (set := set) (s := s) (ylow set) 0 (W - ylow set - 1 + 1) (fun j _ hj => l3 j (by omega))
        rw [show ylow set + (W - ylow set - 1 + 1) = W by omega, Nat.zero_add] at this
        rw [this]
        unfold ygoP
        rw [if_pos l2]
        cases (W - ylow set - 1) <;> exact Iff.rfl
      have e2 : ∀ x, ygoP w srv N M (yrest set) W 0 x ↔ ygoP w srv N M set (W - ylow set - 1) (ylow set + 1) x := by
        intro x
        have := ygoP_skip (w := w) (srv := srv) (N := N) (M := M) (set := yrest set) (s := x) (ylow set + 1) 0 (W - ylow set - 1) (fun j _ hj => by
          rw [hb j (by omega)]
          by_cases d : j = ylow set
          · rw [decide_eq_true d]; simp
          · rw [l3 j (by omega)]; rfl)
        rw [show ylow set + 1 + (W - ylow set - 1) = W by omega, Nat.zero_add] at this
        rw [this]
        refine ygoP_c _ _ _ (fun j h1 h2 => ?_)
        rw [hb j (by omega), decide_eq_false (by omega)]
        simp
      rw [e1, yany_iff]
      constructor
      · rintro ⟨t, ht, h⟩
        rw [Bool.and_eq_true, Bool.and_eq_true, Bool.not_eq_true', decide_eq_true_eq, yany_iff] at h
        obtain ⟨⟨h1, h2⟩, m, hm2, h3⟩ := h
        rw [Bool.and_eq_true, Bool.and_eq_true, Bool.not_eq_true', Bool.not_eq_true', decide_eq_false_iff_not] at h3
        obtain ⟨⟨h4, h5⟩, h6⟩ := h3
        exact ⟨_, ⟨t, m, ht, hm2, h1, h2, h4, h5, rfl⟩, (e2 _).mp ((ih _).mp h6)⟩
      · rintro ⟨x, ⟨t, m, ht, hm2, h1, h2, h4, h5, rfl⟩, g⟩
        refine ⟨t, ht, ?_⟩
        rw [Bool.and_eq_true, Bool.and_eq_true, Bool.not_eq_true', decide_eq_true_eq, yany_iff]
        refine ⟨⟨h1, h2⟩, m, hm2, ?_⟩
        rw [Bool.and_eq_true, Bool.and_eq_true, Bool.not_eq_true', Bool.not_eq_true', decide_eq_false_iff_not]
        exact ⟨⟨h4, h5⟩, (ih _).mpr ((e2 _).mpr g)⟩
