/-! the invariant of a row: single acts -/
/-- the places that the invariant reads -/
def yread (j : Nat) : Prop := j = 2 ∨ 8 ≤ j ∧ j < 16 ∨ 16 ≤ j ∧ j < 96 ∧ ((j - 16) % 10 = 0 ∨ (j - 16) % 10 = 1 ∨ (j - 16) % 10 = 3) ∨ 96 ≤ j ∧ j < 102 ∨ 104 ≤ j ∧ j < 130 ∨ 142 ≤ j ∧ j < 2034
theorem ylawok_mid {w w' : Nat → Int32} {k : Nat} (hk : k ≤ 1) (h0 : w' (100 + k) = w (100 + k)) (h : ∀ j, 266 ≤ j → j < 2034 → w' j = w j) (q : ylawok w k) : ylawok w' k := by
  obtain ⟨q1, q2⟩ := q
  have hl := (zvp_clamp q1 (by decide)).2
  refine ⟨by rw [h0]; exact q1, fun i hi => ?_⟩
  rw [h0] at hi
  obtain ⟨f, c1, c2, e1, e2, e3, hle, g1, g2⟩ := q2 i hi
  refine ⟨f, c1, c2, by rw [h _ (by omega) (by omega)]; exact e1, by rw [h _ (by omega) (by omega)]; exact e2, by rw [h _ (by omega) (by omega)]; exact e3, hle, ?_, ?_⟩
  · rw [ysteps_c c2 (f + c1) (fun x hx => h _ (by omega) (by omega))]; exact g1
  · rw [ysteps_c c1 f (fun x hx => h _ (by omega) (by omega))]; exact g2
theorem yinv.r {w w' : Nat → Int32} (h : ∀ j, yread j → w' j = w j) (q : yinv w) : yinv w' := by
  obtain ⟨⟨a, b, c, d, e1, e2, e3, e4, e5, e6⟩, q2, q3, q4, q5⟩ := q
  have hN := (zvp_clamp e1 (by decide)).2
  have hW := (zvp_clamp e3 (by decide)).2
  have h96 : w' 96 = w 96 := h _ (by unfold yread; omega)
  have h98 : w' 98 = w 98 := h _ (by unfold yread; omega)
  refine ⟨⟨?_, ?_, fun l hl => ?_, fun T hT => ?_, ?_, ?_, ?_, ?_, ?_, ?_⟩, fun i hi => ?_, fun k hk => ?_, ⟨fun t ht => ?_, fun i hi => ?_⟩, fun t ht => ?_⟩
  · exact ylawok_mid (by omega) (h _ (by unfold yread; omega)) (fun j h1 h2 => h j (by unfold yread; omega)) a
  · exact ylawok_mid (by omega) (h _ (by unfold yread; omega)) (fun j h1 h2 => h j (by unfold yread; omega)) b
  · obtain ⟨f1, f2, f3⟩ := c l hl
    exact ⟨by rw [h _ (by unfold yread; omega)]; exact f1, by rw [h _ (by unfold yread; omega)]; exact f2, by rw [h _ (by unfold yread; omega)]; exact f3⟩
  · rw [h _ (by unfold yread; omega)]; exact d T hT
  · rw [h96]; exact e1
  · rw [h _ (by unfold yread; omega)]; exact e2
  · rw [h98]; exact e3
  · rw [h _ (by unfold yread; omega)]; exact e4
  · rw [h _ (by unfold yread; omega)]; exact e5
  · rw [h _ (by unfold yread; omega)]; exact e6
  · obtain ⟨x, k, g1, g2⟩ := q2 i hi
    refine ⟨x, k, by rw [h _ (by unfold yread; omega)]; exact g1, fun z => ?_⟩
    rw [h98] at z
    rw [h _ (by unfold yread; omega)]
    exact g2 z
  · obtain ⟨g1, g2⟩ := q3 k hk
    exact ⟨by rw [h _ (by unfold yread; omega)]; exact g1, by rw [h _ (by unfold yread; omega)]; exact g2⟩
  · rw [h96] at ht
    rw [h _ (by unfold yread; omega)]
    exact q4.1 t ht
  · rw [h98] at hi
    rw [h _ (by unfold yread; omega)]
    exact q4.2 i hi
  · rw [h _ (by unfold yread; omega)]
    exact q5 t ht
theorem yinv_newtool {w : Nat → Int32} {k b l : Int32} (hok : ytoolok w k b l = true) (q : yinv w) : yinv (ynewtool w k b l) := by
  obtain ⟨⟨a, b0, c, d, e1, e2, e3, e4, e5, e6⟩, q2, q3, q4, q5⟩ := q
  obtain ⟨N, hN, eN⟩ := vp_in_of e1 (by decide)
  have hW := (zvp_clamp e3 (by decide)).2
  unfold ytoolok at hok
  simp only [Bool.and_eq_true, Bool.not_eq_true', decide_eq_false_iff_not] at hok
  obtain ⟨⟨⟨o1, o2⟩, o3⟩, o4⟩ := hok
  have hN8 : N ≠ 8 := fun e => o4 (by rw [eN, e]; rfl)
  have ho : ∀ j, (j < 16 + 10 * N ∨ 16 + 10 * N + 10 ≤ j) → j ≠ 96 → ynewtool w k b l j = w j := by
    intro j h1 h2
    unfold ynewtool
    rw [eN, nI_clamp (by omega)]
    rw [if_neg (by omega), if_neg (by omega), if_neg (by omega), if_neg (by omega), if_neg (by omega), if_neg (by omega), if_neg (by omega), if_neg (by omega), if_neg h2]
  have n0 : ynewtool w k b l (16 + 10 * N) = k := by
    unfold ynewtool
    rw [eN, nI_clamp (by omega)]
    rw [if_pos rfl]
  have n1 : ynewtool w k b l (16 + 10 * N + 1) = b := by
    unfold ynewtool
    rw [eN, nI_clamp (by omega)]
    rw [if_neg (by omega), if_pos rfl]
  have n3 : ynewtool w k b l (16 + 10 * N + 3) = 60 := by
    unfold ynewtool
    rw [eN, nI_clamp (by omega)]
    rw [if_neg (by omega), if_neg (by omega), if_neg (by omega), if_pos rfl]
  have n96 : ynewtool w k b l 96 = nI (N + 1) := by
    unfold ynewtool
    rw [eN, nI_clamp (by omega)]
    rw [if_neg (by omega), if_neg (by omega), if_neg (by omega), if_neg (by omega), if_neg (by omega), if_neg (by omega), if_neg (by omega), if_neg (by omega), if_pos rfl, nI_1]
  generalize ynewtool w k b l = w' at ho n0 n1 n3 n96
  have h98 : w' 98 = w 98 := ho _ (by omega) (by omega)
  refine ⟨⟨?_, ?_, fun l hl => ?_, fun T hT => ?_, ?_, ?_, ?_, ?_, ?_, ?_⟩, fun i hi => ?_, fun k hk => ?_, ⟨fun t ht => ?_, fun i hi => ?_⟩, fun t ht => ?_⟩
  · exact ylawok_mid (by omega) (ho _ (by omega) (by omega)) (fun j h1 h2 => ho j (by omega) (by omega)) a
  · exact ylawok_mid (by omega) (ho _ (by omega) (by omega)) (fun j h1 h2 => ho j (by omega) (by omega)) b0
  · obtain ⟨f1, f2, f3⟩ := c l hl
    exact ⟨by rw [ho _ (by omega) (by omega)]; exact f1, by rw [ho _ (by omega) (by omega)]; exact f2, by rw [ho _ (by omega) (by omega)]; exact f3⟩
  · by_cases z : T = N
    · subst z; rw [n1]; exact (yin_c (n := 3) rfl (by omega)).mp o2
    · rw [ho _ (by omega) (by omega)]; exact d T hT
  · rw [n96]; exact vp_in_nI (by omega) (by decide)
  · rw [ho _ (by omega) (by omega)]; exact e2
  · rw [h98]; exact e3
  · rw [ho _ (by omega) (by omega)]; exact e4
  · rw [ho _ (by omega) (by omega)]; exact e5
  · rw [ho _ (by omega) (by omega)]; exact e6
  · obtain ⟨x, k, g1, g2⟩ := q2 i hi
    refine ⟨x, k, by rw [ho _ (by omega) (by omega)]; exact g1, fun z => ?_⟩
    rw [h98] at z
    rw [ho _ (by omega) (by omega)]
    exact g2 z
  · obtain ⟨g1, g2⟩ := q3 k hk
    exact ⟨by rw [ho _ (by omega) (by omega)]; exact g1, by rw [ho _ (by omega) (by omega)]; exact g2⟩
  · rw [n96, nI_clamp (by omega)] at ht
    by_cases z : t = N
    · subst z; rw [n0]; exact (yin_c (n := 3) rfl (by omega)).mp o1
    · rw [ho _ (by omega) (by omega)]
      exact q4.1 t (by rw [eN, nI_clamp (by omega)]; omega)
  · rw [h98] at hi
    rw [ho _ (by omega) (by omega)]
    exact q4.2 i hi
  · by_cases z : t = N
    · subst z; rw [n3]; exact ⟨60, by omega, by decide⟩
    · rw [ho _ (by omega) (by omega)]
      exact q5 t ht
theorem yinv_newman {w : Nat → Int32} {k l : Int32} (hok : ymanok w k l = true) (q : yinv w) : yinv (ynewman w k l) := by
  obtain ⟨M, hM, eM⟩ := vp_in_of q.1.2.2.2.2.2.1 (by decide)
  unfold ymanok at hok
  simp only [Bool.and_eq_true, Bool.not_eq_true', decide_eq_false_iff_not] at hok
  have hM4 : M ≠ 4 := fun e => hok.2 (by rw [eM, e]; rfl)
  have ho : ∀ j, j ≠ 97 → (j < 130 ∨ 138 ≤ j) → ynewman w k l j = w j := by
    intro j h1 h2
    unfold ynewman
    rw [eM, nI_clamp (by omega)]
    rw [if_neg (by omega), if_neg (by omega), if_neg h1]
  have h97 : ynewman w k l 97 = nI (M + 1) := by
    unfold ynewman
    rw [eM, nI_clamp (by omega)]
    rw [if_neg (by omega), if_neg (by omega), if_pos rfl, nI_1]
  have q' : yinv (upd (ynewman w k l) 97 (w 97)) := yinv.r (fun j hj => by
    by_cases z : j = 97
    · rw [z, upd_s]
    · rw [upd_n z]; exact ho j z (by unfold yread at hj; omega)) q
  obtain ⟨⟨a, b0, c, d, e1, e2, e3, e4, e5, e6⟩, q2, q3, q4, q5⟩ := q'
  have hr : ∀ j, j ≠ 97 → upd (ynewman w k l) 97 (w 97) j = ynewman w k l j := fun j h => upd_n h
  have hW := (zvp_clamp e3 (by decide)).2
  have hN := (zvp_clamp e1 (by decide)).2
  rw [hr _ (by omega)] at e1 e3 e4 e5 e6 hW hN
  refine ⟨⟨?_, ?_, fun l hl => ?_, fun T hT => ?_, e1, ?_, e3, e4, e5, e6⟩, fun i hi => ?_, fun k hk => ?_, ⟨fun t ht => ?_, fun i hi => ?_⟩, fun t ht => ?_⟩
  · exact ylawok_mid (by omega) (hr _ (by omega)).symm (fun j h1 h2 => (hr j (by omega)).symm) a
  · exact ylawok_mid (by omega) (hr _ (by omega)).symm (fun j h1 h2 => (hr j (by omega)).symm) b0
  · obtain ⟨f1, f2, f3⟩ := c l hl
    rw [hr _ (by omega)] at f1 f2 f3
    exact ⟨f1, f2, f3⟩
  · have := d T hT
    rw [hr _ (by omega)] at this
    exact this
  · rw [h97]; exact vp_in_nI (by omega) (by decide)
  · obtain ⟨x, k, g1, g2⟩ := q2 i hi
    rw [hr _ (by omega)] at g1 g2
    refine ⟨x, k, g1, fun z => ?_⟩
    have := g2 z
    rw [hr _ (by omega)] at this
    exact this
  · obtain ⟨g1, g2⟩ := q3 k hk
    rw [hr _ (by omega)] at g1 g2
    exact ⟨g1, g2⟩
  · have := q4.1 t (by rw [hr _ (by omega)]; exact ht)
    rw [hr _ (by omega)] at this
    exact this
  · have := q4.2 i (by rw [hr _ (by omega)]; exact hi)
    rw [hr _ (by omega)] at this
    exact this
  · have := q5 t ht
    rw [hr _ (by omega)] at this
    exact this
