/-! the invariant of a row, and an hour -/
def yedges (w : Nat → Int32) : Prop := ∀ t, t < 8 → ∃ e : Nat, e ≤ 99 ∧ w (16 + 10 * t + 3) = nI e
def yinv (w : Nat → Int32) : Prop := ywf w ∧ yhull w ∧ ycouples w ∧ ykinds w ∧ yedges w
theorem yinv.k {w w' : Nat → Int32} (h : yk w w') (h2 : vp_in (w' 2) 201) (hd : ∀ i, i < 8 → w' (8 + i) = w (8 + i)) (he : yedges w') (q : yinv w) : yinv w' := by
  obtain ⟨q1, q2, q3, q4, q5⟩ := q
  have h98 : w' 98 = w 98 := h 98 (by unfold yfix; omega)
  have h96 : w' 96 = w 96 := h 96 (by unfold yfix; omega)
  have hW := (zvp_clamp q1.2.2.2.2.2.2.1 (by decide)).2
  have hN := (zvp_clamp q1.2.2.2.2.1 (by decide)).2
  refine ⟨ywf_k h q1 h2, fun i hi => ?_, fun k hk => ?_, ⟨fun t ht => ?_, fun i hi => ?_⟩, he⟩
  · obtain ⟨d, k, e1, e2⟩ := q2 i hi
    refine ⟨d, k, by rw [hd i hi]; exact e1, fun z => ?_⟩
    rw [h98] at z
    rw [h _ (by unfold yfix; omega)]
    exact e2 z
  · obtain ⟨a, b⟩ := q3 k hk
    exact ⟨by rw [h _ (by unfold yfix; omega)]; exact a, by rw [h _ (by unfold yfix; omega)]; exact b⟩
  · rw [h96] at ht
    rw [h _ (by unfold yfix; omega)]
    exact q4.1 t ht
  · rw [h98] at hi
    rw [h _ (by unfold yfix; omega)]
    exact q4.2 i hi
theorem yheld_20 {v : Int32} : ∃ x : Nat, x ≤ 20 ∧ yheld v 0 20 = nI x := by
  unfold yheld ymax ymin
  by_cases a : 20 < v
  · rw [if_pos a]
    exact ⟨20, by omega, by decide⟩
  · rw [if_neg a]
    by_cases b : v < 0
    · rw [if_pos b]
      exact ⟨0, by omega, rfl⟩
    · rw [if_neg b]
      have : yin v 0 20 = true := by unfold yin; simp [a, b]
      obtain ⟨k, hk, rfl⟩ := vp_in_of ((yin_c (n := 20) rfl (by omega)).mp this) (by omega)
      exact ⟨k, by omega, rfl⟩
theorem yesay_20 {w F : Nat → Int32} {word : Int32} : ∃ x : Nat, x ≤ 20 ∧ yesay w F word 1 0 20 = nI x := by
  unfold yesay
  split
  · exact yheld_20
  · exact ⟨1, by omega, rfl⟩
theorem ymax_sub : ∀ e, e < 100 → ∀ x, x < 21 → ymax 0 (nI e - nI x) = nI (e - x) := by decide +kernel
theorem yedges_wears {w : Nat → Int32} {T M : Nat} (hT : T < 8) (h : yedges w) : yedges (ywears w T M) := by
  intro t ht
  unfold ywears
  by_cases c : t = T
  · subst c
    rw [upd_n (by omega), upd_n (by omega), upd_n (by omega), upd_s]
    obtain ⟨e, he, ee⟩ := h t ht
    obtain ⟨x, hx, ex⟩ := yesay_20 (w := w) (F := yfct w t M) (word := 22)
    rw [ee, ex, ymax_sub e (by omega) x (by omega)]
    exact ⟨e - x, by omega, rfl⟩
  · rw [upd_n (by omega), upd_n (by omega), upd_n (by omega), upd_n (by omega)]
    exact h t ht
theorem yinv_wears {w : Nat → Int32} {T M : Nat} (hT : T < 8) (q : yinv w) : yinv (ywears w T M) := by
  obtain ⟨k1, k2, -⟩ := yk_wears (w := w) (M := M) hT
  refine yinv.k k1 (by rw [k2]; exact q.1.2.2.2.2.2.2.2.2.2) (fun i hi => ?_) (yedges_wears hT q.2.2.2.2) q
  unfold ywears
  rw [upd_n (by omega), upd_n (by omega), upd_n (by omega), upd_n (by omega)]
theorem yinv_notes {w : Nat → Int32} {t m i : Int32} (q : yinv w) : yinv (ynotes w t m i) := by
  have h2 := q.1.2.2.2.2.2.2.2.2.2
  obtain ⟨k1, k2, -⟩ := yk_notes (t := t) (m := m) (i := i) h2
  have hlow : ∀ j, j ≠ 2 → j < 2034 → ynotes w t m i j = w j := by
    intro j h1 hj
    unfold ynotes
    split
    · rfl
    · rw [upd_n h1, upd_n (by omega), upd_n (by omega), upd_n (by omega), upd_n (by omega)]
  refine yinv.k k1 k2 (fun x hx => hlow _ (by omega) (by omega)) (fun x hx => ?_) q
  rw [hlow _ (by omega) (by omega)]
  exact q.2.2.2.2 x hx
/-- one hour of a work more -/
theorem yinv_done {w : Nat → Int32} {I : Nat} (hI : I < 8) (hnd : I < (w 98).toNatClampNeg → ydoneB w I = false) (q : yinv w) : yinv (upd w (8 + I) (w (8 + I) + 1)) := by
  have hW := (zvp_clamp q.1.2.2.2.2.2.2.1 (by decide)).2
  have hk : yk w (upd w (8 + I) (w (8 + I) + 1)) := yk.rf.upd (by unfold yfix; omega)
  obtain ⟨q1, q2, q3, q4, q5⟩ := q
  have ho : ∀ j, j ≠ 8 + I → upd w (8 + I) (w (8 + I) + 1) j = w j := fun j hj => upd_n hj
  refine ⟨ywf_k hk q1 (by rw [ho 2 (by omega)]; exact q1.2.2.2.2.2.2.2.2.2), fun i hi => ?_, fun k hk => ?_, ⟨fun t ht => ?_, fun i hi => ?_⟩, fun t ht => ?_⟩
  · obtain ⟨d, k, e1, e2⟩ := q2 i hi
    by_cases c : i = I
    · subst c
      refine ⟨d + 1, k, by rw [upd_s, e1, nI_1], fun z => ?_⟩
      rw [ho 98 (by omega)] at z
      obtain ⟨f1, f2, f3⟩ := e2 z
      rw [ho _ (by omega)]
      have := hnd z
      unfold ydoneB at this
      rw [decide_eq_false_iff_not, e1, f1] at this
      have hne : d ≠ k := fun x => this (by rw [x])
      exact ⟨f1, by omega, f3⟩
    · refine ⟨d, k, by rw [ho _ (by omega)]; exact e1, fun z => ?_⟩
      rw [ho 98 (by omega)] at z
      rw [ho _ (by omega)]
      exact e2 z
  · obtain ⟨a, b⟩ := q3 k hk
    exact ⟨by rw [ho _ (by omega)]; exact a, by rw [ho _ (by omega)]; exact b⟩
  · rw [ho 96 (by omega)] at ht
    rw [ho _ (by omega)]
    exact q4.1 t ht
  · rw [ho 98 (by omega)] at hi
    rw [ho _ (by omega)]
    exact q4.2 i hi
  · rw [ho _ (by omega)]
    exact q5 t ht
/-- places that no word of the invariant but the hour's reads -/
def yfree0 (j : Nat) : Prop := j = 0 ∨ j = 1 ∨ j = 3 ∨ 4 ≤ j ∧ j < 8 ∨ j = 102 ∨ j = 103 ∨ 16 ≤ j ∧ j < 96 ∧ ((j - 16) % 10 = 4 ∨ (j - 16) % 10 = 7 ∨ (j - 16) % 10 = 8 ∨ (j - 16) % 10 = 9) ∨ 130 ≤ j ∧ j < 138
theorem yinv.o {w w' : Nat → Int32} (h : ∀ j, ¬ yfree0 j → w' j = w j) (q : yinv w) : yinv w' := by
  have hW := (zvp_clamp q.1.2.2.2.2.2.2.1 (by decide)).2
  have hN := (zvp_clamp q.1.2.2.2.2.1 (by decide)).2
  refine yinv.k (fun j hj => ?_) ?_ (fun i hi => h _ (by unfold yfree0; omega)) (fun t ht => ?_) q
  · by_cases c : yfree0 j
    · unfold yfix at hj
      unfold yfree0 at c
      omega
    · exact h j c
  · rw [h 2 (by unfold yfree0; omega)]
    exact q.1.2.2.2.2.2.2.2.2.2
  · rw [h _ (by unfold yfree0; omega)]
    exact q.2.2.2.2 t ht
theorem yinv_worked {w : Nat → Int32} {tr busy : Int32} {l : Nat} (hl : l < 20) (hok : yworksok w busy l = true) (q : yinv w) : yinv (yworked w tr l) := by
  obtain ⟨f1, f2, f3⟩ := q.1.2.2.1 l hl
  have hT := (zvp_clamp f1 (by decide)).2
  have hI := (zvp_clamp f3 (by decide)).2
  have hnd : ydoneB w (w (166 + 5 * l + 2)).toNatClampNeg = false := by
    unfold yworksok yopenB at hok
    simp only [Bool.and_eq_true, Bool.not_eq_true'] at hok
    exact hok.1.1.2.1
  unfold yworked
  dsimp only
  generalize (w (166 + 5 * l)).toNatClampNeg = T at hT ⊢
  generalize (w (166 + 5 * l + 1)).toNatClampNeg = M
  generalize (w (166 + 5 * l + 2)).toNatClampNeg = I at hI hnd ⊢
  have h1 := yinv_wears (M := M) hT q
  have h2 : yinv (upd (ywears w T M) (16 + 10 * T + 9) 1) := yinv.o (fun j hj => upd_n (fun e => hj (by unfold yfree0; omega))) h1
  have hw : ∀ j, j < 16 ∨ 96 ≤ j → upd (ywears w T M) (16 + 10 * T + 9) 1 j = w j := by
    intro j hj
    unfold ywears
    rw [upd_n (by omega), upd_n (by omega), upd_n (by omega), upd_n (by omega), upd_n (by omega)]
  have h3 := yinv_done hI (fun _ => by
    unfold ydoneB at hnd ⊢
    rw [hw _ (by omega), hw _ (by omega)]
    exact hnd) h2
  split
  · exact h3
  · exact yinv_notes h3
theorem yinv_clear {f n : Nat} {w : Nat → Int32} (hf : f = 7 ∨ f = 9) (hn : n ≤ 8) (q : yinv w) : yinv (yclear f n w) := yinv.o (fun j hj => by
  unfold yclear
  rw [if_neg]
  unfold yfree0 at hj
  omega) q
theorem yinv_rot {tr : Int32} {s : zM} (q : yinv (s.2 1)) : ∀ i, i ≤ 20 → yinv ((yrot tr s i).1.2 1)
  | 0, _ => q
  | i + 1, hi => by
    have ih := yinv_rot (tr := tr) q i (by omega)
    show yinv ((yrot1 tr i (yrot tr s i)).1.2 1)
    generalize yrot tr s i = r at ih ⊢
    unfold yrot1
    split
    · split
      · rename_i hok
        exact yinv_worked (by omega) hok ih
      · dsimp only
        split
        · exact ih
        · exact ih
    · exact ih
theorem yinv_edge {w : Nat → Int32} {t e : Nat} (ht : t < 8) (he : e ≤ 99) (q : yinv w) : yinv (upd w (16 + 10 * t + 3) (nI e)) := by
  refine yinv.k (yk.rf.upd (by unfold yfix; omega)) (by rw [upd_n (by omega)]; exact q.1.2.2.2.2.2.2.2.2.2) (fun i hi => upd_n (by omega)) (fun x hx => ?_) q
  by_cases c : x = t
  · subst c; rw [upd_s]; exact ⟨e, he, rfl⟩
  · rw [upd_n (by omega)]; exact q.2.2.2.2 x hx
theorem yinv_rust {w : Nat → Int32} (q : yinv w) : ∀ k, k ≤ 8 → yinv (yrust w k)
  | 0, _ => q
  | k + 1, hk => by
    have ih := yinv_rust q k (by omega)
    show yinv (yrust1 k (yrust w k))
    unfold yrust1
    split
    · rename_i c
      dsimp only
      have h3 : yinv (upd (yrust w k) 3 (ydrawn (yrust w k 3))) := yinv.o (fun j hj => upd_n (fun e => hj (by unfold yfree0; omega))) ih
      split
      · obtain ⟨e, he, ee⟩ := ih.2.2.2.2 k (by omega)
        have hpos : 0 < e := by
          have := c.2
          rw [ee, show (0 : Int32) = nI 0 from rfl, nI_lt2 (by omega) (by omega)] at this
          exact this
        rw [ee, show (1 : Int32) = nI 1 from rfl, nI_sub2 (by omega)]
        exact yinv_edge (by omega) (by omega) h3
      · exact h3
    · exact ih
theorem yinv_tail {tr : Int32} {n : Nat} {w : Nat → Int32} (hn : n ≤ 8) (q : yinv w) : yinv (ytail tr n w) := by
  unfold ytail yend
  have h1 : yinv (if ¬ tr = 0 ∧ 0 < w 102 then yrust w n else w) := by
    split
    · exact yinv_rust q n hn
    · exact q
  generalize (if ¬ tr = 0 ∧ 0 < w 102 then yrust w n else w) = W at h1 ⊢
  have h2 : yinv (upd W 0 (W 0 + 1)) := yinv.o (fun j hj => upd_n (fun e => hj (by unfold yfree0; omega))) h1
  split
  · exact yinv_clear (Or.inl rfl) hn h2
  · exact h2
theorem yinv_hour {tr : Int32} {s : zM} (q : yinv (s.2 1)) : yinv ((yhour tr s).1.2 1) := by
  have hN := (zvp_clamp q.1.2.2.2.2.1 (by decide)).2
  have hR := (zvp_clamp q.1.2.2.2.2.2.2.2.1 (by decide)).2
  unfold yhour
  dsimp only
  rw [zB_2s]
  refine yinv_tail (by omega) (yinv_rot ?_ _ (by omega))
  rw [zF_2, zB_2s]
  exact yinv_clear (Or.inr rfl) (by omega) q
