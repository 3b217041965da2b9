/-! ===== a Yard's part: a write and the row ===== -/
theorem xY.edge {u : zX} {y : Nat} {w : Nat → Int32} {T : Nat} {v : Int32} (hT : T < 8) (h : xY u y w) : xY (xA u (xya y 0) T v) y (upd w (16 + 10 * T + 3) v) := by
  obtain ⟨⟨h1, h2, h3, h4⟩, h6, h7, h8, h9⟩ := h
  refine ⟨⟨(by rw [xA_I, upd_n (by omega)]; exact h1), (by rw [xA_I, upd_n (by omega)]; exact h2), (by rw [xA_I, upd_n (by omega)]; exact h3), (by rw [xA_I, upd_n (by omega)]; exact h4)⟩, fun t ht => ?_, fun t ht => (by rw [xAy_j (by decide) (by decide) (by decide), upd_n (by omega)]; exact (h7 t ht)), fun t ht => (by rw [xAy_j (by decide) (by decide) (by decide), upd_n (by omega)]; exact (h8 t ht)), fun t ht hq => ?_⟩
  · obtain ⟨p1, p2, p4⟩ := h6 t ht
    exact ⟨(by
      rw [xA_s]
      unfold upd
      by_cases c : t = T
      · rw [if_pos c, if_pos (by omega)]
      · rw [if_neg c, if_neg (by omega)]; exact p1), (by rw [xAy_j (by decide) (by decide) (by decide), upd_n (by omega)]; exact p2), (by rw [xAy_j (by decide) (by decide) (by decide), upd_n (by omega)]; exact p4)⟩
  · rw [upd_n (by omega)] at hq
    exact (by rw [xAy_j (by decide) (by decide) (by decide), upd_n (by omega)]; exact (h9 t ht hq))
theorem xY.mood {u : zX} {y : Nat} {w : Nat → Int32} {T : Nat} {v : Int32} (hT : T < 8) (h : xY u y w) : xY (xA u (xya y 1) T v) y (upd w (16 + 10 * T + 4) v) := by
  obtain ⟨⟨h1, h2, h3, h4⟩, h6, h7, h8, h9⟩ := h
  refine ⟨⟨(by rw [xA_I, upd_n (by omega)]; exact h1), (by rw [xA_I, upd_n (by omega)]; exact h2), (by rw [xA_I, upd_n (by omega)]; exact h3), (by rw [xA_I, upd_n (by omega)]; exact h4)⟩, fun t ht => ?_, fun t ht => (by rw [xAy_j (by decide) (by decide) (by decide), upd_n (by omega)]; exact (h7 t ht)), fun t ht => (by rw [xAy_j (by decide) (by decide) (by decide), upd_n (by omega)]; exact (h8 t ht)), fun t ht hq => ?_⟩
  · obtain ⟨p1, p2, p4⟩ := h6 t ht
    exact ⟨(by rw [xAy_j (by decide) (by decide) (by decide), upd_n (by omega)]; exact p1), (by
      rw [xA_s]
      unfold upd
      by_cases c : t = T
      · rw [if_pos c, if_pos (by omega)]
      · rw [if_neg c, if_neg (by omega)]; exact p2), (by rw [xAy_j (by decide) (by decide) (by decide), upd_n (by omega)]; exact p4)⟩
  · rw [upd_n (by omega)] at hq
    exact (by rw [xAy_j (by decide) (by decide) (by decide), upd_n (by omega)]; exact (h9 t ht hq))
theorem xY.today {u : zX} {y : Nat} {w : Nat → Int32} {T : Nat} {v : Int32} (hT : T < 8) (h : xY u y w) : xY (xA u (xya y 2) T v) y (upd w (16 + 10 * T + 7) v) := by
  obtain ⟨⟨h1, h2, h3, h4⟩, h6, h7, h8, h9⟩ := h
  refine ⟨⟨(by rw [xA_I, upd_n (by omega)]; exact h1), (by rw [xA_I, upd_n (by omega)]; exact h2), (by rw [xA_I, upd_n (by omega)]; exact h3), (by rw [xA_I, upd_n (by omega)]; exact h4)⟩, fun t ht => ?_, fun t ht => (by rw [xAy_j (by decide) (by decide) (by decide), upd_n (by omega)]; exact (h7 t ht)), fun t ht => (by rw [xAy_j (by decide) (by decide) (by decide), upd_n (by omega)]; exact (h8 t ht)), fun t ht hq => ?_⟩
  · obtain ⟨p1, p2, p4⟩ := h6 t ht
    exact ⟨(by rw [xAy_j (by decide) (by decide) (by decide), upd_n (by omega)]; exact p1), (by rw [xAy_j (by decide) (by decide) (by decide), upd_n (by omega)]; exact p2), (by rw [xAy_j (by decide) (by decide) (by decide), upd_n (by omega)]; exact p4)⟩
  · rw [upd_n (by omega)] at hq
    exact (by
      rw [xA_s]
      unfold upd
      by_cases c : t = T
      · rw [if_pos c, if_pos (by omega)]
      · rw [if_neg c, if_neg (by omega)]; exact (h9 t ht hq))
theorem xY.served {u : zX} {y : Nat} {w : Nat → Int32} {T : Nat} {v : Int32} (hT : T < 8) (h : xY u y w) : xY (xA u (xya y 3) T v) y (upd w (16 + 10 * T + 8) v) := by
  obtain ⟨⟨h1, h2, h3, h4⟩, h6, h7, h8, h9⟩ := h
  refine ⟨⟨(by rw [xA_I, upd_n (by omega)]; exact h1), (by rw [xA_I, upd_n (by omega)]; exact h2), (by rw [xA_I, upd_n (by omega)]; exact h3), (by rw [xA_I, upd_n (by omega)]; exact h4)⟩, fun t ht => ?_, fun t ht => (by rw [xAy_j (by decide) (by decide) (by decide), upd_n (by omega)]; exact (h7 t ht)), fun t ht => (by rw [xAy_j (by decide) (by decide) (by decide), upd_n (by omega)]; exact (h8 t ht)), fun t ht hq => ?_⟩
  · obtain ⟨p1, p2, p4⟩ := h6 t ht
    exact ⟨(by rw [xAy_j (by decide) (by decide) (by decide), upd_n (by omega)]; exact p1), (by rw [xAy_j (by decide) (by decide) (by decide), upd_n (by omega)]; exact p2), (by
      rw [xA_s]
      unfold upd
      by_cases c : t = T
      · rw [if_pos c, if_pos (by omega)]
      · rw [if_neg c, if_neg (by omega)]; exact p4)⟩
  · rw [upd_n (by omega)] at hq
    exact (by rw [xAy_j (by decide) (by decide) (by decide), upd_n (by omega)]; exact (h9 t ht hq))
theorem xY.may {u : zX} {y : Nat} {w : Nat → Int32} {T : Nat} {v : Int32} (hT : T < 4) (h : xY u y w) : xY (xA u (xya y 4) T v) y (upd w (4 + T) v) := by
  obtain ⟨⟨h1, h2, h3, h4⟩, h6, h7, h8, h9⟩ := h
  refine ⟨⟨(by rw [xA_I, upd_n (by omega)]; exact h1), (by rw [xA_I, upd_n (by omega)]; exact h2), (by rw [xA_I, upd_n (by omega)]; exact h3), (by rw [xA_I, upd_n (by omega)]; exact h4)⟩, fun t ht => ?_, fun t ht => (by
    rw [xA_s]
    unfold upd
    by_cases c : t = T
    · rw [if_pos c, if_pos (by omega)]
    · rw [if_neg c, if_neg (by omega)]; exact (h7 t ht)), fun t ht => (by rw [xAy_j (by decide) (by decide) (by decide), upd_n (by omega)]; exact (h8 t ht)), fun t ht hq => ?_⟩
  · obtain ⟨p1, p2, p4⟩ := h6 t ht
    exact ⟨(by rw [xAy_j (by decide) (by decide) (by decide), upd_n (by omega)]; exact p1), (by rw [xAy_j (by decide) (by decide) (by decide), upd_n (by omega)]; exact p2), (by rw [xAy_j (by decide) (by decide) (by decide), upd_n (by omega)]; exact p4)⟩
  · rw [upd_n (by omega)] at hq
    exact (by rw [xAy_j (by decide) (by decide) (by decide), upd_n (by omega)]; exact (h9 t ht hq))
theorem xY.done {u : zX} {y : Nat} {w : Nat → Int32} {T : Nat} {v : Int32} (hT : T < 8) (h : xY u y w) : xY (xA u (xya y 5) T v) y (upd w (8 + T) v) := by
  obtain ⟨⟨h1, h2, h3, h4⟩, h6, h7, h8, h9⟩ := h
  refine ⟨⟨(by rw [xA_I, upd_n (by omega)]; exact h1), (by rw [xA_I, upd_n (by omega)]; exact h2), (by rw [xA_I, upd_n (by omega)]; exact h3), (by rw [xA_I, upd_n (by omega)]; exact h4)⟩, fun t ht => ?_, fun t ht => (by rw [xAy_j (by decide) (by decide) (by decide), upd_n (by omega)]; exact (h7 t ht)), fun t ht => (by
    rw [xA_s]
    unfold upd
    by_cases c : t = T
    · rw [if_pos c, if_pos (by omega)]
    · rw [if_neg c, if_neg (by omega)]; exact (h8 t ht)), fun t ht hq => ?_⟩
  · obtain ⟨p1, p2, p4⟩ := h6 t ht
    exact ⟨(by rw [xAy_j (by decide) (by decide) (by decide), upd_n (by omega)]; exact p1), (by rw [xAy_j (by decide) (by decide) (by decide), upd_n (by omega)]; exact p2), (by rw [xAy_j (by decide) (by decide) (by decide), upd_n (by omega)]; exact p4)⟩
  · rw [upd_n (by omega)] at hq
    exact (by rw [xAy_j (by decide) (by decide) (by decide), upd_n (by omega)]; exact (h9 t ht hq))
theorem xY.hour {u : zX} {y : Nat} {w : Nat → Int32} {v : Int32} (h : xY u y w) : xY (xI u (xyi y 6) v) y (upd w 0 v) := by
  obtain ⟨⟨h1, h2, h3, h4⟩, h6, h7, h8, h9⟩ := h
  refine ⟨⟨(by rw [xI_s, upd_s]), (by rw [xIy_j (by decide) (by decide) (by decide), upd_n (by omega)]; exact h2), (by rw [xIy_j (by decide) (by decide) (by decide), upd_n (by omega)]; exact h3), (by rw [xIy_j (by decide) (by decide) (by decide), upd_n (by omega)]; exact h4)⟩, fun t ht => ?_, fun t ht => (by rw [xI_A, upd_n (by omega)]; exact (h7 t ht)), fun t ht => (by rw [xI_A, upd_n (by omega)]; exact (h8 t ht)), fun t ht hq => ?_⟩
  · obtain ⟨p1, p2, p4⟩ := h6 t ht
    exact ⟨(by rw [xI_A, upd_n (by omega)]; exact p1), (by rw [xI_A, upd_n (by omega)]; exact p2), (by rw [xI_A, upd_n (by omega)]; exact p4)⟩
  · rw [upd_n (by omega)] at hq
    exact (by rw [xI_A, upd_n (by omega)]; exact (h9 t ht hq))
theorem xY.strikes {u : zX} {y : Nat} {w : Nat → Int32} {v : Int32} (h : xY u y w) : xY (xI u (xyi y 7) v) y (upd w 1 v) := by
  obtain ⟨⟨h1, h2, h3, h4⟩, h6, h7, h8, h9⟩ := h
  refine ⟨⟨(by rw [xIy_j (by decide) (by decide) (by decide), upd_n (by omega)]; exact h1), (by rw [xI_s, upd_s]), (by rw [xIy_j (by decide) (by decide) (by decide), upd_n (by omega)]; exact h3), (by rw [xIy_j (by decide) (by decide) (by decide), upd_n (by omega)]; exact h4)⟩, fun t ht => ?_, fun t ht => (by rw [xI_A, upd_n (by omega)]; exact (h7 t ht)), fun t ht => (by rw [xI_A, upd_n (by omega)]; exact (h8 t ht)), fun t ht hq => ?_⟩
  · obtain ⟨p1, p2, p4⟩ := h6 t ht
    exact ⟨(by rw [xI_A, upd_n (by omega)]; exact p1), (by rw [xI_A, upd_n (by omega)]; exact p2), (by rw [xI_A, upd_n (by omega)]; exact p4)⟩
  · rw [upd_n (by omega)] at hq
    exact (by rw [xI_A, upd_n (by omega)]; exact (h9 t ht hq))
theorem xY.state {u : zX} {y : Nat} {w : Nat → Int32} {v : Int32} (h : xY u y w) : xY (xI u (xyi y 8) v) y (upd w 3 v) := by
  obtain ⟨⟨h1, h2, h3, h4⟩, h6, h7, h8, h9⟩ := h
  refine ⟨⟨(by rw [xIy_j (by decide) (by decide) (by decide), upd_n (by omega)]; exact h1), (by rw [xIy_j (by decide) (by decide) (by decide), upd_n (by omega)]; exact h2), (by rw [xI_s, upd_s]), (by rw [xIy_j (by decide) (by decide) (by decide), upd_n (by omega)]; exact h4)⟩, fun t ht => ?_, fun t ht => (by rw [xI_A, upd_n (by omega)]; exact (h7 t ht)), fun t ht => (by rw [xI_A, upd_n (by omega)]; exact (h8 t ht)), fun t ht hq => ?_⟩
  · obtain ⟨p1, p2, p4⟩ := h6 t ht
    exact ⟨(by rw [xI_A, upd_n (by omega)]; exact p1), (by rw [xI_A, upd_n (by omega)]; exact p2), (by rw [xI_A, upd_n (by omega)]; exact p4)⟩
  · rw [upd_n (by omega)] at hq
    exact (by rw [xI_A, upd_n (by omega)]; exact (h9 t ht hq))
theorem xY.bookn {u : zX} {y : Nat} {w : Nat → Int32} {v : Int32} (h : xY u y w) : xY (xI u (xyi y 9) v) y (upd w 2 v) := by
  obtain ⟨⟨h1, h2, h3, h4⟩, h6, h7, h8, h9⟩ := h
  refine ⟨⟨(by rw [xIy_j (by decide) (by decide) (by decide), upd_n (by omega)]; exact h1), (by rw [xIy_j (by decide) (by decide) (by decide), upd_n (by omega)]; exact h2), (by rw [xIy_j (by decide) (by decide) (by decide), upd_n (by omega)]; exact h3), (by rw [xI_s, upd_s])⟩, fun t ht => ?_, fun t ht => (by rw [xI_A, upd_n (by omega)]; exact (h7 t ht)), fun t ht => (by rw [xI_A, upd_n (by omega)]; exact (h8 t ht)), fun t ht hq => ?_⟩
  · obtain ⟨p1, p2, p4⟩ := h6 t ht
    exact ⟨(by rw [xI_A, upd_n (by omega)]; exact p1), (by rw [xI_A, upd_n (by omega)]; exact p2), (by rw [xI_A, upd_n (by omega)]; exact p4)⟩
  · rw [upd_n (by omega)] at hq
    exact (by rw [xI_A, upd_n (by omega)]; exact (h9 t ht hq))
theorem xY.row {u : zX} {y : Nat} {w w' : Nat → Int32} (h : xY u y w) (hw : ∀ j, j = 96 ∨ j < 16 ∨ 16 ≤ j ∧ j < 96 ∧ ((j - 16) % 10 = 3 ∨ (j - 16) % 10 = 4 ∨ (j - 16) % 10 = 7 ∨ (j - 16) % 10 = 8) → w' j = w j) : xY u y w' := by
  obtain ⟨⟨h1, h2, h3, h4⟩, h6, h7, h8, h9⟩ := h
  refine ⟨⟨by rw [hw _ (by omega)]; exact h1, by rw [hw _ (by omega)]; exact h2, by rw [hw _ (by omega)]; exact h3, by rw [hw _ (by omega)]; exact h4⟩, fun t ht => ?_, fun t ht => by rw [hw _ (by omega)]; exact h7 t ht, fun t ht => by rw [hw _ (by omega)]; exact h8 t ht, fun t ht hq => ?_⟩
  · obtain ⟨p1, p2, p4⟩ := h6 t ht
    exact ⟨by rw [hw _ (by omega)]; exact p1, by rw [hw _ (by omega)]; exact p2, by rw [hw _ (by omega)]; exact p4⟩
  · rw [hw 96 (by omega)] at hq
    rw [hw _ (by omega)]
    exact h9 t ht hq
theorem xY.flag {u : zX} {y T : Nat} {w : Nat → Int32} {v : Int32} (h : xY u y w) (hT : T < 8) : xY u y (upd w (16 + 10 * T + 9) v) := h.row fun j hj => upd_n (by omega)
theorem xY.B27 {u : zX} {y : Nat} {w : Nat → Int32} {f : Nat → Int32} (hy : y < 3) (h : xY u y w) : xY (xB u 27 f) y w := h.same (fun j _ _ => rfl) (fun j hj => xBl_y hy hj (by decide))
theorem xY.M {u : zX} {y : Nat} {w : Nat → Int32} {m : Nat → zM} (h : xY u y w) : xY (xM u m) y w := h
theorem xY.I2 {u : zX} {y i : Nat} {w : Nat → Int32} {v : Int32} (hi : 10 ≤ i) (h20 : i < 20) (h : xY u y w) : xY (xI u (xyi y i) v) y w := h.same (fun j h1 h2 => xIy_j h20 (by omega) (by omega)) (fun j hj => rfl)
theorem xY.clear {u : zX} {y N : Nat} {w f : Nat → Int32} (hN : w 96 = nI N) (hN8 : N ≤ 8) (h : xY u y w) : xY (xB u (xya y 2) (xfil 8 0 f)) y (yclear 7 N w) := by
  obtain ⟨⟨h1, h2, h3, h4⟩, h6, h7, h8, h9⟩ := h
  have e : ∀ j, ¬ (16 ≤ j ∧ j < 16 + 10 * N ∧ (j - 16) % 10 = 7) → yclear 7 N w j = w j := fun j hj => if_neg hj
  refine ⟨⟨by rw [e _ (by omega)]; exact h1, by rw [e _ (by omega)]; exact h2, by rw [e _ (by omega)]; exact h3, by rw [e _ (by omega)]; exact h4⟩, fun t ht => ?_, fun t ht => ?_, fun t ht => ?_, fun t ht hq => ?_⟩
  · obtain ⟨p1, p2, p4⟩ := h6 t ht
    exact ⟨by rw [xBy_j (by decide) (by decide) (by decide), e _ (by omega)]; exact p1, by rw [xBy_j (by decide) (by decide) (by decide), e _ (by omega)]; exact p2, by rw [xBy_j (by decide) (by decide) (by decide), e _ (by omega)]; exact p4⟩
  · rw [xBy_j (by decide) (by decide) (by decide), e _ (by omega)]; exact h7 t ht
  · rw [xBy_j (by decide) (by decide) (by decide), e _ (by omega)]; exact h8 t ht
  · rw [e 96 (by omega), hN, nI_cl (by omega)] at hq
    rw [xB_s]
    unfold xfil yclear
    rw [if_pos ht, if_pos (by omega)]
