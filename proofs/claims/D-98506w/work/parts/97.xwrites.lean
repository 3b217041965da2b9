/-! ===== ToolUnion's state: what a write does to the cells ===== -/
theorem xI_I {s : zX} {j q : Nat} {v : Int32} : (xI s j v).I q = if q = j then v else s.I q := rfl
theorem xI_A {s : zX} {j : Nat} {v : Int32} : (xI s j v).A = s.A := rfl
theorem xI_V {s : zX} {j : Nat} {v : Int32} : (xI s j v).V = s.V := rfl
theorem xI_n {s : zX} {j : Nat} {v : Int32} : (xI s j v).n = s.n := rfl
theorem xI_g {s : zX} {j : Nat} {v : Int32} : (xI s j v).g = s.g := rfl
theorem xI_m {s : zX} {j : Nat} {v : Int32} : (xI s j v).m = s.m := rfl
theorem xA_I {s : zX} {h i : Nat} {v : Int32} : (xA s h i v).I = s.I := rfl
theorem xA_A {s : zX} {h i q : Nat} {v : Int32} : (xA s h i v).A q = if q = h then upd (s.A h) i v else s.A q := rfl
theorem xA_s {s : zX} {h i : Nat} {v : Int32} : (xA s h i v).A h = upd (s.A h) i v := by simp [xA_A]
theorem xA_o {s : zX} {h i q : Nat} {v : Int32} (hq : q ≠ h) : (xA s h i v).A q = s.A q := by simp [xA_A, hq]
theorem xA_V {s : zX} {h i : Nat} {v : Int32} : (xA s h i v).V = s.V := rfl
theorem xA_n {s : zX} {h i : Nat} {v : Int32} : (xA s h i v).n = s.n := rfl
theorem xA_g {s : zX} {h i : Nat} {v : Int32} : (xA s h i v).g = s.g := rfl
theorem xA_m {s : zX} {h i : Nat} {v : Int32} : (xA s h i v).m = s.m := rfl
theorem xB_I {s : zX} {h : Nat} {f : Nat → Int32} : (xB s h f).I = s.I := rfl
theorem xB_A {s : zX} {h q : Nat} {f : Nat → Int32} : (xB s h f).A q = if q = h then f else s.A q := rfl
theorem xB_s {s : zX} {h : Nat} {f : Nat → Int32} : (xB s h f).A h = f := by simp [xB_A]
theorem xB_o {s : zX} {h q : Nat} {f : Nat → Int32} (hq : q ≠ h) : (xB s h f).A q = s.A q := by simp [xB_A, hq]
theorem xB_V {s : zX} {h : Nat} {f : Nat → Int32} : (xB s h f).V = s.V := rfl
theorem xB_n {s : zX} {h : Nat} {f : Nat → Int32} : (xB s h f).n = s.n := rfl
theorem xB_g {s : zX} {h : Nat} {f : Nat → Int32} : (xB s h f).g = s.g := rfl
theorem xB_m {s : zX} {h : Nat} {f : Nat → Int32} : (xB s h f).m = s.m := rfl
theorem xV_I {s : zX} {j : Nat} {v : Option Nat} : (xV s j v).I = s.I := rfl
theorem xV_A {s : zX} {j : Nat} {v : Option Nat} : (xV s j v).A = s.A := rfl
theorem xV_V {s : zX} {j q : Nat} {v : Option Nat} : (xV s j v).V q = if q = j then v else s.V q := rfl
theorem xV_n {s : zX} {j : Nat} {v : Option Nat} : (xV s j v).n = s.n := rfl
theorem xV_g {s : zX} {j : Nat} {v : Option Nat} : (xV s j v).g = s.g := rfl
theorem xV_m {s : zX} {j : Nat} {v : Option Nat} : (xV s j v).m = s.m := rfl
theorem xg_I {s : zX} {a : Nat} {o : va_E} : (xg s a o).I = s.I := rfl
theorem xg_A {s : zX} {a : Nat} {o : va_E} : (xg s a o).A = s.A := rfl
theorem xg_V {s : zX} {a : Nat} {o : va_E} : (xg s a o).V = s.V := rfl
theorem xg_n {s : zX} {a : Nat} {o : va_E} : (xg s a o).n = s.n := rfl
theorem xg_g {s : zX} {a : Nat} {o : va_E} : (xg s a o).g = zup s.g a o := rfl
theorem xg_m {s : zX} {a : Nat} {o : va_E} : (xg s a o).m = s.m := rfl
theorem xnew_I {s : zX} {o : va_E} : (xnew s o).I = s.I := rfl
theorem xnew_A {s : zX} {o : va_E} : (xnew s o).A = s.A := rfl
theorem xnew_V {s : zX} {o : va_E} : (xnew s o).V = s.V := rfl
theorem xnew_n {s : zX} {o : va_E} : (xnew s o).n = s.n + 1 := rfl
theorem xnew_g {s : zX} {o : va_E} : (xnew s o).g = zup s.g s.n o := rfl
theorem xnew_m {s : zX} {o : va_E} : (xnew s o).m = s.m := rfl
theorem xM_I {s : zX} {m : Nat → zM} : (xM s m).I = s.I := rfl
theorem xM_A {s : zX} {m : Nat → zM} : (xM s m).A = s.A := rfl
theorem xM_V {s : zX} {m : Nat → zM} : (xM s m).V = s.V := rfl
theorem xM_n {s : zX} {m : Nat → zM} : (xM s m).n = s.n := rfl
theorem xM_g {s : zX} {m : Nat → zM} : (xM s m).g = s.g := rfl
theorem xM_m {s : zX} {m : Nat → zM} : (xM s m).m = m := rfl
/-- a place that no cell of the block holds -/
def xhole (h : Nat) : Bool := xarr.getD h none == none && h != 0 && h != 28 && h != 35 && h != 42
def xfree (b a : Nat) : Prop := ¬ (b ≤ a ∧ a ≤ b + 62) ∨ xhole (a - b) = true
theorem xblk_hole {E : zEnv} {b : Nat} {s : zX} {h : Nat} (hh : xhole h = true) : xblk E b s h = none := by
  unfold xhole at hh
  simp only [Bool.and_eq_true, bne_iff_ne, beq_iff_eq] at hh
  obtain ⟨⟨⟨⟨h1, h2⟩, h3⟩, h4⟩, h5⟩ := hh
  unfold xblk
  rw [if_neg h2, if_neg h3, if_neg h4, if_neg h5, h1]
theorem xG_free {E : zEnv} {b : Nat} {s : zX} {a : Nat} (h : xfree b a) : xG E b s a = s.g a := by
  unfold xG
  rcases h with h | h
  · rw [if_neg h]
  · rw [xblk_hole h]
    split <;> rfl
theorem xfree_out {b a : Nat} (h : b + 62 < a) : xfree b a := Or.inl (by omega)
theorem xG_g {E : zEnv} {b : Nat} {s : zX} {a : Nat} {o : va_E} (h : xfree b a) : xG E b (xg s a o) = zup (xG E b s) a o := by
  funext q
  by_cases hq : q = a
  · subst hq
    rw [xG_free h]
    simp [zup, xg_g]
  · have e : ∀ h, xblk E b (xg s a o) h = xblk E b s h := fun h => rfl
    unfold zup
    rw [if_neg hq]
    unfold xG
    simp only [e]
    have e2 : (xg s a o).g q = s.g q := by simp [xg_g, zup, hq]
    rw [e2]
theorem xG_new {E : zEnv} {b : Nat} {s : zX} {o : va_E} (h : b + 62 < s.n) : xG E b (xnew s o) = zup (xG E b s) s.n o := xG_g (s := s) (o := o) (xfree_out h)
theorem xG_M {E : zEnv} {b : Nat} {s : zX} {m : Nat → zM} : xG E b (xM s m) = xG E b s := rfl
/-- one cell of the block is another: the cells behind -/
theorem xG_up {E : zEnv} {b : Nat} {s u : zX} {h : Nat} {c : va_E} (hh : h ≤ 62) (hg : u.g = s.g) (hc : xblk E b u h = some c) (ho : ∀ q, q ≤ 62 → q ≠ h → xblk E b u q = xblk E b s q) : xG E b u = zup (xG E b s) (b + h) c := by
  funext a
  unfold zup
  by_cases ha : a = b + h
  · subst ha
    rw [if_pos rfl, xG_at hh hc]
  · rw [if_neg ha]
    unfold xG
    by_cases hb : b ≤ a ∧ a ≤ b + 62
    · rw [if_pos hb, if_pos hb, ho (a - b) (by omega) (by omega), hg]
    · rw [if_neg hb, if_neg hb, hg]
theorem xobj_ext {b : Nat} {s u : zX} {j : Nat} {v : Value} (hj : j < 58) (h1 : xfield b u j = v) (h2 : ∀ q, q < 58 → q ≠ j → xfield b u q = xfield b s q) : (xobj b s).set j v = xobj b u := by
  apply List.ext_getElem?
  intro q
  by_cases hq : q < 58
  · rw [xobj_get hq]
    by_cases hqj : q = j
    · subst hqj
      rw [List.getElem?_set_self (by rw [xobj_len]; exact hq), h1]
    · rw [List.getElem?_set_ne (fun e => hqj e.symm), xobj_get hq, h2 q hq hqj]
  · rw [List.getElem?_eq_none (by rw [List.length_set, xobj_len]; omega), List.getElem?_eq_none (by rw [xobj_len]; omega)]
theorem xyobj_ext {b : Nat} {s u : zX} {y j : Nat} {v : Value} (hj : j < 16) (h1 : xyfield b u y j = v) (h2 : ∀ q, q < 16 → q ≠ j → xyfield b u y q = xyfield b s y q) : (xyobj b s y).set j v = xyobj b u y := by
  apply List.ext_getElem?
  intro q
  by_cases hq : q < 16
  · rw [xyobj_get hq]
    by_cases hqj : q = j
    · subst hqj
      rw [List.getElem?_set_self (by rw [xyobj_len]; exact hq), h1]
    · rw [List.getElem?_set_ne (fun e => hqj e.symm), xyobj_get hq, h2 q hq hqj]
  · rw [List.getElem?_eq_none (by rw [List.length_set, xyobj_len]; omega), List.getElem?_eq_none (by rw [xyobj_len]; omega)]
theorem xobj_same {b : Nat} {s u : zX} (h : ∀ q, q < 58 → xfield b u q = xfield b s q) : xobj b u = xobj b s := by
  unfold xobj
  exact List.map_congr_left fun q hq => h q (List.mem_range.mp hq)
theorem xyobj_same {b : Nat} {s u : zX} {y : Nat} (h : ∀ q, q < 16 → xyfield b u y q = xyfield b s y q) : xyobj b u y = xyobj b s y := by
  unfold xyobj
  exact List.map_congr_left fun q hq => h q (List.mem_range.mp hq)
theorem xblk_same {E : zEnv} {b : Nat} {s u : zX} {h : Nat} (h0 : h = 0 → xobj b u = xobj b s) (hy : ∀ y, y < 3 → h = xyo y → xyobj b u y = xyobj b s y) (hA : u.A h = s.A h) : xblk E b u h = xblk E b s h := by
  unfold xblk
  by_cases c0 : h = 0
  · rw [if_pos c0, if_pos c0, h0 c0]
  rw [if_neg c0, if_neg c0]
  by_cases c1 : h = 28
  · rw [if_pos c1, if_pos c1, hy 0 (by decide) c1]
  rw [if_neg c1, if_neg c1]
  by_cases c2 : h = 35
  · rw [if_pos c2, if_pos c2, hy 1 (by decide) c2]
  rw [if_neg c2, if_neg c2]
  by_cases c3 : h = 42
  · rw [if_pos c3, if_pos c3, hy 2 (by decide) c3]
  rw [if_neg c3, if_neg c3, hA]
theorem xfield_same {b : Nat} {s u : zX} {q : Nat} (h1 : xfk.getD q 9 = 0 → u.I q = s.I q) (h2 : xfk.getD q 9 = 1 → u.V q = s.V q) (hq : q < 58) : xfield b u q = xfield b s q := by
  have e : xfk.getD q 0 = xfk.getD q 9 := by
    rw [List.getD_eq_getElem?_getD, List.getD_eq_getElem?_getD]
    have : q < xfk.length := hq
    rw [List.getElem?_eq_getElem this]; rfl
  unfold xfield
  rw [e]
  generalize hk : xfk.getD q 9 = kk at h1 h2 ⊢
  match kk with
  | 0 => rw [h1 rfl]
  | 1 => rw [h2 rfl]
  | z + 2 => rfl
theorem xfk_lt {j c : Nat} (h : xfk.getD j 9 = c) (hc : c ≠ 9) : j < 58 := by
  rcases Nat.lt_or_ge j 58 with q | q
  · exact q
  · have : xfk.getD j 9 = 9 := by rw [List.getD_eq_getElem?_getD, List.getElem?_eq_none (by show 58 ≤ j; exact q)]; rfl
    rw [this] at h
    exact absurd h.symm hc
theorem xfk_e {j c : Nat} (h : xfk.getD j 9 = c) (hc : c ≠ 9) : xfk.getD j 0 = c := by
  have hq := xfk_lt h hc
  rw [← h, List.getD_eq_getElem?_getD, List.getD_eq_getElem?_getD]
  have : j < xfk.length := hq
  rw [List.getElem?_eq_getElem this]; rfl
/-- an int field of ToolUnion is written -/
theorem xG_I {E : zEnv} {b : Nat} {s : zX} {j : Nat} {v : Int32} (hk : xfk.getD j 9 = 0) : xG E b (xI s j v) = zup (xG E b s) b (.inr (1, (xobj b s).set j (.int v))) := by
  have hj := xfk_lt hk (by decide)
  refine xG_up (h := 0) (by omega) rfl ?_ ?_
  · show some (Sum.inr (1, xobj b (xI s j v))) = _
    rw [xobj_ext hj (u := xI s j v)]
    · unfold xfield
      rw [xfk_e hk (by decide)]
      simp [xI_I]
    · intro q hq hn
      exact xfield_same (fun _ => by simp [xI_I, hn]) (fun _ => rfl) hq
  · intro q hq hn
    refine xblk_same (fun e => absurd e hn) (fun y hy e => xyobj_same fun i hi => ?_) rfl
    unfold xyfield
    have : xyi y i ≠ j := by unfold xyi; omega
    simp [xI_I, this]
/-- an int field of a Yard is written -/
theorem xG_yI {E : zEnv} {b : Nat} {s : zX} {y j : Nat} {v : Int32} (hy : y < 3) (h6 : 6 ≤ j) (h15 : j < 15) : xG E b (xI s (xyi y j) v) = zup (xG E b s) (b + xyo y) (.inr (2, (xyobj b s y).set j (.int v))) := by
  refine xG_up (h := xyo y) (by unfold xyo; omega) rfl ?_ ?_
  · have : xblk E b (xI s (xyi y j) v) (xyo y) = some (.inr (2, xyobj b (xI s (xyi y j) v) y)) := by
      rcases (by omega : y = 0 ∨ y = 1 ∨ y = 2) with rfl | rfl | rfl <;> rfl
    rw [this, xyobj_ext (by omega) (u := xI s (xyi y j) v)]
    · unfold xyfield
      rw [if_neg (by omega), if_pos h15]
      simp [xI_I]
    · intro q hq hn
      unfold xyfield
      have : xyi y q ≠ xyi y j := by unfold xyi; omega
      simp [xI_I, this]
  · intro q hq hn
    refine xblk_same (fun e => xobj_same fun i hi => xfield_same (fun _ => ?_) (fun _ => rfl) hi) (fun z hz e => xyobj_same fun i hi => ?_) rfl
    · have : i ≠ xyi y j := by unfold xyi; omega
      simp [xI_I, this]
    · have hzy : z ≠ y := fun w => hn (by rw [e, w])
      unfold xyfield
      have : xyi z i ≠ xyi y j := by unfold xyi; omega
      simp [xI_I, this]
/-- a reference of ToolUnion is written -/
theorem xG_V {E : zEnv} {b : Nat} {s : zX} {j : Nat} {v : Option Nat} (hk : xfk.getD j 9 = 1) : xG E b (xV s j v) = zup (xG E b s) b (.inr (1, (xobj b s).set j (va_rf v))) := by
  have hj := xfk_lt hk (by decide)
  refine xG_up (h := 0) (by omega) rfl ?_ ?_
  · show some (Sum.inr (1, xobj b (xV s j v))) = _
    rw [xobj_ext hj (u := xV s j v)]
    · unfold xfield
      rw [xfk_e hk (by decide)]
      simp [xV_V]
    · intro q hq hn
      exact xfield_same (fun _ => rfl) (fun _ => by simp [xV_V, hn]) hq
  · intro q hq hn
    exact xblk_same (fun e => absurd e hn) (fun y hy e => rfl) rfl
theorem xarr_lt {h : Nat} {q : Nat × Nat} (hh : xarr.getD h none = some q) : h ≤ 62 := by
  rcases Nat.lt_or_ge h 63 with c | c
  · omega
  · rw [List.getD_eq_getElem?_getD, List.getElem?_eq_none (by show 63 ≤ h; exact c)] at hh
    cases hh
theorem xblk_arr {E : zEnv} {b : Nat} {s : zX} {h t N : Nat} (hh : xarr.getD h none = some (t, N)) : xblk E b s h = some (.inl (E.dA t, N, .inl (s.A h))) := by
  have e : ∀ {x : Nat}, xarr.getD x none = none → h ≠ x := fun q w => by rw [w, q] at hh; cases hh
  unfold xblk
  rw [if_neg (e rfl), if_neg (e rfl), if_neg (e rfl), if_neg (e rfl), hh]
/-- an array of the block is another -/
theorem xG_B {E : zEnv} {b : Nat} {s : zX} {h t N : Nat} {f : Nat → Int32} (hh : xarr.getD h none = some (t, N)) : xG E b (xB s h f) = zup (xG E b s) (b + h) (.inl (E.dA t, N, .inl f)) := by
  refine xG_up (xarr_lt hh) rfl ?_ ?_
  · rw [xblk_arr hh, xB_s]
  · intro q hq hn
    exact xblk_same (fun e => rfl) (fun y hy e => rfl) (xB_o hn)
theorem xA_B {s : zX} {h i : Nat} {v : Int32} : xA s h i v = xB s h (upd (s.A h) i v) := rfl
theorem xG_AA {E : zEnv} {b : Nat} {s : zX} {h i t N : Nat} {v : Int32} (hh : xarr.getD h none = some (t, N)) : xG E b (xA s h i v) = zup (xG E b s) (b + h) (.inl (E.dA t, N, .inl (upd (s.A h) i v))) := xG_B hh
