/-! ===== what ToolUnion's state answers to the model's row ===== -/
def xw (s : zX) (y : Nat) : Nat → Int32 := (s.m y).2 1
theorem xw_I {s : zX} {j y : Nat} {v : Int32} : xw (xI s j v) y = xw s y := rfl
theorem xw_A {s : zX} {h i y : Nat} {v : Int32} : xw (xA s h i v) y = xw s y := rfl
theorem xw_B {s : zX} {h y : Nat} {f : Nat → Int32} : xw (xB s h f) y = xw s y := rfl
theorem xw_V {s : zX} {j y : Nat} {v : Option Nat} : xw (xV s j v) y = xw s y := rfl
/-- an element of an array of references; a number in an object -/
def xrefs (o : Option va_E) (i : Nat) : Option Nat := match o with
  | some (.inl (_, _, .inr (.inr (.inr (.inr f))))) => f i
  | _ => none
def xint (o : Option va_E) (j : Nat) : Int32 := match o with
  | some (.inr (_, fs)) => (match fs[j]? with
    | some (.int v) => v
    | _ => 0)
  | _ => 0
def xrf1 (o : Option va_E) (j : Nat) : Nat := match o with
  | some (.inr (_, fs)) => (match fs[j]? with
    | some (.ref v) => v
    | _ => 0)
  | _ => 0
/-- records -/
def xisW (b : Nat) (g : zG) (a : Nat) : Prop := xfree b a ∧ ∃ x y z, g a = some (.inr (5, [.int x, .int y, .int z]))
def xisR (b : Nat) (g : zG) (a : Nat) : Prop := xfree b a ∧ ∃ x y z u v, g a = some (.inr (6, [.int x, .int y, .int z, .int u, .int v]))
theorem xisW.is {b : Nat} {s : zX} {a : Nat} (h : xisW b s.g a) : xis b s 5 a := ⟨h.1, by obtain ⟨-, x, y, z, h⟩ := h; exact ⟨_, h⟩⟩
theorem xisR.is {b : Nat} {s : zX} {a : Nat} (h : xisR b s.g a) : xis b s 6 a := ⟨h.1, by obtain ⟨-, x, y, z, u, v, h⟩ := h; exact ⟨_, h⟩⟩
def xhA (V : Nat → Option Nat) : Nat := (V 18).getD 0
def xtA (V : Nat → Option Nat) : Nat := (V 19).getD 0
def xwk (V : Nat → Option Nat) (g : zG) (i : Nat) : Nat := (xrefs (g (xhA V)) i).getD 0
def xtn (V : Nat → Option Nat) (g : zG) (i : Nat) : Nat := (xrefs (g (xtA V)) i).getD 0
def xHull (E : zEnv) (b : Nat) (V : Nat → Option Nat) (g : zG) (w : Nat → Int32) : Prop := V 18 = some (xhA V) ∧ xfree b (xhA V) ∧ (∃ W f, w 98 = nI W ∧ W ≤ 8 ∧ g (xhA V) = some (.inl (E.dA 3, W, .inr (.inr (.inr (.inr f)))))) ∧
  ∀ i, i < (w 98).toNatClampNeg → xrefs (g (xhA V)) i = some (xwk V g i) ∧ xfree b (xwk V g i) ∧ g (xwk V g i) = some (.inr (5, [.int (w (142 + 3 * i)), .int (w (142 + 3 * i + 1)), .int (w (142 + 3 * i + 2))]))
def xRota (E : zEnv) (b : Nat) (V : Nat → Option Nat) (g : zG) (w : Nat → Int32) : Prop := V 19 = some (xtA V) ∧ xfree b (xtA V) ∧ (∃ W f, w 99 = nI W ∧ W ≤ 20 ∧ g (xtA V) = some (.inl (E.dA 4, W, .inr (.inr (.inr (.inr f)))))) ∧
  ∀ i, i < (w 99).toNatClampNeg → xrefs (g (xtA V)) i = some (xtn V g i) ∧ xfree b (xtn V g i) ∧ g (xtn V g i) = some (.inr (6, [.int (w (166 + 5 * i)), .int (w (166 + 5 * i + 1)), .int (w (166 + 5 * i + 2)), .int (w (166 + 5 * i + 3)), .int (w (166 + 5 * i + 4))])) ∧
    ∃ t j f h : Nat, w (166 + 5 * i) = nI t ∧ t < (w 96).toNatClampNeg ∧ w (166 + 5 * i + 2) = nI j ∧ j < (w 98).toNatClampNeg ∧ w (166 + 5 * i + 3) = nI f ∧ f ≤ 9999 ∧ w (166 + 5 * i + 4) = nI h ∧ 1 ≤ h ∧ h ≤ 99
/-- a term of the heap and its steps -/
def xopc (c o : Int32) : Prop := (c = 43 ∧ o = 23) ∨ (c = 45 ∧ o = 24) ∨ (c = 42 ∧ o = 25) ∨ (c = 60 ∧ o = 27) ∨ (c = 61 ∧ o = 28) ∨ (c = 62 ∧ o = 29) ∨ (c = 38 ∧ o = 31) ∨ (c = 124 ∧ o = 32)
def xTerm (b : Nat) (g : zG) : Nat → Nat → List (Int32 × Int32) → Prop
  | 0, _, _ => False
  | h + 1, a, c => xfree b a ∧ ((∃ v, g a = some (.inr (7, [.int v])) ∧ c = [(0, v)]) ∨ (∃ (k : Nat) (v : Int32), k < 10 ∧ g a = some (.inr (8, [.int (nI k)])) ∧ c = [(nI (k + 1), v)]) ∨
    (∃ a1 c1, g a = some (.inr (10, [.ref a1])) ∧ xTerm b g h a1 c1 ∧ c = c1 ++ [(30, 0)]) ∨
    (∃ a1 a2 c1 v, g a = some (.inr (9, [.int 47, .ref a1, .ref a2])) ∧ ¬ v = 0 ∧ xTerm b g h a1 c1 ∧ xfree b a2 ∧ g a2 = some (.inr (7, [.int v])) ∧ c = c1 ++ [(26, v)]) ∨
    (∃ ch o a1 a2 c1 c2, xopc ch o ∧ g a = some (.inr (9, [.int ch, .ref a1, .ref a2])) ∧ xTerm b g h a1 c1 ∧ xTerm b g h a2 c2 ∧ c = c1 ++ (c2 ++ [(o, 0)])))
def xLine (b : Nat) (g : zG) (w : Nat → Int32) (k i : Nat) (v : Int32) (wr wn : Option Nat) : Prop := w (362 + 16 * k + i) = v + nI (20 + 2 * k) ∧
  ((w (330 + 16 * k + i) = w (298 + 16 * k + i) ∧ wn = none) ∨ (¬ w (330 + 16 * k + i) = w (298 + 16 * k + i) ∧ ∃ a h, h ≤ 411 ∧ wn = some a ∧ xTerm b g h a (ysteps w k (w (298 + 16 * k + i)).toNatClampNeg ((w (330 + 16 * k + i)).toNatClampNeg - (w (298 + 16 * k + i)).toNatClampNeg)) ∧ ∀ F, yval F (ysteps w k (w (298 + 16 * k + i)).toNatClampNeg ((w (330 + 16 * k + i)).toNatClampNeg - (w (298 + 16 * k + i)).toNatClampNeg)) = 0 ∨ yval F (ysteps w k (w (298 + 16 * k + i)).toNatClampNeg ((w (330 + 16 * k + i)).toNatClampNeg - (w (298 + 16 * k + i)).toNatClampNeg)) = 1)) ∧
  (k = 1 → ∃ a h, h ≤ 411 ∧ wr = some a ∧ xTerm b g h a (ysteps w k (w (266 + 16 * k + i)).toNatClampNeg ((w (298 + 16 * k + i)).toNatClampNeg - (w (266 + 16 * k + i)).toNatClampNeg)))
/-- an object Text at a: its arrays at a1 a2 a3 -/
def xTextAt (E : zEnv) (b : Nat) (g : zG) (w : Nat → Int32) (k a : Nat) : Prop := ∃ (a1 a2 a3 L : Nat) (fw : Nat → Int32) (fr fn : Nat → Option Nat), xfree b a ∧ xfree b a1 ∧ xfree b a2 ∧ xfree b a3 ∧ g a = some (.inr (3, [.ref a1, .ref a2, .ref a3, .int (nI L)])) ∧ w (100 + k) = nI L ∧ L ≤ 16 ∧
  g a1 = some (.inl (E.dA 0, 16, .inl fw)) ∧ g a2 = some (.inl (E.dA 5, 16, .inr (.inr (.inr (.inr fr))))) ∧ g a3 = some (.inl (E.dA 5, 16, .inr (.inr (.inr (.inr fn))))) ∧ ∀ i, i < L → xLine b g w k i (fw i) (fr i) (fn i)
def xText (E : zEnv) (b : Nat) (V : Nat → Option Nat) (g : zG) (w : Nat → Int32) (k : Nat) : Prop := ∃ a, V (16 + k) = some a ∧ xTextAt E b g w k a
/-- what all Yards share -/
def xS (E : zEnv) (b : Nat) (s : zX) (w : Nat → Int32) : Prop :=
  (s.I 27 = w 96 ∧ s.I 28 = w 97 ∧ s.I 29 = w 102 ∧ s.I 30 = w 103 ∧ s.I 50 = w 104) ∧
  (∀ t, t < 8 → s.A 20 t = w (16 + 10 * t) ∧ s.A 21 t = w (16 + 10 * t + 1) ∧ s.A 22 t = w (16 + 10 * t + 2) ∧ s.A 23 t = w (16 + 10 * t + 5) ∧ s.A 24 t = w (16 + 10 * t + 6)) ∧
  (∀ m, m < 4 → s.A 25 m = w (130 + 2 * m) ∧ s.A 26 m = w (130 + 2 * m + 1)) ∧
  (∀ i, i < 12 → s.A 57 i = w (105 + 2 * i) ∧ s.A 58 i = w (105 + 2 * i + 1)) ∧
  xHull E b s.V s.g w ∧ xRota E b s.V s.g w ∧ xText E b s.V s.g w 0 ∧ xText E b s.V s.g w 1
/-- a Yard's own part -/
def xY (s : zX) (y : Nat) (w : Nat → Int32) : Prop :=
  (s.I (xyi y 6) = w 0 ∧ s.I (xyi y 7) = w 1 ∧ s.I (xyi y 8) = w 3 ∧ s.I (xyi y 9) = w 2) ∧
  (∀ t, t < 8 → s.A (xya y 0) t = w (16 + 10 * t + 3) ∧ s.A (xya y 1) t = w (16 + 10 * t + 4) ∧ s.A (xya y 3) t = w (16 + 10 * t + 8)) ∧
  (∀ j, j < 4 → s.A (xya y 4) j = w (4 + j)) ∧ (∀ j, j < 8 → s.A (xya y 5) j = w (8 + j)) ∧ ∀ t, t < 8 → t < (w 96).toNatClampNeg → s.A (xya y 2) t = w (16 + 10 * t + 7)
def xR (E : zEnv) (b : Nat) (s : zX) (y : Nat) : Prop := xS E b s (xw s y) ∧ xY s y (xw s y) ∧ yinv (xw s y)
/-- only what the relation reads matters -/
theorem xS.same {E : zEnv} {b : Nat} {s u : zX} {w : Nat → Int32} (h : xS E b s w) (hI : ∀ j, j = 27 ∨ j = 28 ∨ j = 29 ∨ j = 30 ∨ j = 50 → u.I j = s.I j) (hA : ∀ h, 20 ≤ h ∧ h < 27 ∨ h = 57 ∨ h = 58 → u.A h = s.A h) (hV : u.V = s.V) (hg : u.g = s.g) : xS E b u w := by
  obtain ⟨⟨h1, h2, h3, h4, h5⟩, h6, h7, h8, h9⟩ := h
  unfold xS
  rw [hI 27 (by simp), hI 28 (by simp), hI 29 (by simp), hI 30 (by simp), hI 50 (by simp), hA 20 (by omega), hA 21 (by omega), hA 22 (by omega), hA 23 (by omega), hA 24 (by omega), hA 25 (by omega), hA 26 (by omega), hA 57 (by omega), hA 58 (by omega), hV, hg]
  exact ⟨⟨h1, h2, h3, h4, h5⟩, h6, h7, h8, h9⟩
theorem xY.same {s u : zX} {y : Nat} {w : Nat → Int32} (h : xY s y w) (hI : ∀ j, 6 ≤ j → j < 10 → u.I (xyi y j) = s.I (xyi y j)) (hA : ∀ j, j < 6 → u.A (xya y j) = s.A (xya y j)) : xY u y w := by
  obtain ⟨⟨h1, h2, h3, h4⟩, h6, h7, h8, h9⟩ := h
  unfold xY
  rw [hI 6 (by omega) (by omega), hI 7 (by omega) (by omega), hI 8 (by omega) (by omega), hI 9 (by omega) (by omega), hA 0 (by omega), hA 1 (by omega), hA 2 (by omega), hA 3 (by omega), hA 4 (by omega), hA 5 (by omega)]
  exact ⟨⟨h1, h2, h3, h4⟩, h6, h7, h8, h9⟩
theorem xR.same {E : zEnv} {b : Nat} {s u : zX} {y : Nat} (h : xR E b s y) (hI : ∀ j, j = 27 ∨ j = 28 ∨ j = 29 ∨ j = 30 ∨ j = 50 → u.I j = s.I j) (hA : ∀ h, 20 ≤ h ∧ h < 27 ∨ h = 57 ∨ h = 58 → u.A h = s.A h) (hV : u.V = s.V) (hg : u.g = s.g)
    (hJ : ∀ j, 6 ≤ j → j < 10 → u.I (xyi y j) = s.I (xyi y j)) (hB : ∀ j, j < 6 → u.A (xya y j) = s.A (xya y j)) (hm : u.m = s.m) : xR E b u y := by
  obtain ⟨h1, h2, h3⟩ := h
  have e : xw u y = xw s y := by unfold xw; rw [hm]
  unfold xR
  rw [e]
  exact ⟨h1.same hI hA hV hg, h2.same hJ hB, h3⟩
/-- scratch: the arrays that nobody keeps, the hands found, what a thought notes -/
def xscr (h : Nat) : Prop := h = 27 ∨ 51 ≤ h ∧ h ≤ 56 ∨ h = 59
def xes (s u : zX) : Prop := (∀ j, ¬ (38 ≤ j ∧ j ≤ 40) → u.I j = s.I j) ∧ (∀ h, ¬ xscr h → u.A h = s.A h) ∧ u.V = s.V ∧ u.n = s.n ∧ u.g = s.g ∧ u.m = s.m
theorem xes.rf {s : zX} : xes s s := ⟨fun _ _ => rfl, fun _ _ => rfl, rfl, rfl, rfl, rfl⟩
theorem xes.tr {s u v : zX} (h : xes s u) (q : xes u v) : xes s v := ⟨fun j hj => (q.1 j hj).trans (h.1 j hj), fun j hj => (q.2.1 j hj).trans (h.2.1 j hj), q.2.2.1.trans h.2.2.1, q.2.2.2.1.trans h.2.2.2.1, q.2.2.2.2.1.trans h.2.2.2.2.1, q.2.2.2.2.2.trans h.2.2.2.2.2⟩
theorem xes.B {s u : zX} (h : xes s u) {j : Nat} (hj : xscr j) {f : Nat → Int32} : xes s (xB u j f) := by
  refine h.tr ⟨fun _ _ => rfl, fun q hq => ?_, rfl, rfl, rfl, rfl⟩
  rw [xB_o (fun e => hq (by rw [e]; exact hj))]
theorem xes.A {s u : zX} (h : xes s u) {j i : Nat} (hj : xscr j) {v : Int32} : xes s (xA u j i v) := by
  refine h.tr ⟨fun _ _ => rfl, fun q hq => ?_, rfl, rfl, rfl, rfl⟩
  rw [xA_o (fun e => hq (by rw [e]; exact hj))]
theorem xes.I {s u : zX} (h : xes s u) {j : Nat} (hj : 38 ≤ j ∧ j ≤ 40) {v : Int32} : xes s (xI u j v) := by
  refine h.tr ⟨fun q hq => ?_, fun _ _ => rfl, rfl, rfl, rfl, rfl⟩
  rw [xI_o (fun e => hq (by rw [e]; exact hj))]
theorem xes.w {s u : zX} (h : xes s u) {y : Nat} : xw u y = xw s y := by unfold xw; rw [h.2.2.2.2.2]
theorem xes.R {E : zEnv} {b : Nat} {s u : zX} {y : Nat} (h : xes s u) (q : xR E b s y) (hy : y < 3) : xR E b u y := by
  refine q.same (fun j hj => h.1 j (by omega)) (fun j hj => h.2.1 j (by unfold xscr; omega)) h.2.2.1 h.2.2.2.2.1 (fun j h1 h2 => h.1 _ (by unfold xyi; omega)) (fun j hj => h.2.1 _ (by unfold xscr xya; omega)) h.2.2.2.2.2
theorem xR.q {E : zEnv} {b : Nat} {s : zX} {y h : Nat} {f : Nat → Int32} (hy : y < 3) (hh : xscr h) : xR E b (xB s h f) y = xR E b s y := propext ⟨fun q => by
  have e : s = xB (xB s h f) h (s.A h) := by
    show s = (s.I, _, s.V, s.n, s.g, s.m)
    have : (fun q => if q = h then s.A h else (xB s h f).A q) = s.A := by
      funext q
      by_cases hq : q = h
      · rw [if_pos hq, hq]
      · rw [if_neg hq, xB_o hq]
    rw [this]; rfl
  rw [e]
  exact (xes.rf.B hh).R q hy, fun q => (xes.rf.B hh).R q hy⟩
theorem xB_B {s : zX} {h : Nat} {f f' : Nat → Int32} : xB (xB s h f) h f' = xB s h f' := by
  show (s.I, _, s.V, s.n, s.g, s.m) = (s.I, _, s.V, s.n, s.g, s.m)
  have : (fun q => if q = h then f' else (xB s h f).A q) = fun q => if q = h then f' else s.A q := by
    funext q
    by_cases hq : q = h
    · rw [if_pos hq, if_pos hq]
    · rw [if_neg hq, if_neg hq, xB_o hq]
  rw [this]
theorem xB_e {s : zX} {h : Nat} : xB s h (s.A h) = s := by
  have : (fun q => if q = h then s.A h else s.A q) = s.A := by
    funext q
    by_cases hq : q = h
    · rw [if_pos hq, hq]
    · rw [if_neg hq]
  show (s.I, _, s.V, s.n, s.g, s.m) = s
  rw [this]; rfl
def xlt (i n : Int32) : Prop := ∃ j N : Nat, i = nI j ∧ n = nI N ∧ j < N ∧ N < 1000
theorem xlt_nI {j N : Nat} (h : j < N) (hN : N < 1000) : xlt (nI j) (nI N) = True := eq_true ⟨j, N, rfl, rfl, h, hN⟩
theorem xlt.of {i n : Int32} {N : Nat} (h : xlt i n) (hn : n = nI N) (hN : N < 1000) : ∃ j, j < N ∧ i = nI j := by
  obtain ⟨j, N', e1, e2, h1, h2⟩ := h
  rw [hn] at e2
  have := (nI_eq (by omega) (by omega)).mp e2
  exact ⟨j, by omega, e1⟩
/-! what a body reads -/
section XFACT
variable {E : zEnv} {b : Nat} {s : zX} {y : Nat}
theorem xR.i27 (h : xR E b s y) : s.I 27 = xw s y 96 := h.1.1.1
theorem xR.i28 (h : xR E b s y) : s.I 28 = xw s y 97 := h.1.1.2.1
theorem xR.i29 (h : xR E b s y) : s.I 29 = xw s y 102 := h.1.1.2.2.1
theorem xR.i30 (h : xR E b s y) : s.I 30 = xw s y 103 := h.1.1.2.2.2.1
theorem xR.i50 (h : xR E b s y) : s.I 50 = xw s y 104 := h.1.1.2.2.2.2
theorem xR.a20 (h : xR E b s y) (t : Nat) (ht : t < 8) : s.A 20 t = xw s y (16 + 10 * t) := (h.1.2.1 t ht).1
theorem xR.a21 (h : xR E b s y) (t : Nat) (ht : t < 8) : s.A 21 t = xw s y (16 + 10 * t + 1) := (h.1.2.1 t ht).2.1
theorem xR.a22 (h : xR E b s y) (t : Nat) (ht : t < 8) : s.A 22 t = xw s y (16 + 10 * t + 2) := (h.1.2.1 t ht).2.2.1
theorem xR.a23 (h : xR E b s y) (t : Nat) (ht : t < 8) : s.A 23 t = xw s y (16 + 10 * t + 5) := (h.1.2.1 t ht).2.2.2.1
theorem xR.a24 (h : xR E b s y) (t : Nat) (ht : t < 8) : s.A 24 t = xw s y (16 + 10 * t + 6) := (h.1.2.1 t ht).2.2.2.2
theorem xR.a25 (h : xR E b s y) (m : Nat) (hm : m < 4) : s.A 25 m = xw s y (130 + 2 * m) := (h.1.2.2.1 m hm).1
theorem xR.a26 (h : xR E b s y) (m : Nat) (hm : m < 4) : s.A 26 m = xw s y (130 + 2 * m + 1) := (h.1.2.2.1 m hm).2
theorem xR.a57 (h : xR E b s y) (i : Nat) (hi : i < 12) : s.A 57 i = xw s y (105 + 2 * i) := (h.1.2.2.2.1 i hi).1
theorem xR.a58 (h : xR E b s y) (i : Nat) (hi : i < 12) : s.A 58 i = xw s y (105 + 2 * i + 1) := (h.1.2.2.2.1 i hi).2
theorem xR.hu (h : xR E b s y) : xHull E b s.V s.g (xw s y) := h.1.2.2.2.2.1
theorem xR.ro (h : xR E b s y) : xRota E b s.V s.g (xw s y) := h.1.2.2.2.2.2.1
theorem xR.t0 (h : xR E b s y) : xText E b s.V s.g (xw s y) 0 := h.1.2.2.2.2.2.2.1
theorem xR.t1 (h : xR E b s y) : xText E b s.V s.g (xw s y) 1 := h.1.2.2.2.2.2.2.2
theorem xR.hour (h : xR E b s y) : s.I (xyi y 6) = xw s y 0 := h.2.1.1.1
theorem xR.strikes (h : xR E b s y) : s.I (xyi y 7) = xw s y 1 := h.2.1.1.2.1
theorem xR.state (h : xR E b s y) : s.I (xyi y 8) = xw s y 3 := h.2.1.1.2.2.1
theorem xR.bookn (h : xR E b s y) : s.I (xyi y 9) = xw s y 2 := h.2.1.1.2.2.2
theorem xR.edge (h : xR E b s y) (t : Nat) (ht : t < 8) : s.A (xya y 0) t = xw s y (16 + 10 * t + 3) := (h.2.1.2.1 t ht).1
theorem xR.mood (h : xR E b s y) (t : Nat) (ht : t < 8) : s.A (xya y 1) t = xw s y (16 + 10 * t + 4) := (h.2.1.2.1 t ht).2.1
theorem xR.today (h : xR E b s y) {N : Nat} (hN : xw s y 96 = nI N) (hN8 : N ≤ 8) (t : Nat) (ht : t < N) : s.A (xya y 2) t = xw s y (16 + 10 * t + 7) := h.2.1.2.2.2.2 t (by omega) (by rw [hN, nI_cl (by omega)]; exact ht)
theorem xR.served (h : xR E b s y) (t : Nat) (ht : t < 8) : s.A (xya y 3) t = xw s y (16 + 10 * t + 8) := (h.2.1.2.1 t ht).2.2
theorem xR.may (h : xR E b s y) (j : Nat) (hj : j < 4) : s.A (xya y 4) j = xw s y (4 + j) := h.2.1.2.2.1 j hj
theorem xR.done (h : xR E b s y) (j : Nat) (hj : j < 8) : s.A (xya y 5) j = xw s y (8 + j) := h.2.1.2.2.2.1 j hj
theorem xR.inv (h : xR E b s y) : yinv (xw s y) := h.2.2
theorem xR.nt (h : xR E b s y) : ∃ N, N ≤ 8 ∧ xw s y 96 = nI N := by
  obtain ⟨N, h1, h2⟩ := vp_in_of h.inv.1.2.2.2.2.1 (by decide)
  exact ⟨N, by omega, h2⟩
end XFACT
