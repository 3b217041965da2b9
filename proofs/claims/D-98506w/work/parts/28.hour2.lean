/-! an hour goes by -/
/-- places of the row that acts and hours don't touch -/
def yfix (j : Nat) : Prop := 96 ≤ j ∧ j < 102 ∨ 104 ≤ j ∧ j < 130 ∨ 142 ≤ j ∧ j < 2034 ∨ 16 ≤ j ∧ j < 96 ∧ ((j - 16) % 10 = 0 ∨ (j - 16) % 10 = 1 ∨ (j - 16) % 10 = 2 ∨ (j - 16) % 10 = 5 ∨ (j - 16) % 10 = 6)
def yk (w w' : Nat → Int32) : Prop := ∀ j, yfix j → w' j = w j
theorem yk.rf {w : Nat → Int32} : yk w w := fun _ _ => rfl
theorem yk.tr {w w' w'' : Nat → Int32} (h : yk w w') (h' : yk w' w'') : yk w w'' := fun j q => (h' j q).trans (h j q)
theorem yk.upd {w w' : Nat → Int32} (h : yk w w') {i : Nat} {v : Int32} (hi : ¬ yfix i) : yk w (upd w' i v) := fun j q => by
  rw [upd_n (fun e => hi (by rw [← e]; exact q))]
  exact h j q
def ywf (w : Nat → Int32) : Prop := ylawok w 0 ∧ ylawok w 1 ∧ (∀ l, l < 20 → yrline w l) ∧ ybranches w ∧ vp_in (w 96) 9 ∧ vp_in (w 97) 5 ∧ vp_in (w 98) 9 ∧ vp_in (w 99) 21 ∧ vp_in (w 104) 13 ∧ vp_in (w 2) 201
theorem ysteps_k {w w' : Nat → Int32} (h : yk w w') {k : Nat} (hk : k ≤ 1) : ∀ (n i : Nat), i + n ≤ 410 → ysteps w' k i n = ysteps w k i n
  | 0, _, _ => rfl
  | n + 1, i, hi => by
    rw [ysteps, ysteps, ysteps_k h hk n (i + 1) (by omega), h _ (by unfold yfix; omega), h _ (by unfold yfix; omega)]
theorem yline_k {w w' : Nat → Int32} (h : yk w w') {k i : Nat} (hk : k ≤ 1) (hi : i < 16) (q : yline w k i) : yline w' k i := by
  obtain ⟨f, c1, c2, e1, e2, e3, hle, h1, h2⟩ := q
  refine ⟨f, c1, c2, by rw [h _ (by unfold yfix; omega)]; exact e1, by rw [h _ (by unfold yfix; omega)]; exact e2, by rw [h _ (by unfold yfix; omega)]; exact e3, hle, ?_, ?_⟩
  · rw [ysteps_k h hk _ _ (by omega)]; exact h1
  · rw [ysteps_k h hk _ _ (by omega)]; exact h2
theorem ylawok_k {w w' : Nat → Int32} (h : yk w w') {k : Nat} (hk : k ≤ 1) (q : ylawok w k) : ylawok w' k := by
  obtain ⟨q1, q2⟩ := q
  have e : w' (100 + k) = w (100 + k) := h _ (by unfold yfix; omega)
  refine ⟨by rw [e]; exact q1, fun i hi => ?_⟩
  rw [e] at hi
  have := (zvp_clamp q1 (by decide)).2
  exact yline_k h hk (by omega) (q2 i hi)
theorem ywf_k {w w' : Nat → Int32} (h : yk w w') (q : ywf w) (h2 : vp_in (w' 2) 201) : ywf w' := by
  obtain ⟨a, b, c, d, e1, e2, e3, e4, e5, -⟩ := q
  refine ⟨ylawok_k h (by omega) a, ylawok_k h (by omega) b, fun l hl => ?_, fun T hT => ?_, ?_, ?_, ?_, ?_, ?_, h2⟩
  · obtain ⟨f1, f2, f3⟩ := c l hl
    exact ⟨by rw [h _ (by unfold yfix; omega)]; exact f1, by rw [h _ (by unfold yfix; omega)]; exact f2, by rw [h _ (by unfold yfix; omega)]; exact f3⟩
  · rw [h _ (by unfold yfix; omega)]; exact d T hT
  · rw [h _ (by unfold yfix; omega)]; exact e1
  · rw [h _ (by unfold yfix; omega)]; exact e2
  · rw [h _ (by unfold yfix; omega)]; exact e3
  · rw [h _ (by unfold yfix; omega)]; exact e4
  · rw [h _ (by unfold yfix; omega)]; exact e5
theorem yk_wears {w : Nat → Int32} {T M : Nat} (hT : T < 8) : yk w (ywears w T M) ∧ ywears w T M 2 = w 2 ∧ ywears w T M 0 = w 0 := by
  unfold ywears
  refine ⟨?_, ?_, ?_⟩
  · exact (((yk.rf.upd (by unfold yfix; omega)).upd (by unfold yfix; omega)).upd (by unfold yfix; omega)).upd (by unfold yfix; omega)
  · rw [upd_n (by omega), upd_n (by omega), upd_n (by omega), upd_n (by omega)]
  · rw [upd_n (by omega), upd_n (by omega), upd_n (by omega), upd_n (by omega)]
theorem yk_notes {w : Nat → Int32} {t m i : Int32} (h2 : vp_in (w 2) 201) : yk w (ynotes w t m i) ∧ vp_in (ynotes w t m i 2) 201 ∧ ynotes w t m i 0 = w 0 := by
  obtain ⟨N, hN, e⟩ := vp_in_of h2 (by decide)
  unfold ynotes
  by_cases c : w 2 = 200
  · rw [if_pos c]
    exact ⟨yk.rf, h2, rfl⟩
  · rw [if_neg c, e, nI_clamp (by omega)]
    have hc : N ≠ 200 := fun h => c (by rw [e, h]; rfl)
    refine ⟨((((yk.rf.upd (by unfold yfix; omega)).upd (by unfold yfix; omega)).upd (by unfold yfix; omega)).upd (by unfold yfix; omega)).upd (by unfold yfix; omega), ?_, ?_⟩
    · rw [upd_s, nI_1]
      exact vp_in_nI (by omega) (by decide)
    · rw [upd_n (by omega), upd_n (by omega), upd_n (by omega), upd_n (by omega), upd_n (by omega)]
theorem yk_worked {w : Nat → Int32} {tr : Int32} {l : Nat} (q : ywf w) (hl : l < 20) : yk w (yworked w tr l) ∧ vp_in (yworked w tr l 2) 201 ∧ yworked w tr l 0 = w 0 := by
  obtain ⟨f1, f2, f3⟩ := q.2.2.1 l hl
  have hT := (zvp_clamp f1 (by decide)).2
  have hI := (zvp_clamp f3 (by decide)).2
  obtain ⟨k1, k2, k3⟩ := yk_wears (w := w) (M := (w (166 + 5 * l + 1)).toNatClampNeg) hT
  have h2 := q.2.2.2.2.2.2.2.2.2
  unfold yworked
  dsimp only
  generalize ywears w (w (166 + 5 * l)).toNatClampNeg (w (166 + 5 * l + 1)).toNatClampNeg = W at k1 k2 k3 ⊢
  generalize (w (166 + 5 * l)).toNatClampNeg = T at hT ⊢
  generalize (w (166 + 5 * l + 2)).toNatClampNeg = I at hI ⊢
  generalize upd W (16 + 10 * T + 9) 1 (8 + I) + 1 = v
  have g1 : yk w (upd (upd W (16 + 10 * T + 9) 1) (8 + I) v) := (k1.upd (by unfold yfix; omega)).upd (by unfold yfix; omega)
  have g2 : upd (upd W (16 + 10 * T + 9) 1) (8 + I) v 2 = w 2 := by rw [upd_n (by omega), upd_n (by omega), k2]
  have g3 : upd (upd W (16 + 10 * T + 9) 1) (8 + I) v 0 = w 0 := by rw [upd_n (by omega), upd_n (by omega), k3]
  by_cases c : tr = 0
  · rw [if_pos c]
    exact ⟨g1, by rw [g2]; exact h2, g3⟩
  · rw [if_neg c]
    obtain ⟨n1, n2, n3⟩ := yk_notes (w := upd (upd W (16 + 10 * T + 9) 1) (8 + I) v) (t := w (166 + 5 * l)) (m := w (166 + 5 * l + 1)) (i := w (166 + 5 * l + 2)) (by rw [g2]; exact h2)
    exact ⟨g1.tr n1, n2, n3.trans g3⟩
/-- a line of the rota at an hour: the model, how many were refused -/
def yrot1 (tr : Int32) (i : Nat) (q : zM × Int32) : zM × Int32 :=
  if yin (q.1.2 1 0) (q.1.2 1 (166 + 5 * i + 3)) (q.1.2 1 (166 + 5 * i + 3) + q.1.2 1 (166 + 5 * i + 4) - 1) = true then
    (if yworksok (q.1.2 1) (q.1.1 30) i = true then (zF (zF (zB q.1 1 (yworked (q.1.2 1) tr i)) 30 (q.1.1 30 ||| (1 <<< (q.1.2 1 (166 + 5 * i + 1) &&& 31)))) 29 (q.1.1 29 + 1), q.2)
    else ((if q.1.1 27 = -1 then zF (zF q.1 27 (nI i)) 28 (q.1.2 1 0) else q.1), q.2 + 1))
  else q
def yrot (tr : Int32) (s : zM) : Nat → zM × Int32
  | 0 => (s, 0)
  | i + 1 => yrot1 tr i (yrot tr s i)
theorem yrot_k {tr : Int32} {s : zM} (q : ywf (s.2 1)) : ∀ i, i ≤ 20 → yk (s.2 1) ((yrot tr s i).1.2 1) ∧ ywf ((yrot tr s i).1.2 1)
  | 0, _ => ⟨yk.rf, q⟩
  | i + 1, hi => by
    obtain ⟨h1, h2⟩ := yrot_k q i (by omega)
    show yk _ ((yrot1 tr i (yrot tr s i)).1.2 1) ∧ ywf ((yrot1 tr i (yrot tr s i)).1.2 1)
    generalize yrot tr s i = r at h1 h2 ⊢
    unfold yrot1
    split
    · split
      · obtain ⟨g1, g2, -⟩ := yk_worked (tr := tr) h2 (show i < 20 by omega)
        exact ⟨h1.tr g1, ywf_k g1 h2 g2⟩
      · dsimp only
        split
        · exact ⟨h1, h2⟩
        · exact ⟨h1, h2⟩
    · exact ⟨h1, h2⟩
def yclear (f n : Nat) (w : Nat → Int32) : Nat → Int32 := fun j => if 16 ≤ j ∧ j < 16 + 10 * n ∧ (j - 16) % 10 = f then 0 else w j
/-- rust, tool by tool -/
def yrust1 (t : Nat) (w : Nat → Int32) : Nat → Int32 :=
  if w (16 + 10 * t + 9) = 0 ∧ 0 < w (16 + 10 * t + 3) then
    (let w1 := upd w 3 (ydrawn (w 3))
    if yrem (yushr8 (ydrawn (w 3))) 1000 < w 102 then upd w1 (16 + 10 * t + 3) (w (16 + 10 * t + 3) - 1) else w1)
  else w
def yrust (w : Nat → Int32) : Nat → Nat → Int32
  | 0 => w
  | t + 1 => yrust1 t (yrust w t)
/-- the hour's end: the next hour, and at a day's end today's hours fall -/
def yend (n : Nat) (w : Nat → Int32) : Nat → Int32 := if yrem (w 0 + 1) 8 = 0 then yclear 7 n (upd w 0 (w 0 + 1)) else upd w 0 (w 0 + 1)
def ytail (tr : Int32) (n : Nat) (w : Nat → Int32) : Nat → Int32 := yend n (if ¬ tr = 0 ∧ 0 < w 102 then yrust w n else w)
/-- the model behind an hour, and how many lines were refused -/
def yhour (tr : Int32) (s : zM) : zM × Int32 :=
  let nt := (s.2 1 96).toNatClampNeg
  let r := yrot tr (zF (zB s 1 (yclear 9 nt (s.2 1))) 30 0) (s.2 1 99).toNatClampNeg
  (zB r.1 1 (ytail tr nt (r.1.2 1)), r.2)
